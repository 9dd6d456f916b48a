set_option maxRecDepth 100000
set_option maxHeartbeats 4000000
theorem u_X1_deals {l : Launch} {G : z_G} {a0 : Nat} {a1 : Nat} {h : z_H} {Q : z_Q} (hst : l.stackTraces = false)  (hf : z_L10 h a0 ∧ z_L10 h a1 ∧ z_V l G m_X1_deals (z_Fm G m_X1_deals Q) 0 0 (h.sI a1 1 (h.I a0 1)) 18 [some (.ref a0), some (.ref a1), some (.int 0)] []) : z_Ct l G m_X1_deals [.ref a0, .ref a1] h Q := by
  refine z_Ct.of (ls := [some (.ref a0), some (.ref a1), none]) hst rfl (by show plainName yX1_deals.cls = true; decide +kernel) (z_le rfl) rfl ?_
  show z_V l G m_X1_deals (z_Fm G m_X1_deals Q) 0 0 h 0 [some (.ref a0), some (.ref a1), none] []
  refine z_aload_n (q := 1) (i := 1) (x := a1) dX1_deals_0 rfl rfl rfl ?_
  refine z_aload_n (q := 2) (i := 0) (x := a0) dX1_deals_1 rfl rfl rfl ?_
  refine z_ifnonnull (q := 9) dX1_deals_2 rfl ?_
  refine z_aload_n (q := 10) (i := 0) (x := a0) dX1_deals_9 rfl rfl rfl ?_
  obtain ⟨g_1, hf⟩ := hf
  refine z_getN 10 1 (q := 13) (v := .int (h.I a0 1)) rfl (z_lt rfl) (z_L10_T g_1) (z_nwm q486 rfl) dX1_deals_10 rfl rfl ?_
  obtain ⟨g_2, hf⟩ := hf
  refine z_putIN 10 1 (q := 16) (x := (h.I a0 1)) (v := .int (h.I a0 1)) rfl (z_lt rfl) (z_L10_T g_2) (z_nwm q486 rfl) rfl dX1_deals_13 rfl rfl rfl rfl (fun _ _ _ => rfl) ?_
  refine z_iconst (q := 17) (v := 0) dX1_deals_16 rfl rfl ?_
  refine z_istore_n (q := 18) (i := 2) (ls2 := [some (.ref a0), some (.ref a1), some (.int 0)]) (x := 0) dX1_deals_17 rfl (z_lt rfl) rfl rfl ?_
  exact hf

theorem u_X1_deals_n1 {l : Launch} {G : z_G} {a1 : Nat} {h : z_H} {Q : z_Q} (hst : l.stackTraces = false)  (hf : z_L10 h a1 ∧ z_V l G m_X1_deals (z_Fm G m_X1_deals Q) 0 0 (h.sI a1 1 0) 18 [some (.null), some (.ref a1), some (.int 0)] []) : z_Ct l G m_X1_deals [.null, .ref a1] h Q := by
  refine z_Ct.of (ls := [some (.null), some (.ref a1), none]) hst rfl (by show plainName yX1_deals.cls = true; decide +kernel) (z_le rfl) rfl ?_
  show z_V l G m_X1_deals (z_Fm G m_X1_deals Q) 0 0 h 0 [some (.null), some (.ref a1), none] []
  refine z_aload_n (q := 1) (i := 1) (x := a1) dX1_deals_0 rfl rfl rfl ?_
  refine z_aload_nN (q := 2) (i := 0) dX1_deals_1 rfl rfl rfl ?_
  refine z_ifnonnullN (q := 5) dX1_deals_2 rfl ?_
  refine z_iconst (q := 6) (v := 0) dX1_deals_5 rfl rfl ?_
  refine z_goto (q := 13) dX1_deals_6 rfl ?_
  obtain ⟨g_1, hf⟩ := hf
  refine z_putIN 10 1 (q := 16) (x := 0) (v := .int 0) rfl (z_lt rfl) (z_L10_T g_1) (z_nwm q486 rfl) rfl dX1_deals_13 rfl rfl rfl rfl (fun _ _ _ => rfl) ?_
  refine z_iconst (q := 17) (v := 0) dX1_deals_16 rfl rfl ?_
  refine z_istore_n (q := 18) (i := 2) (ls2 := [some (.null), some (.ref a1), some (.int 0)]) (x := 0) dX1_deals_17 rfl (z_lt rfl) rfl rfl ?_
  exact hf

theorem b_X1_deals_18 {l : Launch} {G : z_G} {a0 : Nat} {a1 : Nat} {x2 : Int32} {h : z_H} {Q : z_Q}  (hf : z_L10 h a1 ∧ ((h.I a1 1) ≤ x2 → Q none h) ∧ (¬ (h.I a1 1) ≤ x2 → z_L10 h a0 ∧ vp_in x2 24 ∧ vp_in x2 24 ∧ z_V l G m_X1_deals (z_Fm G m_X1_deals Q) 0 0 (h.sI (a1 + 1) (Int32.toNatClampNeg x2) (h.I (a0 + 1) (Int32.toNatClampNeg x2))) 18 [some (.ref a0), some (.ref a1), some (.int (x2 + 1))] [])) : z_V l G m_X1_deals (z_Fm G m_X1_deals Q) 0 0 h 18 [some (.ref a0), some (.ref a1), some (.int x2)] [] := by
  refine z_iload_n (q := 19) (i := 2) (x := x2) dX1_deals_18 rfl rfl rfl ?_
  refine z_aload_n (q := 20) (i := 1) (x := a1) dX1_deals_19 rfl rfl rfl ?_
  obtain ⟨g_1, hf⟩ := hf
  refine z_getN 10 1 (q := 23) (v := .int (h.I a1 1)) rfl (z_lt rfl) (z_L10_T g_1) (z_nwm q486 rfl) dX1_deals_20 rfl rfl ?_
  refine z_icmp_ge (q := 26) (tgt := 44) dX1_deals_23 rfl rfl (fun hc => ?_) (fun hc => ?_)
  · have hf := hf.1 hc
    exact z_vret dX1_deals_44 rfl hf
  · have hf := hf.2 hc
    refine z_aload_n (q := 27) (i := 1) (x := a1) dX1_deals_26 rfl rfl rfl ?_
    refine z_getN 10 0 (q := 30) (v := .ref (a1 + 1)) rfl (z_lt rfl) (z_L10_T g_1) (z_nwm q484 rfl) dX1_deals_27 rfl (z_fvR (fun _ _ _ => rfl) (z_L10_P0 g_1)) ?_
    refine z_iload_n (q := 31) (i := 2) (x := x2) dX1_deals_30 rfl rfl rfl ?_
    refine z_aload_n (q := 32) (i := 0) (x := a0) dX1_deals_31 rfl rfl rfl ?_
    obtain ⟨g_2, hf⟩ := hf
    refine z_getN 10 0 (q := 35) (v := .ref (a0 + 1)) rfl (z_lt rfl) (z_L10_T g_2) (z_nwm q484 rfl) dX1_deals_32 rfl (z_fvR (fun _ _ _ => rfl) (z_L10_P0 g_2)) ?_
    refine z_iload_n (q := 36) (i := 2) (x := x2) dX1_deals_35 rfl rfl rfl ?_
    obtain ⟨g_3, hf⟩ := hf
    refine z_iald (q := 37) (n := 24) (z_L10_A0 g_2) g_3 dX1_deals_36 rfl ?_
    obtain ⟨g_4, hf⟩ := hf
    refine z_iast (q := 38) (n := 24) (z_L10_A0 g_1) g_4 dX1_deals_37 rfl ?_
    refine z_iinc (q := 41) (i := 2) (x := x2) (v := (x2 + 1)) (ls2 := [some (.ref a0), some (.ref a1), some (.int (x2 + 1))]) dX1_deals_38 rfl rfl (z_lt rfl) rfl rfl ?_
    refine z_goto (q := 18) dX1_deals_41 rfl ?_
    exact hf

theorem b_X1_deals_18_v1 {l : Launch} {G : z_G} {a1 : Nat} {x2 : Int32} {h : z_H} {Q : z_Q}  (hf : z_L10 h a1 ∧ ((h.I a1 1) ≤ x2 → Q none h) ∧ (¬ (h.I a1 1) ≤ x2 → False)) : z_V l G m_X1_deals (z_Fm G m_X1_deals Q) 0 0 h 18 [some (.null), some (.ref a1), some (.int x2)] [] := by
  refine z_iload_n (q := 19) (i := 2) (x := x2) dX1_deals_18 rfl rfl rfl ?_
  refine z_aload_n (q := 20) (i := 1) (x := a1) dX1_deals_19 rfl rfl rfl ?_
  obtain ⟨g_1, hf⟩ := hf
  refine z_getN 10 1 (q := 23) (v := .int (h.I a1 1)) rfl (z_lt rfl) (z_L10_T g_1) (z_nwm q486 rfl) dX1_deals_20 rfl rfl ?_
  refine z_icmp_ge (q := 26) (tgt := 44) dX1_deals_23 rfl rfl (fun hc => ?_) (fun hc => ?_)
  · have hf := hf.1 hc
    exact z_vret dX1_deals_44 rfl hf
  · have hf := hf.2 hc
    exact hf.elim

theorem u_X1_deals_2 {l : Launch} {G : z_G} {a0 : Nat} {x1 : Int32} {h : z_H} {Q : z_Q} (hst : l.stackTraces = false)  (hf : z_L0 h a0 ∧ z_Ct l G m_X11_begin [.ref (a0 + 36), .int x1] h (z_Qv (fun h_2 => z_V l G m_X1_deals_2 (z_Fm G m_X1_deals_2 Q) 0 0 h_2 10 [some (.ref a0), none, some (.int 0)] []))) : z_Ct l G m_X1_deals_2 [.ref a0, .int x1] h Q := by
  refine z_Ct.of (ls := [some (.ref a0), some (.int x1), none]) hst rfl (by show plainName yX1_deals_2.cls = true; decide +kernel) (z_le rfl) rfl ?_
  show z_V l G m_X1_deals_2 (z_Fm G m_X1_deals_2 Q) 0 0 h 0 [some (.ref a0), some (.int x1), none] []
  refine z_aload_n (q := 1) (i := 0) (x := a0) dX1_deals_2_0 rfl rfl rfl ?_
  obtain ⟨g_1, hf⟩ := hf
  refine z_get 0 7 (q := 4) (v := .ref (a0 + 36)) rfl (z_lt rfl) (z_L0_T g_1) q513 dX1_deals_2_1 rfl (z_fvR (fun _ _ _ => rfl) (z_L0_P7 g_1)) ?_
  refine z_iload_n (q := 5) (i := 1) (x := x1) dX1_deals_2_4 rfl rfl rfl ?_
  refine z_cVv m_X11_begin [.int x1] ((a0 + 36)) (q := 8) (rc2 := 0) (rs2 := 0) (st := []) dX1_deals_2_5 rfl q496 oV_X11_begin rfl rfl ⟨z_le rfl, z_le rfl⟩ (z_le rfl) (z_rcv_of 9 rfl (z_L9_T (z_L0_N7 g_1)) rfl) rfl  rfl hf (fun h_2 hf => ?_)
  refine z_iconst (q := 9) (v := 0) dX1_deals_2_8 rfl rfl ?_
  refine z_istore_n (q := 10) (i := 2) (ls2 := [some (.ref a0), some (.int x1), some (.int 0)]) (x := 0) dX1_deals_2_9 rfl (z_lt rfl) rfl rfl ?_
  refine z_prune [true, false, true] (ls2 := [some (.ref a0), none, some (.int 0)]) rfl ?_
  exact hf

theorem u_X1_deals_2_n1 {l : Launch} {G : z_G} {a0 : Nat} {x1 : Int32} {h : z_H} {Q : z_Q} (hst : l.stackTraces = false)  (hf : z_L0 h a0 ∧ z_Ct l G m_X11_begin [.ref (a0 + 36), .int x1] h (z_Qv (fun h_2 => z_V l G m_X1_deals_2 (z_Fm G m_X1_deals_2 Q) 0 0 h_2 10 [some (.ref a0), none, some (.int 0)] []))) : z_Ct l G m_X1_deals_2 [.ref a0, .int x1] h Q := by
  refine z_Ct.of (ls := [some (.ref a0), some (.int x1), none]) hst rfl (by show plainName yX1_deals_2.cls = true; decide +kernel) (z_le rfl) rfl ?_
  show z_V l G m_X1_deals_2 (z_Fm G m_X1_deals_2 Q) 0 0 h 0 [some (.ref a0), some (.int x1), none] []
  refine z_aload_n (q := 1) (i := 0) (x := a0) dX1_deals_2_0 rfl rfl rfl ?_
  obtain ⟨g_1, hf⟩ := hf
  refine z_get 0 7 (q := 4) (v := .ref (a0 + 36)) rfl (z_lt rfl) (z_L0_T g_1) q513 dX1_deals_2_1 rfl (z_fvR (fun _ _ _ => rfl) (z_L0_P7 g_1)) ?_
  refine z_iload_n (q := 5) (i := 1) (x := x1) dX1_deals_2_4 rfl rfl rfl ?_
  refine z_cVv m_X11_begin [.int x1] ((a0 + 36)) (q := 8) (rc2 := 0) (rs2 := 0) (st := []) dX1_deals_2_5 rfl q496 oV_X11_begin rfl rfl ⟨z_le rfl, z_le rfl⟩ (z_le rfl) (z_rcv_of 9 rfl (z_L9_T (z_L0_N7 g_1)) rfl) rfl  rfl hf (fun h_2 hf => ?_)
  refine z_iconst (q := 9) (v := 0) dX1_deals_2_8 rfl rfl ?_
  refine z_istore_n (q := 10) (i := 2) (ls2 := [some (.ref a0), some (.int x1), some (.int 0)]) (x := 0) dX1_deals_2_9 rfl (z_lt rfl) rfl rfl ?_
  refine z_prune [true, false, true] (ls2 := [some (.ref a0), none, some (.int 0)]) rfl ?_
  exact hf

theorem b_X1_deals_2_10 {l : Launch} {G : z_G} {a0 : Nat} {x2 : Int32} {h : z_H} {Q : z_Q}  (hf : z_L0 h a0 ∧ ((h.I a0 16) ≤ x2 → Q none h) ∧ (¬ (h.I a0 16) ≤ x2 → vp_in x2 24 ∧ z_Ct l G m_X11_gets [.ref (a0 + 36), .int (if ((h.I a0 16) - ((h.I a0 16) / 2)) ≤ x2 then 1 else 0), .int (h.I (a0 + 55) (Int32.toNatClampNeg x2)), .int 0] h (z_Qv (fun h_3 => z_V l G m_X1_deals_2 (z_Fm G m_X1_deals_2 Q) 0 0 h_3 10 [some (.ref a0), none, some (.int (x2 + 1))] [])))) : z_V l G m_X1_deals_2 (z_Fm G m_X1_deals_2 Q) 0 0 h 10 [some (.ref a0), none, some (.int x2)] [] := by
  refine z_iload_n (q := 11) (i := 2) (x := x2) dX1_deals_2_10 rfl rfl rfl ?_
  refine z_aload_n (q := 12) (i := 0) (x := a0) dX1_deals_2_11 rfl rfl rfl ?_
  obtain ⟨g_1, hf⟩ := hf
  refine z_get 0 16 (q := 15) (v := .int (h.I a0 16)) rfl (z_lt rfl) (z_L0_T g_1) q522 dX1_deals_2_12 rfl rfl ?_
  refine z_icmp_ge (q := 18) (tgt := 58) dX1_deals_2_15 rfl rfl (fun hc => ?_) (fun hc => ?_)
  · have hf := hf.1 hc
    exact z_vret dX1_deals_2_58 rfl hf
  · have hf := hf.2 hc
    refine z_aload_n (q := 19) (i := 0) (x := a0) dX1_deals_2_18 rfl rfl rfl ?_
    refine z_get 0 7 (q := 22) (v := .ref (a0 + 36)) rfl (z_lt rfl) (z_L0_T g_1) q513 dX1_deals_2_19 rfl (z_fvR (fun _ _ _ => rfl) (z_L0_P7 g_1)) ?_
    refine z_iload_n (q := 23) (i := 2) (x := x2) dX1_deals_2_22 rfl rfl rfl ?_
    refine z_aload_n (q := 24) (i := 0) (x := a0) dX1_deals_2_23 rfl rfl rfl ?_
    refine z_get 0 16 (q := 27) (v := .int (h.I a0 16)) rfl (z_lt rfl) (z_L0_T g_1) q522 dX1_deals_2_24 rfl rfl ?_
    refine z_aload_n (q := 28) (i := 0) (x := a0) dX1_deals_2_27 rfl rfl rfl ?_
    refine z_get 0 16 (q := 31) (v := .int (h.I a0 16)) rfl (z_lt rfl) (z_L0_T g_1) q522 dX1_deals_2_28 rfl rfl ?_
    refine z_iconst (q := 32) (v := 2) dX1_deals_2_31 rfl rfl ?_
    refine z_idiv (q := 33) dX1_deals_2_32 (by decide) rfl ?_
    refine z_isub (q := 34) dX1_deals_2_33 rfl ?_
    have hk : z_V l G m_X1_deals_2 (z_Fm G m_X1_deals_2 Q) 0 0 h 42 [some (.ref a0), none, some (.int x2)] [.int (if ((h.I a0 16) - ((h.I a0 16) / 2)) ≤ x2 then 1 else 0), .ref (a0 + 36)] := by
      refine z_aload_n (q := 43) (i := 0) (x := a0) dX1_deals_2_42 rfl rfl rfl ?_
      refine z_get 0 15 (q := 46) (v := .ref (a0 + 55)) rfl (z_lt rfl) (z_L0_T g_1) q521 dX1_deals_2_43 rfl (z_fvR (fun _ _ _ => rfl) (z_L0_P15 g_1)) ?_
      refine z_iload_n (q := 47) (i := 2) (x := x2) dX1_deals_2_46 rfl rfl rfl ?_
      obtain ⟨g_2, hf⟩ := hf
      refine z_iald (q := 48) (n := 24) (z_L0_A15 g_1) g_2 dX1_deals_2_47 rfl ?_
      refine z_iconst (q := 49) (v := 0) dX1_deals_2_48 rfl rfl ?_
      refine z_cVv m_X11_gets [.int (if ((h.I a0 16) - ((h.I a0 16) / 2)) ≤ x2 then 1 else 0), .int (h.I (a0 + 55) (Int32.toNatClampNeg x2)), .int 0] ((a0 + 36)) (q := 52) (rc2 := 0) (rs2 := 0) (st := []) dX1_deals_2_49 rfl q1184 oV_X11_gets rfl rfl ⟨z_le rfl, z_le rfl⟩ (z_le rfl) (z_rcv_of 9 rfl (z_L9_T (z_L0_N7 g_1)) rfl) rfl  rfl hf (fun h_3 hf => ?_)
      refine z_iinc (q := 55) (i := 2) (x := x2) (v := (x2 + 1)) (ls2 := [some (.ref a0), none, some (.int (x2 + 1))]) dX1_deals_2_52 rfl rfl (z_lt rfl) rfl rfl ?_
      refine z_goto (q := 10) dX1_deals_2_55 rfl ?_
      exact hf
    refine z_icmp_ge (q := 37) (tgt := 41) dX1_deals_2_34 rfl rfl (fun hc => ?_) (fun hc => ?_)
    · have hk := (z_ite hk).1 hc
      refine z_iconst (q := 42) (v := 1) dX1_deals_2_41 rfl rfl ?_
      exact hk
    · have hk := (z_ite hk).2 hc
      refine z_iconst (q := 38) (v := 0) dX1_deals_2_37 rfl rfl ?_
      refine z_goto (q := 42) dX1_deals_2_38 rfl ?_
      exact hk

theorem u_X1_drawn {l : Launch} {G : z_G} {a0 : Nat} {x1 : Int32} {h : z_H} {Q : z_Q} (hst : l.stackTraces = false)  (hf : z_Ct l G m_X1_in [.int x1, .int 0, .int 9999] h (z_Qi (fun x_1 h_2 => (x_1 = 0 → Q (some (.int 0)) h_2) ∧ (¬ x_1 = 0 → z_L0 h_2 a0 ∧ ∃ b_4, (h_2.P a0 4) = some b_4 ∧ z_L8 h_2 b_4 ∧ z_Ct l G m_X10_cards [.ref b_4] h_2 (z_Qi (fun x_7 h_8 => (x_7 = 0 → Q (some (.int 0)) h_8) ∧ (¬ x_7 = 0 → z_L0 h_8 a0 ∧ z_Ct l G m_X1_shuffles [.ref a0] (h_8.sL a0 21 (Int32.toInt64 x1)) (z_Qv (fun h_10 => z_L0 h_10 a0 ∧ z_V l G m_X1_drawn (z_Fm G m_X1_drawn Q) 0 0 ((h_10.sI (a0 + 49) 1 0).sI (a0 + 51) 1 0) 51 [some (.ref a0), none, some (.int 0), none] []))))))))) : z_Ct l G m_X1_drawn [.ref a0, .int x1] h Q := by
  refine z_Ct.of (ls := [some (.ref a0), some (.int x1), none, none]) hst rfl (by show plainName yX1_drawn.cls = true; decide +kernel) (z_le rfl) rfl ?_
  show z_V l G m_X1_drawn (z_Fm G m_X1_drawn Q) 0 0 h 0 [some (.ref a0), some (.int x1), none, none] []
  refine z_iload_n (q := 1) (i := 1) (x := x1) dX1_drawn_0 rfl rfl rfl ?_
  refine z_iconst (q := 2) (v := 0) dX1_drawn_1 rfl rfl ?_
  refine z_sipush (q := 5) (v := 9999) dX1_drawn_2 (by decide) rfl ?_
  refine z_cSi m_X1_in [.int x1, .int 0, .int 9999] (q := 8) (rc2 := 0) (rs2 := 0) (st := []) dX1_drawn_5 rfl q1259 oS_X1_in rfl rfl ⟨z_le rfl, z_le rfl⟩ (z_le rfl) rfl  rfl hf (fun x_1 h_2 hf => ?_)
  refine z_if_eq (q := 11) (tgt := 21) dX1_drawn_8 rfl rfl (fun hc => ?_) (fun hc => ?_)
  · have hf := hf.1 hc
    refine z_iconst (q := 22) (v := 0) dX1_drawn_21 rfl rfl ?_
    exact z_zret dX1_drawn_22 rfl (z_nb01 z_b0) hf
  · have hf := hf.2 hc
    refine z_aload_n (q := 12) (i := 0) (x := a0) dX1_drawn_11 rfl rfl rfl ?_
    obtain ⟨g_3, hf⟩ := hf
    obtain ⟨b_4, g_5, hf⟩ := hf
    refine z_get 0 4 (q := 15) (v := .ref b_4) rfl (z_lt rfl) (z_L0_T g_3) q510 dX1_drawn_12 rfl (z_fvR (fun _ _ _ => rfl) g_5) ?_
    obtain ⟨g_6, hf⟩ := hf
    refine z_cVi m_X10_cards [] (b_4) (q := 18) (rc2 := 0) (rs2 := 0) (st := []) dX1_drawn_15 rfl q1621 oV_X10_cards rfl rfl ⟨z_le rfl, z_le rfl⟩ (z_le rfl) (z_rcv_of 8 rfl (z_L8_T g_6) rfl) rfl  rfl hf (fun x_7 h_8 hf => ?_)
    refine z_if_ne (q := 21) (tgt := 23) dX1_drawn_18 rfl rfl (fun hc => ?_) (fun hc => ?_)
    · have hf := hf.2 hc
      refine z_aload_n (q := 24) (i := 0) (x := a0) dX1_drawn_23 rfl rfl rfl ?_
      refine z_iload_n (q := 25) (i := 1) (x := x1) dX1_drawn_24 rfl rfl rfl ?_
      refine z_i2l (q := 26) dX1_drawn_25 rfl ?_
      obtain ⟨g_9, hf⟩ := hf
      refine z_putL 0 21 (q := 29) (x := (Int32.toInt64 x1)) (v := .long (Int32.toInt64 x1)) rfl (z_lt rfl) (z_L0_T g_9) q527 rfl dX1_drawn_26 rfl rfl rfl rfl (fun _ _ _ => rfl) ?_
      refine z_aload_n (q := 30) (i := 0) (x := a0) dX1_drawn_29 rfl rfl rfl ?_
      refine z_cVv m_X1_shuffles [] (a0) (q := 33) (rc2 := 0) (rs2 := 0) (st := []) dX1_drawn_30 rfl q1622 oV_X1_shuffles rfl rfl ⟨z_le rfl, z_le rfl⟩ (z_le rfl) (z_rcv_of 0 rfl (z_L0_T g_9) rfl) rfl  rfl hf (fun h_10 hf => ?_)
      refine z_aload_n (q := 34) (i := 0) (x := a0) dX1_drawn_33 rfl rfl rfl ?_
      obtain ⟨g_11, hf⟩ := hf
      refine z_get 0 8 (q := 37) (v := .ref (a0 + 49)) rfl (z_lt rfl) (z_L0_T g_11) q514 dX1_drawn_34 rfl (z_fvR (fun _ _ _ => rfl) (z_L0_P8 g_11)) ?_
      refine z_iconst (q := 38) (v := 0) dX1_drawn_37 rfl rfl ?_
      refine z_putIN 10 1 (q := 41) (x := 0) (v := .int 0) rfl (z_lt rfl) (z_L10_T (z_L0_N8 g_11)) (z_nwm q486 rfl) rfl dX1_drawn_38 rfl rfl rfl rfl (fun _ _ _ => rfl) ?_
      refine z_aload_n (q := 42) (i := 0) (x := a0) dX1_drawn_41 rfl rfl rfl ?_
      refine z_get 0 9 (q := 45) (v := .ref (a0 + 51)) rfl (z_lt rfl) (z_L0_T g_11) q515 dX1_drawn_42 rfl (z_fvR (fun _ _ _ => rfl) (z_L0_P9 g_11)) ?_
      refine z_iconst (q := 46) (v := 0) dX1_drawn_45 rfl rfl ?_
      refine z_putIN 10 1 (q := 49) (x := 0) (v := .int 0) rfl (z_lt rfl) (z_L10_T (z_L0_N9 g_11)) (z_nwm q486 rfl) rfl dX1_drawn_46 rfl rfl rfl rfl (fun _ _ _ => rfl) ?_
      refine z_iconst (q := 50) (v := 0) dX1_drawn_49 rfl rfl ?_
      refine z_istore_n (q := 51) (i := 2) (ls2 := [some (.ref a0), some (.int x1), some (.int 0), none]) (x := 0) dX1_drawn_50 rfl (z_lt rfl) rfl rfl ?_
      refine z_prune [true, false, true, false] (ls2 := [some (.ref a0), none, some (.int 0), none]) rfl ?_
      exact hf
    · have hf := hf.1 hc
      refine z_iconst (q := 22) (v := 0) dX1_drawn_21 rfl rfl ?_
      exact z_zret dX1_drawn_22 rfl (z_nb01 z_b0) hf

theorem b_X1_drawn_51 {l : Launch} {G : z_G} {a0 : Nat} {x2 : Int32} {h : z_H} {Q : z_Q}  (hf : z_L0 h a0 ∧ ((h.I a0 16) ≤ x2 → z_Ct l G m_X1_begins [.ref a0] (h.sI a0 12 1) (z_Qv (fun h_2 => Q (some (.int 1)) h_2))) ∧ (¬ (h.I a0 16) ≤ x2 → (((h.I a0 16) - ((h.I a0 16) / 2)) ≤ x2 → vp_in x2 24 ∧ vp_in (h.I (a0 + 51) 1) 24 ∧ z_V l G m_X1_drawn (z_Fm G m_X1_drawn Q) 0 0 ((h.sI (a0 + 51) 1 ((h.I (a0 + 51) 1) + 1)).sI (a0 + 52) (Int32.toNatClampNeg (h.I (a0 + 51) 1)) (h.I (a0 + 55) (Int32.toNatClampNeg x2))) 51 [some (.ref a0), none, some (.int (x2 + 1)), none] []) ∧ (¬ ((h.I a0 16) - ((h.I a0 16) / 2)) ≤ x2 → vp_in x2 24 ∧ vp_in (h.I (a0 + 49) 1) 24 ∧ z_V l G m_X1_drawn (z_Fm G m_X1_drawn Q) 0 0 ((h.sI (a0 + 49) 1 ((h.I (a0 + 49) 1) + 1)).sI (a0 + 50) (Int32.toNatClampNeg (h.I (a0 + 49) 1)) (h.I (a0 + 55) (Int32.toNatClampNeg x2))) 51 [some (.ref a0), none, some (.int (x2 + 1)), none] []))) : z_V l G m_X1_drawn (z_Fm G m_X1_drawn Q) 0 0 h 51 [some (.ref a0), none, some (.int x2), none] [] := by
  refine z_iload_n (q := 52) (i := 2) (x := x2) dX1_drawn_51 rfl rfl rfl ?_
  refine z_aload_n (q := 53) (i := 0) (x := a0) dX1_drawn_52 rfl rfl rfl ?_
  obtain ⟨g_1, hf⟩ := hf
  refine z_get 0 16 (q := 56) (v := .int (h.I a0 16)) rfl (z_lt rfl) (z_L0_T g_1) q522 dX1_drawn_53 rfl rfl ?_
  refine z_icmp_ge (q := 59) (tgt := 114) dX1_drawn_56 rfl rfl (fun hc => ?_) (fun hc => ?_)
  · have hf := hf.1 hc
    refine z_aload_n (q := 115) (i := 0) (x := a0) dX1_drawn_114 rfl rfl rfl ?_
    refine z_iconst (q := 116) (v := 1) dX1_drawn_115 rfl rfl ?_
    refine z_putI 0 12 (q := 119) (x := 1) (v := .int 1) rfl (z_lt rfl) (z_L0_T g_1) q518 rfl dX1_drawn_116 rfl rfl rfl rfl (fun _ _ _ => rfl) ?_
    refine z_aload_n (q := 120) (i := 0) (x := a0) dX1_drawn_119 rfl rfl rfl ?_
    refine z_cVv m_X1_begins [] (a0) (q := 123) (rc2 := 0) (rs2 := 0) (st := []) dX1_drawn_120 rfl q1176 oV_X1_begins rfl rfl ⟨z_le rfl, z_le rfl⟩ (z_le rfl) (z_rcv_of 0 rfl (z_L0_T g_1) rfl) rfl  rfl hf (fun h_2 hf => ?_)
    refine z_iconst (q := 124) (v := 1) dX1_drawn_123 rfl rfl ?_
    exact z_zret dX1_drawn_124 rfl (z_nb01 z_b1) hf
  · have hf := hf.2 hc
    refine z_iload_n (q := 60) (i := 2) (x := x2) dX1_drawn_59 rfl rfl rfl ?_
    refine z_aload_n (q := 61) (i := 0) (x := a0) dX1_drawn_60 rfl rfl rfl ?_
    refine z_get 0 16 (q := 64) (v := .int (h.I a0 16)) rfl (z_lt rfl) (z_L0_T g_1) q522 dX1_drawn_61 rfl rfl ?_
    refine z_aload_n (q := 65) (i := 0) (x := a0) dX1_drawn_64 rfl rfl rfl ?_
    refine z_get 0 16 (q := 68) (v := .int (h.I a0 16)) rfl (z_lt rfl) (z_L0_T g_1) q522 dX1_drawn_65 rfl rfl ?_
    refine z_iconst (q := 69) (v := 2) dX1_drawn_68 rfl rfl ?_
    refine z_idiv (q := 70) dX1_drawn_69 (by decide) rfl ?_
    refine z_isub (q := 71) dX1_drawn_70 rfl ?_
    refine z_icmp_ge (q := 74) (tgt := 81) dX1_drawn_71 rfl rfl (fun hc => ?_) (fun hc => ?_)
    · have hf := hf.1 hc
      refine z_aload_n (q := 82) (i := 0) (x := a0) dX1_drawn_81 rfl rfl rfl ?_
      refine z_get 0 9 (q := 85) (v := .ref (a0 + 51)) rfl (z_lt rfl) (z_L0_T g_1) q515 dX1_drawn_82 rfl (z_fvR (fun _ _ _ => rfl) (z_L0_P9 g_1)) ?_
      refine z_astore_n (q := 86) (i := 3) (ls2 := [some (.ref a0), none, some (.int x2), some (.ref (a0 + 51))]) (x := (a0 + 51)) dX1_drawn_85 rfl (z_lt rfl) rfl rfl ?_
      refine z_aload_n (q := 87) (i := 3) (x := (a0 + 51)) dX1_drawn_86 rfl rfl rfl ?_
      refine z_getN 10 0 (q := 90) (v := .ref (a0 + 52)) rfl (z_lt rfl) (z_L10_T (z_L0_N9 g_1)) (z_nwm q484 rfl) dX1_drawn_87 rfl (z_fvR (fun _ _ _ => rfl) (z_L10_P0 (z_L0_N9 g_1))) ?_
      refine z_aload_n (q := 91) (i := 3) (x := (a0 + 51)) dX1_drawn_90 rfl rfl rfl ?_
      refine z_dup (q := 92) dX1_drawn_91 rfl rfl ?_
      refine z_getN 10 1 (q := 95) (v := .int (h.I (a0 + 51) 1)) rfl (z_lt rfl) (z_L10_T (z_L0_N9 g_1)) (z_nwm q486 rfl) dX1_drawn_92 rfl rfl ?_
      refine z_dup_x1 (q := 96) dX1_drawn_95 rfl rfl rfl ?_
      refine z_iconst (q := 97) (v := 1) dX1_drawn_96 rfl rfl ?_
      refine z_iadd (q := 98) dX1_drawn_97 rfl ?_
      refine z_putIN 10 1 (q := 101) (x := ((h.I (a0 + 51) 1) + 1)) (v := .int ((h.I (a0 + 51) 1) + 1)) rfl (z_lt rfl) (z_L10_T (z_L0_N9 g_1)) (z_nwm q486 rfl) rfl dX1_drawn_98 rfl rfl rfl rfl (fun _ _ _ => rfl) ?_
      refine z_aload_n (q := 102) (i := 0) (x := a0) dX1_drawn_101 rfl rfl rfl ?_
      refine z_get 0 15 (q := 105) (v := .ref (a0 + 55)) rfl (z_lt rfl) (z_L0_T g_1) q521 dX1_drawn_102 rfl (z_fvR (fun _ _ _ => rfl) (z_L0_P15 g_1)) ?_
      refine z_iload_n (q := 106) (i := 2) (x := x2) dX1_drawn_105 rfl rfl rfl ?_
      obtain ⟨g_3, hf⟩ := hf
      refine z_iald (q := 107) (n := 24) (z_L0_A15 g_1) g_3 dX1_drawn_106 rfl ?_
      refine z_topI (z_rIa (by omega)) ?_
      obtain ⟨g_4, hf⟩ := hf
      refine z_iast (q := 108) (n := 24) (z_L10_A0 (z_L0_N9 g_1)) g_4 dX1_drawn_107 rfl ?_
      refine z_iinc (q := 111) (i := 2) (x := x2) (v := (x2 + 1)) (ls2 := [some (.ref a0), none, some (.int (x2 + 1)), some (.ref (a0 + 51))]) dX1_drawn_108 rfl rfl (z_lt rfl) rfl rfl ?_
      refine z_goto (q := 51) dX1_drawn_111 rfl ?_
      refine z_prune [true, false, true, false] (ls2 := [some (.ref a0), none, some (.int (x2 + 1)), none]) rfl ?_
      exact hf
    · have hf := hf.2 hc
      refine z_aload_n (q := 75) (i := 0) (x := a0) dX1_drawn_74 rfl rfl rfl ?_
      refine z_get 0 8 (q := 78) (v := .ref (a0 + 49)) rfl (z_lt rfl) (z_L0_T g_1) q514 dX1_drawn_75 rfl (z_fvR (fun _ _ _ => rfl) (z_L0_P8 g_1)) ?_
      refine z_goto (q := 85) dX1_drawn_78 rfl ?_
      refine z_astore_n (q := 86) (i := 3) (ls2 := [some (.ref a0), none, some (.int x2), some (.ref (a0 + 49))]) (x := (a0 + 49)) dX1_drawn_85 rfl (z_lt rfl) rfl rfl ?_
      refine z_aload_n (q := 87) (i := 3) (x := (a0 + 49)) dX1_drawn_86 rfl rfl rfl ?_
      refine z_getN 10 0 (q := 90) (v := .ref (a0 + 50)) rfl (z_lt rfl) (z_L10_T (z_L0_N8 g_1)) (z_nwm q484 rfl) dX1_drawn_87 rfl (z_fvR (fun _ _ _ => rfl) (z_L10_P0 (z_L0_N8 g_1))) ?_
      refine z_aload_n (q := 91) (i := 3) (x := (a0 + 49)) dX1_drawn_90 rfl rfl rfl ?_
      refine z_dup (q := 92) dX1_drawn_91 rfl rfl ?_
      refine z_getN 10 1 (q := 95) (v := .int (h.I (a0 + 49) 1)) rfl (z_lt rfl) (z_L10_T (z_L0_N8 g_1)) (z_nwm q486 rfl) dX1_drawn_92 rfl rfl ?_
      refine z_dup_x1 (q := 96) dX1_drawn_95 rfl rfl rfl ?_
      refine z_iconst (q := 97) (v := 1) dX1_drawn_96 rfl rfl ?_
      refine z_iadd (q := 98) dX1_drawn_97 rfl ?_
      refine z_putIN 10 1 (q := 101) (x := ((h.I (a0 + 49) 1) + 1)) (v := .int ((h.I (a0 + 49) 1) + 1)) rfl (z_lt rfl) (z_L10_T (z_L0_N8 g_1)) (z_nwm q486 rfl) rfl dX1_drawn_98 rfl rfl rfl rfl (fun _ _ _ => rfl) ?_
      refine z_aload_n (q := 102) (i := 0) (x := a0) dX1_drawn_101 rfl rfl rfl ?_
      refine z_get 0 15 (q := 105) (v := .ref (a0 + 55)) rfl (z_lt rfl) (z_L0_T g_1) q521 dX1_drawn_102 rfl (z_fvR (fun _ _ _ => rfl) (z_L0_P15 g_1)) ?_
      refine z_iload_n (q := 106) (i := 2) (x := x2) dX1_drawn_105 rfl rfl rfl ?_
      obtain ⟨g_5, hf⟩ := hf
      refine z_iald (q := 107) (n := 24) (z_L0_A15 g_1) g_5 dX1_drawn_106 rfl ?_
      refine z_topI (z_rIa (by omega)) ?_
      obtain ⟨g_6, hf⟩ := hf
      refine z_iast (q := 108) (n := 24) (z_L10_A0 (z_L0_N8 g_1)) g_6 dX1_drawn_107 rfl ?_
      refine z_iinc (q := 111) (i := 2) (x := x2) (v := (x2 + 1)) (ls2 := [some (.ref a0), none, some (.int (x2 + 1)), some (.ref (a0 + 49))]) dX1_drawn_108 rfl rfl (z_lt rfl) rfl rfl ?_
      refine z_goto (q := 51) dX1_drawn_111 rfl ?_
      refine z_prune [true, false, true, false] (ls2 := [some (.ref a0), none, some (.int (x2 + 1)), none]) rfl ?_
      exact hf

theorem u_X1_draws {l : Launch} {G : z_G} {a0 : Nat} {x1 : Int32} {h : z_H} {Q : z_Q} (hst : l.stackTraces = false)  (hf : z_L0 h a0 ∧ ¬ (Int32.toInt64 x1) = 0 ∧ Q (some (.int (Int64.toInt32 ((((((h.L a0 21) * 1103515245) + 12345) - (((h.L a0 21) * 1103515245) + 12345) / 2147483648 * 2147483648) / 65536) - (((((h.L a0 21) * 1103515245) + 12345) - (((h.L a0 21) * 1103515245) + 12345) / 2147483648 * 2147483648) / 65536) / (Int32.toInt64 x1) * (Int32.toInt64 x1))))) (h.sL a0 21 ((((h.L a0 21) * 1103515245) + 12345) - (((h.L a0 21) * 1103515245) + 12345) / 2147483648 * 2147483648))) : z_Ct l G m_X1_draws [.ref a0, .int x1] h Q := by
  refine z_Ct.of (ls := [some (.ref a0), some (.int x1)]) hst rfl (by show plainName yX1_draws.cls = true; decide +kernel) (z_le rfl) rfl ?_
  show z_V l G m_X1_draws (z_Fm G m_X1_draws Q) 0 0 h 0 [some (.ref a0), some (.int x1)] []
  refine z_aload_n (q := 1) (i := 0) (x := a0) dX1_draws_0 rfl rfl rfl ?_
  refine z_aload_n (q := 2) (i := 0) (x := a0) dX1_draws_1 rfl rfl rfl ?_
  obtain ⟨g_1, hf⟩ := hf
  refine z_get 0 21 (q := 5) (v := .long (h.L a0 21)) rfl (z_lt rfl) (z_L0_T g_1) q527 dX1_draws_2 rfl rfl ?_
  refine z_ldc2 (q := 8) (v := 1103515245) dX1_draws_5 q1630 rfl ?_
  refine z_lmul (q := 9) dX1_draws_8 rfl ?_
  refine z_ldc2 (q := 12) (v := 12345) dX1_draws_9 q1631 rfl ?_
  refine z_ladd (q := 13) dX1_draws_12 rfl ?_
  refine z_ldc2 (q := 16) (v := 2147483648) dX1_draws_13 q1632 rfl ?_
  refine z_lrem (q := 17) dX1_draws_16 (by decide) rfl ?_
  refine z_putL 0 21 (q := 20) (x := ((((h.L a0 21) * 1103515245) + 12345) - (((h.L a0 21) * 1103515245) + 12345) / 2147483648 * 2147483648)) (v := .long ((((h.L a0 21) * 1103515245) + 12345) - (((h.L a0 21) * 1103515245) + 12345) / 2147483648 * 2147483648)) rfl (z_lt rfl) (z_L0_T g_1) q527 rfl dX1_draws_17 rfl rfl rfl rfl (fun _ _ _ => rfl) ?_
  refine z_aload_n (q := 21) (i := 0) (x := a0) dX1_draws_20 rfl rfl rfl ?_
  refine z_get 0 21 (q := 24) (v := .long ((((h.L a0 21) * 1103515245) + 12345) - (((h.L a0 21) * 1103515245) + 12345) / 2147483648 * 2147483648)) rfl (z_lt rfl) (z_L0_T g_1) q527 dX1_draws_21 rfl (congrArg Value.long z_rLs) ?_
  refine z_ldc2 (q := 27) (v := 65536) dX1_draws_24 q1633 rfl ?_
  refine z_ldiv (q := 28) dX1_draws_27 (by decide) rfl ?_
  refine z_iload_n (q := 29) (i := 1) (x := x1) dX1_draws_28 rfl rfl rfl ?_
  refine z_i2l (q := 30) dX1_draws_29 rfl ?_
  obtain ⟨g_2, hf⟩ := hf
  refine z_lrem (q := 31) dX1_draws_30 g_2 rfl ?_
  refine z_l2i (q := 32) dX1_draws_31 rfl ?_
  exact z_iret dX1_draws_32 rfl hf

theorem u_X1_ends {l : Launch} {G : z_G} {a0 : Nat} {x1 : Int32} {h : z_H} {Q : z_Q} (hst : l.stackTraces = false)  (hf : z_Ct l G m_X1_in [.int x1, .int 0, .int 3] h (z_Qi (fun x_1 h_2 => (x_1 = 0 → Q (some (.int (-1))) h_2) ∧ (¬ x_1 = 0 → z_L0 h_2 a0 ∧ z_Ct l G m_X1_tries [.ref a0] h_2 (z_Qv (fun h_4 => z_L0 h_4 a0 ∧ Q (some (.int (if x1 = 0 then (h_4.I (a0 + 9) 7) else (if x1 = 1 then (h_4.I (a0 + 9) 8) else (if x1 = 2 then (h_4.I (a0 + 9) 9) else (h_4.I (a0 + 9) 10)))))) h_4)))))) : z_Ct l G m_X1_ends [.ref a0, .int x1] h Q := by
  refine z_Ct.of (ls := [some (.ref a0), some (.int x1)]) hst rfl (by show plainName yX1_ends.cls = true; decide +kernel) (z_le rfl) rfl ?_
  show z_V l G m_X1_ends (z_Fm G m_X1_ends Q) 0 0 h 0 [some (.ref a0), some (.int x1)] []
  refine z_iload_n (q := 1) (i := 1) (x := x1) dX1_ends_0 rfl rfl rfl ?_
  refine z_iconst (q := 2) (v := 0) dX1_ends_1 rfl rfl ?_
  refine z_iconst (q := 3) (v := 3) dX1_ends_2 rfl rfl ?_
  refine z_cSi m_X1_in [.int x1, .int 0, .int 3] (q := 6) (rc2 := 0) (rs2 := 0) (st := []) dX1_ends_3 rfl q1259 oS_X1_in rfl rfl ⟨z_le rfl, z_le rfl⟩ (z_le rfl) rfl  rfl hf (fun x_1 h_2 hf => ?_)
  refine z_if_ne (q := 9) (tgt := 11) dX1_ends_6 rfl rfl (fun hc => ?_) (fun hc => ?_)
  · have hf := hf.2 hc
    refine z_aload_n (q := 12) (i := 0) (x := a0) dX1_ends_11 rfl rfl rfl ?_
    obtain ⟨g_3, hf⟩ := hf
    refine z_cVv m_X1_tries [] (a0) (q := 15) (rc2 := 0) (rs2 := 0) (st := []) dX1_ends_12 rfl q1410 oV_X1_tries rfl rfl ⟨z_le rfl, z_le rfl⟩ (z_le rfl) (z_rcv_of 0 rfl (z_L0_T g_3) rfl) rfl  rfl hf (fun h_4 hf => ?_)
    refine z_iload_n (q := 16) (i := 1) (x := x1) dX1_ends_15 rfl rfl rfl ?_
    obtain ⟨g_5, hf⟩ := hf
    have hk : z_V l G m_X1_ends (z_Fm G m_X1_ends Q) 0 0 h_4 66 [some (.ref a0), some (.int x1)] [.int (if x1 = 0 then (h_4.I (a0 + 9) 7) else (if x1 = 1 then (h_4.I (a0 + 9) 8) else (if x1 = 2 then (h_4.I (a0 + 9) 9) else (h_4.I (a0 + 9) 10))))] := by
      exact z_iret dX1_ends_66 rfl hf
    refine z_if_ne (q := 19) (tgt := 29) dX1_ends_16 rfl rfl (fun hc => ?_) (fun hc => ?_)
    · have hk := (z_ite hk).2 hc
      refine z_iload_n (q := 30) (i := 1) (x := x1) dX1_ends_29 rfl rfl rfl ?_
      refine z_iconst (q := 31) (v := 1) dX1_ends_30 rfl rfl ?_
      refine z_icmp_ne (q := 34) (tgt := 44) dX1_ends_31 rfl rfl (fun hc => ?_) (fun hc => ?_)
      · have hk := (z_ite hk).2 hc
        refine z_iload_n (q := 45) (i := 1) (x := x1) dX1_ends_44 rfl rfl rfl ?_
        refine z_iconst (q := 46) (v := 2) dX1_ends_45 rfl rfl ?_
        refine z_icmp_ne (q := 49) (tgt := 59) dX1_ends_46 rfl rfl (fun hc => ?_) (fun hc => ?_)
        · have hk := (z_ite hk).2 hc
          refine z_aload_n (q := 60) (i := 0) (x := a0) dX1_ends_59 rfl rfl rfl ?_
          refine z_get 0 3 (q := 63) (v := .ref (a0 + 9)) rfl (z_lt rfl) (z_L0_T g_5) q508 dX1_ends_60 rfl (z_fvR (fun _ _ _ => rfl) (z_L0_P3 g_5)) ?_
          refine z_getN 7 10 (q := 66) (v := .int (h_4.I (a0 + 9) 10)) rfl (z_lt rfl) (z_L7_T (z_L0_N3 g_5)) (z_nwm q267 rfl) dX1_ends_63 rfl rfl ?_
          exact hk
        · have hk := (z_ite hk).1 hc
          refine z_aload_n (q := 50) (i := 0) (x := a0) dX1_ends_49 rfl rfl rfl ?_
          refine z_get 0 3 (q := 53) (v := .ref (a0 + 9)) rfl (z_lt rfl) (z_L0_T g_5) q508 dX1_ends_50 rfl (z_fvR (fun _ _ _ => rfl) (z_L0_P3 g_5)) ?_
          refine z_getN 7 9 (q := 56) (v := .int (h_4.I (a0 + 9) 9)) rfl (z_lt rfl) (z_L7_T (z_L0_N3 g_5)) (z_nwm q265 rfl) dX1_ends_53 rfl rfl ?_
          refine z_goto (q := 66) dX1_ends_56 rfl ?_
          exact hk
      · have hk := (z_ite hk).1 hc
        refine z_aload_n (q := 35) (i := 0) (x := a0) dX1_ends_34 rfl rfl rfl ?_
        refine z_get 0 3 (q := 38) (v := .ref (a0 + 9)) rfl (z_lt rfl) (z_L0_T g_5) q508 dX1_ends_35 rfl (z_fvR (fun _ _ _ => rfl) (z_L0_P3 g_5)) ?_
        refine z_getN 7 8 (q := 41) (v := .int (h_4.I (a0 + 9) 8)) rfl (z_lt rfl) (z_L7_T (z_L0_N3 g_5)) (z_nwm q263 rfl) dX1_ends_38 rfl rfl ?_
        refine z_goto (q := 66) dX1_ends_41 rfl ?_
        exact hk
    · have hk := (z_ite hk).1 hc
      refine z_aload_n (q := 20) (i := 0) (x := a0) dX1_ends_19 rfl rfl rfl ?_
      refine z_get 0 3 (q := 23) (v := .ref (a0 + 9)) rfl (z_lt rfl) (z_L0_T g_5) q508 dX1_ends_20 rfl (z_fvR (fun _ _ _ => rfl) (z_L0_P3 g_5)) ?_
      refine z_getN 7 7 (q := 26) (v := .int (h_4.I (a0 + 9) 7)) rfl (z_lt rfl) (z_L7_T (z_L0_N3 g_5)) (z_nwm q261 rfl) dX1_ends_23 rfl rfl ?_
      refine z_goto (q := 66) dX1_ends_26 rfl ?_
      exact hk
  · have hf := hf.1 hc
    refine z_iconst (q := 10) (v := (-1)) dX1_ends_9 rfl rfl ?_
    exact z_iret dX1_ends_10 rfl hf

theorem u_X1_feed {l : Launch} {G : z_G} {a0 : Nat} {y1 : Int64} {y3 : Int64} {y5 : Int64} {h : z_H} {Q : z_Q} (hst : l.stackTraces = false)  (hf : z_V l G m_X1_feed (z_Fm G m_X1_feed Q) 0 0 h 3 [some (.ref a0), some (.long y1), none, some (.long y3), none, some (.long y5), none, some (.int 0), none] []) : z_Ct l G m_X1_feed [.ref a0, .long y1, .long y3, .long y5] h Q := by
  refine z_Ct.of (ls := [some (.ref a0), some (.long y1), none, some (.long y3), none, some (.long y5), none, none, none]) hst rfl (by show plainName yX1_feed.cls = true; decide +kernel) (z_le rfl) rfl ?_
  show z_V l G m_X1_feed (z_Fm G m_X1_feed Q) 0 0 h 0 [some (.ref a0), some (.long y1), none, some (.long y3), none, some (.long y5), none, none, none] []
  refine z_iconst (q := 1) (v := 0) dX1_feed_0 rfl rfl ?_
  refine z_istore (q := 3) (i := 7) (ls2 := [some (.ref a0), some (.long y1), none, some (.long y3), none, some (.long y5), none, some (.int 0), none]) (x := 0) dX1_feed_1 (z_lt rfl) rfl rfl ?_
  exact hf

theorem b_X1_feed_3 {l : Launch} {G : z_G} {a0 : Nat} {y1 : Int64} {y3 : Int64} {y5 : Int64} {x7 : Int32} {h : z_H} {Q : z_Q}  (hf : (24 ≤ x7 → z_L0 h a0 ∧ Q (some (.int (h.I a0 11))) h) ∧ (¬ 24 ≤ x7 → (8 ≤ x7 → (16 ≤ x7 → z_V l G m_X1_feed (z_Fm G m_X1_feed Q) 0 0 h 34 [some (.ref a0), some (.long y1), none, some (.long y3), none, some (.long y5), none, some (.int x7), none] [.long y5]) ∧ (¬ 16 ≤ x7 → z_V l G m_X1_feed (z_Fm G m_X1_feed Q) 0 0 h 34 [some (.ref a0), some (.long y1), none, some (.long y3), none, some (.long y5), none, some (.int x7), none] [.long y3])) ∧ (¬ 8 ≤ x7 → z_V l G m_X1_feed (z_Fm G m_X1_feed Q) 0 0 h 34 [some (.ref a0), some (.long y1), none, some (.long y3), none, some (.long y5), none, some (.int x7), none] [.long y1]))) : z_V l G m_X1_feed (z_Fm G m_X1_feed Q) 0 0 h 3 [some (.ref a0), some (.long y1), none, some (.long y3), none, some (.long y5), none, some (.int x7), none] [] := by
  refine z_iload (q := 5) (i := 7) (x := x7) dX1_feed_3 rfl rfl ?_
  refine z_bipush (q := 7) (v := 24) dX1_feed_5 (by decide) rfl ?_
  refine z_icmp_ge (q := 10) (tgt := 109) dX1_feed_7 rfl rfl (fun hc => ?_) (fun hc => ?_)
  · have hf := hf.1 hc
    refine z_aload_n (q := 110) (i := 0) (x := a0) dX1_feed_109 rfl rfl rfl ?_
    obtain ⟨g_1, hf⟩ := hf
    refine z_get 0 11 (q := 113) (v := .int (h.I a0 11)) rfl (z_lt rfl) (z_L0_T g_1) q517 dX1_feed_110 rfl rfl ?_
    exact z_iret dX1_feed_113 rfl hf
  · have hf := hf.2 hc
    refine z_iload (q := 12) (i := 7) (x := x7) dX1_feed_10 rfl rfl ?_
    refine z_bipush (q := 14) (v := 8) dX1_feed_12 (by decide) rfl ?_
    refine z_icmp_ge (q := 17) (tgt := 21) dX1_feed_14 rfl rfl (fun hc => ?_) (fun hc => ?_)
    · have hf := hf.1 hc
      refine z_iload (q := 23) (i := 7) (x := x7) dX1_feed_21 rfl rfl ?_
      refine z_bipush (q := 25) (v := 16) dX1_feed_23 (by decide) rfl ?_
      refine z_icmp_ge (q := 28) (tgt := 32) dX1_feed_25 rfl rfl (fun hc => ?_) (fun hc => ?_)
      · have hf := hf.1 hc
        refine z_lload (q := 34) (i := 5) (x := y5) dX1_feed_32 rfl rfl ?_
        exact hf
      · have hf := hf.2 hc
        refine z_lload_n (q := 29) (i := 3) (x := y3) dX1_feed_28 rfl rfl rfl ?_
        refine z_goto (q := 34) dX1_feed_29 rfl ?_
        exact hf
    · have hf := hf.2 hc
      refine z_lload_n (q := 18) (i := 1) (x := y1) dX1_feed_17 rfl rfl rfl ?_
      refine z_goto (q := 34) dX1_feed_18 rfl ?_
      exact hf

theorem b_X1_feed_34 {l : Launch} {G : z_G} {a0 : Nat} {y1 : Int64} {y3 : Int64} {y5 : Int64} {x7 : Int32} {s0 : Int64} {h : z_H} {Q : z_Q}  (hf : ∀ v_1 : Int32, v_1 = ((Int64.toInt32 (s0 >>> (Int32.toInt64 (56 - (8 * (x7 - x7 / 8 * 8))) &&& 63))) &&& 255) → (v_1 = 10 → z_V l G m_X1_feed (z_Fm G m_X1_feed Q) 0 0 h 74 [some (.ref a0), some (.long y1), none, some (.long y3), none, some (.long y5), none, some (.int x7), some (.int v_1)] []) ∧ (¬ v_1 = 10 → (v_1 < 32 → z_V l G m_X1_feed (z_Fm G m_X1_feed Q) 0 0 h 3 [some (.ref a0), some (.long y1), none, some (.long y3), none, some (.long y5), none, some (.int (x7 + 1)), none] []) ∧ (¬ v_1 < 32 → (126 < v_1 → z_V l G m_X1_feed (z_Fm G m_X1_feed Q) 0 0 h 3 [some (.ref a0), some (.long y1), none, some (.long y3), none, some (.long y5), none, some (.int (x7 + 1)), none] []) ∧ (¬ 126 < v_1 → z_V l G m_X1_feed (z_Fm G m_X1_feed Q) 0 0 h 74 [some (.ref a0), some (.long y1), none, some (.long y3), none, some (.long y5), none, some (.int x7), some (.int v_1)] [])))) : z_V l G m_X1_feed (z_Fm G m_X1_feed Q) 0 0 h 34 [some (.ref a0), some (.long y1), none, some (.long y3), none, some (.long y5), none, some (.int x7), none] [.long s0] := by
  refine z_bipush (q := 36) (v := 56) dX1_feed_34 (by decide) rfl ?_
  refine z_bipush (q := 38) (v := 8) dX1_feed_36 (by decide) rfl ?_
  refine z_iload (q := 40) (i := 7) (x := x7) dX1_feed_38 rfl rfl ?_
  refine z_bipush (q := 42) (v := 8) dX1_feed_40 (by decide) rfl ?_
  refine z_irem (q := 43) dX1_feed_42 (by decide) rfl ?_
  refine z_imul (q := 44) dX1_feed_43 rfl ?_
  refine z_isub (q := 45) dX1_feed_44 rfl ?_
  refine z_lshr (q := 46) dX1_feed_45 rfl ?_
  refine z_l2i (q := 47) dX1_feed_46 rfl ?_
  refine z_sipush (q := 50) (v := 255) dX1_feed_47 (by decide) rfl ?_
  refine z_iand (q := 51) dX1_feed_50 rfl ?_
  refine z_nmI (fun v_1 hv_2 => ?_)
  have hf := hf v_1 hv_2
  refine z_istore (q := 53) (i := 8) (ls2 := [some (.ref a0), some (.long y1), none, some (.long y3), none, some (.long y5), none, some (.int x7), some (.int v_1)]) (x := v_1) dX1_feed_51 (z_lt rfl) rfl rfl ?_
  refine z_iload (q := 55) (i := 8) (x := v_1) dX1_feed_53 rfl rfl ?_
  refine z_bipush (q := 57) (v := 10) dX1_feed_55 (by decide) rfl ?_
  refine z_icmp_eq (q := 60) (tgt := 74) dX1_feed_57 rfl rfl (fun hc => ?_) (fun hc => ?_)
  · have hf := hf.1 hc
    exact hf
  · have hf := hf.2 hc
    refine z_iload (q := 62) (i := 8) (x := v_1) dX1_feed_60 rfl rfl ?_
    refine z_bipush (q := 64) (v := 32) dX1_feed_62 (by decide) rfl ?_
    refine z_icmp_lt (q := 67) (tgt := 103) dX1_feed_64 rfl rfl (fun hc => ?_) (fun hc => ?_)
    · have hf := hf.1 hc
      refine z_iinc (q := 106) (i := 7) (x := x7) (v := (x7 + 1)) (ls2 := [some (.ref a0), some (.long y1), none, some (.long y3), none, some (.long y5), none, some (.int (x7 + 1)), some (.int v_1)]) dX1_feed_103 rfl rfl (z_lt rfl) rfl rfl ?_
      refine z_goto (q := 3) dX1_feed_106 rfl ?_
      refine z_prune [true, true, false, true, false, true, false, true, false] (ls2 := [some (.ref a0), some (.long y1), none, some (.long y3), none, some (.long y5), none, some (.int (x7 + 1)), none]) rfl ?_
      exact hf
    · have hf := hf.2 hc
      refine z_iload (q := 69) (i := 8) (x := v_1) dX1_feed_67 rfl rfl ?_
      refine z_bipush (q := 71) (v := 126) dX1_feed_69 (by decide) rfl ?_
      refine z_icmp_gt (q := 74) (tgt := 103) dX1_feed_71 rfl rfl (fun hc => ?_) (fun hc => ?_)
      · have hf := hf.1 hc
        refine z_iinc (q := 106) (i := 7) (x := x7) (v := (x7 + 1)) (ls2 := [some (.ref a0), some (.long y1), none, some (.long y3), none, some (.long y5), none, some (.int (x7 + 1)), some (.int v_1)]) dX1_feed_103 rfl rfl (z_lt rfl) rfl rfl ?_
        refine z_goto (q := 3) dX1_feed_106 rfl ?_
        refine z_prune [true, true, false, true, false, true, false, true, false] (ls2 := [some (.ref a0), some (.long y1), none, some (.long y3), none, some (.long y5), none, some (.int (x7 + 1)), none]) rfl ?_
        exact hf
      · have hf := hf.2 hc
        exact hf

theorem b_X1_feed_74 {l : Launch} {G : z_G} {a0 : Nat} {y1 : Int64} {y3 : Int64} {y5 : Int64} {x7 : Int32} {x8 : Int32} {h : z_H} {Q : z_Q}  (hf : z_L0 h a0 ∧ (1000 ≤ (h.I a0 11) → z_V l G m_X1_feed (z_Fm G m_X1_feed Q) 0 0 h 3 [some (.ref a0), some (.long y1), none, some (.long y3), none, some (.long y5), none, some (.int (x7 + 1)), none] []) ∧ (¬ 1000 ≤ (h.I a0 11) → vp_in (h.I a0 11) 1000 ∧ z_V l G m_X1_feed (z_Fm G m_X1_feed Q) 0 0 ((h.sI a0 11 ((h.I a0 11) + 1)).sI (a0 + 1) (Int32.toNatClampNeg (h.I a0 11)) ((Int32.toInt8 x8).toInt32)) 3 [some (.ref a0), some (.long y1), none, some (.long y3), none, some (.long y5), none, some (.int (x7 + 1)), none] [])) : z_V l G m_X1_feed (z_Fm G m_X1_feed Q) 0 0 h 74 [some (.ref a0), some (.long y1), none, some (.long y3), none, some (.long y5), none, some (.int x7), some (.int x8)] [] := by
  refine z_aload_n (q := 75) (i := 0) (x := a0) dX1_feed_74 rfl rfl rfl ?_
  obtain ⟨g_1, hf⟩ := hf
  refine z_get 0 11 (q := 78) (v := .int (h.I a0 11)) rfl (z_lt rfl) (z_L0_T g_1) q517 dX1_feed_75 rfl rfl ?_
  refine z_sipush (q := 81) (v := 1000) dX1_feed_78 (by decide) rfl ?_
  refine z_icmp_ge (q := 84) (tgt := 103) dX1_feed_81 rfl rfl (fun hc => ?_) (fun hc => ?_)
  · have hf := hf.1 hc
    refine z_iinc (q := 106) (i := 7) (x := x7) (v := (x7 + 1)) (ls2 := [some (.ref a0), some (.long y1), none, some (.long y3), none, some (.long y5), none, some (.int (x7 + 1)), some (.int x8)]) dX1_feed_103 rfl rfl (z_lt rfl) rfl rfl ?_
    refine z_goto (q := 3) dX1_feed_106 rfl ?_
    refine z_prune [true, true, false, true, false, true, false, true, false] (ls2 := [some (.ref a0), some (.long y1), none, some (.long y3), none, some (.long y5), none, some (.int (x7 + 1)), none]) rfl ?_
    exact hf
  · have hf := hf.2 hc
    refine z_aload_n (q := 85) (i := 0) (x := a0) dX1_feed_84 rfl rfl rfl ?_
    refine z_get 0 0 (q := 88) (v := .ref (a0 + 1)) rfl (z_lt rfl) (z_L0_T g_1) q504 dX1_feed_85 rfl (z_fvR (fun _ _ _ => rfl) (z_L0_P0 g_1)) ?_
    refine z_aload_n (q := 89) (i := 0) (x := a0) dX1_feed_88 rfl rfl rfl ?_
    refine z_dup (q := 90) dX1_feed_89 rfl rfl ?_
    refine z_get 0 11 (q := 93) (v := .int (h.I a0 11)) rfl (z_lt rfl) (z_L0_T g_1) q517 dX1_feed_90 rfl rfl ?_
    refine z_dup_x1 (q := 94) dX1_feed_93 rfl rfl rfl ?_
    refine z_iconst (q := 95) (v := 1) dX1_feed_94 rfl rfl ?_
    refine z_iadd (q := 96) dX1_feed_95 rfl ?_
    refine z_putI 0 11 (q := 99) (x := ((h.I a0 11) + 1)) (v := .int ((h.I a0 11) + 1)) rfl (z_lt rfl) (z_L0_T g_1) q517 rfl dX1_feed_96 rfl rfl rfl rfl (fun _ _ _ => rfl) ?_
    refine z_iload (q := 101) (i := 8) (x := x8) dX1_feed_99 rfl rfl ?_
    refine z_i2b (q := 102) dX1_feed_101 rfl ?_
    obtain ⟨g_2, hf⟩ := hf
    refine z_bast (q := 103) (n := 1000) (y := (Int32.toInt8 x8).toInt32) (z_L0_A0 g_1) g_2 (pk_nb _) dX1_feed_102 rfl ?_
    refine z_iinc (q := 106) (i := 7) (x := x7) (v := (x7 + 1)) (ls2 := [some (.ref a0), some (.long y1), none, some (.long y3), none, some (.long y5), none, some (.int (x7 + 1)), some (.int x8)]) dX1_feed_103 rfl rfl (z_lt rfl) rfl rfl ?_
    refine z_goto (q := 3) dX1_feed_106 rfl ?_
    refine z_prune [true, true, false, true, false, true, false, true, false] (ls2 := [some (.ref a0), some (.long y1), none, some (.long y3), none, some (.long y5), none, some (.int (x7 + 1)), none]) rfl ?_
    exact hf

theorem u_X1_firstRow {l : Launch} {G : z_G} {a0 : Nat} {h : z_H} {Q : z_Q} (hst : l.stackTraces = false)  (hf : z_L0 h a0 ∧ z_V l G m_X1_firstRow (z_Fm G m_X1_firstRow Q) 1 8 (h.sI a0 16 0) 7 [some (.ref a0), some (.int 0), none] []) : z_Ct l G m_X1_firstRow [.ref a0] h Q := by
  refine z_Ct.of (ls := [some (.ref a0), none, none]) hst rfl (by show plainName yX1_firstRow.cls = true; decide +kernel) (z_le rfl) rfl ?_
  show z_V l G m_X1_firstRow (z_Fm G m_X1_firstRow Q) 1 8 h 0 [some (.ref a0), none, none] []
  refine z_aload_n (q := 1) (i := 0) (x := a0) dX1_firstRow_0 rfl rfl rfl ?_
  refine z_iconst (q := 2) (v := 0) dX1_firstRow_1 rfl rfl ?_
  obtain ⟨g_1, hf⟩ := hf
  refine z_putI 0 16 (q := 5) (x := 0) (v := .int 0) rfl (z_lt rfl) (z_L0_T g_1) q522 rfl dX1_firstRow_2 rfl rfl rfl rfl (fun _ _ _ => rfl) ?_
  refine z_iconst (q := 6) (v := 0) dX1_firstRow_5 rfl rfl ?_
  refine z_istore_n (q := 7) (i := 1) (ls2 := [some (.ref a0), some (.int 0), none]) (x := 0) dX1_firstRow_6 rfl (z_lt rfl) rfl rfl ?_
  exact hf

theorem b_X1_firstRow_7 {l : Launch} {G : z_G} {rc rs : Nat} {a0 : Nat} {x1 : Int32} {h : z_H} {Q : z_Q}  (hf : z_L0 h a0 ∧ z_Ct l G m_X1_kinds [.ref a0] h (z_Qi (fun x_2 h_3 => (x_2 ≤ x1 → z_L0 h_3 a0 ∧ ((h_3.I a0 16) ≤ 0 → Q (some (.int 0)) h_3) ∧ (¬ (h_3.I a0 16) ≤ 0 → (10 < (h_3.I a0 16) → Q (some (.int 0)) h_3) ∧ (¬ 10 < (h_3.I a0 16) → ∃ rc_5, rc = rc_5 + 1 ∧ ∃ rs_7, rs = rs_7 + 8 ∧ z_Ct l G m_X1_rows [.ref a0] h_3 (z_Qi (fun x_9 h_10 => Q (some (.int (if 20000 < x_9 then 0 else 1))) h_10))))) ∧ (¬ x_2 ≤ x1 → z_V l G m_X1_firstRow (z_Fm G m_X1_firstRow Q) rc rs h_3 17 [some (.ref a0), some (.int x1), some (.int 0)] [])))) : z_V l G m_X1_firstRow (z_Fm G m_X1_firstRow Q) rc rs h 7 [some (.ref a0), some (.int x1), none] [] := by
  refine z_iload_n (q := 8) (i := 1) (x := x1) dX1_firstRow_7 rfl rfl rfl ?_
  refine z_aload_n (q := 9) (i := 0) (x := a0) dX1_firstRow_8 rfl rfl rfl ?_
  obtain ⟨g_1, hf⟩ := hf
  refine z_cVi m_X1_kinds [] (a0) (q := 12) (rc2 := rc) (rs2 := rs) (st := [.int x1]) dX1_firstRow_9 rfl q1254 oV_X1_kinds rfl rfl ⟨z_le rfl, z_le rfl⟩ (z_le rfl) (z_rcv_of 0 rfl (z_L0_T g_1) rfl) rfl  rfl hf (fun x_2 h_3 hf => ?_)
  refine z_icmp_ge (q := 15) (tgt := 59) dX1_firstRow_12 rfl rfl (fun hc => ?_) (fun hc => ?_)
  · have hf := hf.1 hc
    refine z_aload_n (q := 60) (i := 0) (x := a0) dX1_firstRow_59 rfl rfl rfl ?_
    obtain ⟨g_4, hf⟩ := hf
    refine z_get 0 16 (q := 63) (v := .int (h_3.I a0 16)) rfl (z_lt rfl) (z_L0_T g_4) q522 dX1_firstRow_60 rfl rfl ?_
    refine z_if_le (q := 66) (tgt := 89) dX1_firstRow_63 rfl rfl (fun hc => ?_) (fun hc => ?_)
    · have hf := hf.1 hc
      refine z_iconst (q := 90) (v := 0) dX1_firstRow_89 rfl rfl ?_
      exact z_zret dX1_firstRow_90 rfl (z_nb01 z_b0) hf
    · have hf := hf.2 hc
      refine z_aload_n (q := 67) (i := 0) (x := a0) dX1_firstRow_66 rfl rfl rfl ?_
      refine z_get 0 16 (q := 70) (v := .int (h_3.I a0 16)) rfl (z_lt rfl) (z_L0_T g_4) q522 dX1_firstRow_67 rfl rfl ?_
      refine z_bipush (q := 72) (v := 10) dX1_firstRow_70 (by decide) rfl ?_
      refine z_icmp_gt (q := 75) (tgt := 89) dX1_firstRow_72 rfl rfl (fun hc => ?_) (fun hc => ?_)
      · have hf := hf.1 hc
        refine z_iconst (q := 90) (v := 0) dX1_firstRow_89 rfl rfl ?_
        exact z_zret dX1_firstRow_90 rfl (z_nb01 z_b0) hf
      · have hf := hf.2 hc
        refine z_aload_n (q := 76) (i := 0) (x := a0) dX1_firstRow_75 rfl rfl rfl ?_
        obtain ⟨rc_5, g_6, hf⟩ := hf
        obtain ⟨rs_7, g_8, hf⟩ := hf
        refine z_cVi m_X1_rows [] (a0) (q := 79) (rc2 := rc_5) (rs2 := rs_7) (st := []) dX1_firstRow_76 rfl q1453 oV_X1_rows rfl rfl ⟨z_le rfl, z_le rfl⟩ (z_le rfl) (z_rcv_of 0 rfl (z_L0_T g_4) rfl) g_6  g_8 hf (fun x_9 h_10 hf => ?_)
        refine z_sipush (q := 82) (v := 20000) dX1_firstRow_79 (by decide) rfl ?_
        have hk : z_V l G m_X1_firstRow (z_Fm G m_X1_firstRow Q) rc_5 rs_7 h_10 90 [some (.ref a0), some (.int x1), none] [.int (if 20000 < x_9 then 0 else 1)] := by
          exact z_zret dX1_firstRow_90 rfl (z_nb01 (z_bif z_b0 z_b1)) hf
        refine z_icmp_gt (q := 85) (tgt := 89) dX1_firstRow_82 rfl rfl (fun hc => ?_) (fun hc => ?_)
        · have hk := (z_ite hk).1 hc
          refine z_iconst (q := 90) (v := 0) dX1_firstRow_89 rfl rfl ?_
          exact hk
        · have hk := (z_ite hk).2 hc
          refine z_iconst (q := 86) (v := 1) dX1_firstRow_85 rfl rfl ?_
          refine z_goto (q := 90) dX1_firstRow_86 rfl ?_
          exact hk
  · have hf := hf.2 hc
    refine z_iconst (q := 16) (v := 0) dX1_firstRow_15 rfl rfl ?_
    refine z_istore_n (q := 17) (i := 2) (ls2 := [some (.ref a0), some (.int x1), some (.int 0)]) (x := 0) dX1_firstRow_16 rfl (z_lt rfl) rfl rfl ?_
    exact hf

theorem b_X1_firstRow_17 {l : Launch} {G : z_G} {rc rs : Nat} {a0 : Nat} {x1 : Int32} {x2 : Int32} {h : z_H} {Q : z_Q}  (hf : z_L0 h a0 ∧ ∃ b_2, (h.P a0 4) = some b_2 ∧ z_L8 h b_2 ∧ vp_in x1 8 ∧ ((h.I (b_2 + 4) (Int32.toNatClampNeg x1)) ≤ x2 → z_V l G m_X1_firstRow (z_Fm G m_X1_firstRow Q) rc rs h 7 [some (.ref a0), some (.int (x1 + 1)), none] []) ∧ (¬ (h.I (b_2 + 4) (Int32.toNatClampNeg x1)) ≤ x2 → vp_in (h.I a0 16) 24 ∧ z_V l G m_X1_firstRow (z_Fm G m_X1_firstRow Q) rc rs ((h.sI a0 16 ((h.I a0 16) + 1)).sI (a0 + 55) (Int32.toNatClampNeg (h.I a0 16)) x1) 17 [some (.ref a0), some (.int x1), some (.int (x2 + 1))] [])) : z_V l G m_X1_firstRow (z_Fm G m_X1_firstRow Q) rc rs h 17 [some (.ref a0), some (.int x1), some (.int x2)] [] := by
  refine z_iload_n (q := 18) (i := 2) (x := x2) dX1_firstRow_17 rfl rfl rfl ?_
  refine z_aload_n (q := 19) (i := 0) (x := a0) dX1_firstRow_18 rfl rfl rfl ?_
  obtain ⟨g_1, hf⟩ := hf
  obtain ⟨b_2, g_3, hf⟩ := hf
  refine z_get 0 4 (q := 22) (v := .ref b_2) rfl (z_lt rfl) (z_L0_T g_1) q510 dX1_firstRow_19 rfl (z_fvR (fun _ _ _ => rfl) g_3) ?_
  obtain ⟨g_4, hf⟩ := hf
  refine z_getN 8 2 (q := 25) (v := .ref (b_2 + 4)) rfl (z_lt rfl) (z_L8_T g_4) (z_nwm q338 rfl) dX1_firstRow_22 rfl (z_fvR (fun _ _ _ => rfl) (z_L8_P2 g_4)) ?_
  refine z_iload_n (q := 26) (i := 1) (x := x1) dX1_firstRow_25 rfl rfl rfl ?_
  obtain ⟨g_5, hf⟩ := hf
  refine z_iald (q := 27) (n := 8) (z_L8_A2 g_4) g_5 dX1_firstRow_26 rfl ?_
  refine z_icmp_ge (q := 30) (tgt := 53) dX1_firstRow_27 rfl rfl (fun hc => ?_) (fun hc => ?_)
  · have hf := hf.1 hc
    refine z_iinc (q := 56) (i := 1) (x := x1) (v := (x1 + 1)) (ls2 := [some (.ref a0), some (.int (x1 + 1)), some (.int x2)]) dX1_firstRow_53 rfl rfl (z_lt rfl) rfl rfl ?_
    refine z_goto (q := 7) dX1_firstRow_56 rfl ?_
    refine z_prune [true, true, false] (ls2 := [some (.ref a0), some (.int (x1 + 1)), none]) rfl ?_
    exact hf
  · have hf := hf.2 hc
    refine z_aload_n (q := 31) (i := 0) (x := a0) dX1_firstRow_30 rfl rfl rfl ?_
    refine z_get 0 15 (q := 34) (v := .ref (a0 + 55)) rfl (z_lt rfl) (z_L0_T g_1) q521 dX1_firstRow_31 rfl (z_fvR (fun _ _ _ => rfl) (z_L0_P15 g_1)) ?_
    refine z_aload_n (q := 35) (i := 0) (x := a0) dX1_firstRow_34 rfl rfl rfl ?_
    refine z_dup (q := 36) dX1_firstRow_35 rfl rfl ?_
    refine z_get 0 16 (q := 39) (v := .int (h.I a0 16)) rfl (z_lt rfl) (z_L0_T g_1) q522 dX1_firstRow_36 rfl rfl ?_
    refine z_dup_x1 (q := 40) dX1_firstRow_39 rfl rfl rfl ?_
    refine z_iconst (q := 41) (v := 1) dX1_firstRow_40 rfl rfl ?_
    refine z_iadd (q := 42) dX1_firstRow_41 rfl ?_
    refine z_putI 0 16 (q := 45) (x := ((h.I a0 16) + 1)) (v := .int ((h.I a0 16) + 1)) rfl (z_lt rfl) (z_L0_T g_1) q522 rfl dX1_firstRow_42 rfl rfl rfl rfl (fun _ _ _ => rfl) ?_
    refine z_iload_n (q := 46) (i := 1) (x := x1) dX1_firstRow_45 rfl rfl rfl ?_
    obtain ⟨g_6, hf⟩ := hf
    refine z_iast (q := 47) (n := 24) (z_L0_A15 g_1) g_6 dX1_firstRow_46 rfl ?_
    refine z_iinc (q := 50) (i := 2) (x := x2) (v := (x2 + 1)) (ls2 := [some (.ref a0), some (.int x1), some (.int (x2 + 1))]) dX1_firstRow_47 rfl rfl (z_lt rfl) rfl rfl ?_
    refine z_goto (q := 17) dX1_firstRow_50 rfl ?_
    exact hf

theorem u_X1_games {l : Launch} {G : z_G} {a0 : Nat} {x1 : Int32} {x2 : Int32} {x3 : Int32} {h : z_H} {Q : z_Q} (hst : l.stackTraces = false)  (hf : z_Ct l G m_X1_in [.int x1, .int 0, .int 9999] h (z_Qi (fun x_1 h_2 => (x_1 = 0 → Q (some (.int (-1))) h_2) ∧ (¬ x_1 = 0 → z_Ct l G m_X1_in [.int x2, .int 1, .int 50] h_2 (z_Qi (fun x_3 h_4 => (x_3 = 0 → Q (some (.int (-1))) h_4) ∧ (¬ x_3 = 0 → z_Ct l G m_X1_in [.int x3, .int 0, .int 3] h_4 (z_Qi (fun x_5 h_6 => (x_5 = 0 → Q (some (.int (-1))) h_6) ∧ (¬ x_5 = 0 → z_L0 h_6 a0 ∧ ∃ b_8, (h_6.P a0 4) = some b_8 ∧ z_L8 h_6 b_8 ∧ z_Ct l G m_X10_cards [.ref b_8] h_6 (z_Qi (fun x_11 h_12 => (x_11 = 0 → Q (some (.int (-1))) h_12) ∧ (¬ x_11 = 0 → z_L0 h_12 a0 ∧ z_V l G m_X1_games (z_Fm G m_X1_games Q) 0 0 ((h_12.sL a0 21 (Int32.toInt64 x1)).nw (1, 4)) 59 [some (.ref a0), none, some (.int x2), some (.int x3), some (.ref (h_12.n)), some (.int 0), some (.int 0)] []))))))))))))) : z_Ct l G m_X1_games [.ref a0, .int x1, .int x2, .int x3] h Q := by
  refine z_Ct.of (ls := [some (.ref a0), some (.int x1), some (.int x2), some (.int x3), none, none, none]) hst rfl (by show plainName yX1_games.cls = true; decide +kernel) (z_le rfl) rfl ?_
  show z_V l G m_X1_games (z_Fm G m_X1_games Q) 1 4 h 0 [some (.ref a0), some (.int x1), some (.int x2), some (.int x3), none, none, none] []
  refine z_iload_n (q := 1) (i := 1) (x := x1) dX1_games_0 rfl rfl rfl ?_
  refine z_iconst (q := 2) (v := 0) dX1_games_1 rfl rfl ?_
  refine z_sipush (q := 5) (v := 9999) dX1_games_2 (by decide) rfl ?_
  refine z_cSi m_X1_in [.int x1, .int 0, .int 9999] (q := 8) (rc2 := 1) (rs2 := 4) (st := []) dX1_games_5 rfl q1259 oS_X1_in rfl rfl ⟨z_le rfl, z_le rfl⟩ (z_le rfl) rfl  rfl hf (fun x_1 h_2 hf => ?_)
  refine z_if_eq (q := 11) (tgt := 40) dX1_games_8 rfl rfl (fun hc => ?_) (fun hc => ?_)
  · have hf := hf.1 hc
    refine z_iconst (q := 41) (v := (-1)) dX1_games_40 rfl rfl ?_
    exact z_iret dX1_games_41 rfl hf
  · have hf := hf.2 hc
    refine z_iload_n (q := 12) (i := 2) (x := x2) dX1_games_11 rfl rfl rfl ?_
    refine z_iconst (q := 13) (v := 1) dX1_games_12 rfl rfl ?_
    refine z_bipush (q := 15) (v := 50) dX1_games_13 (by decide) rfl ?_
    refine z_cSi m_X1_in [.int x2, .int 1, .int 50] (q := 18) (rc2 := 1) (rs2 := 4) (st := []) dX1_games_15 rfl q1259 oS_X1_in rfl rfl ⟨z_le rfl, z_le rfl⟩ (z_le rfl) rfl  rfl hf (fun x_3 h_4 hf => ?_)
    refine z_if_eq (q := 21) (tgt := 40) dX1_games_18 rfl rfl (fun hc => ?_) (fun hc => ?_)
    · have hf := hf.1 hc
      refine z_iconst (q := 41) (v := (-1)) dX1_games_40 rfl rfl ?_
      exact z_iret dX1_games_41 rfl hf
    · have hf := hf.2 hc
      refine z_iload_n (q := 22) (i := 3) (x := x3) dX1_games_21 rfl rfl rfl ?_
      refine z_iconst (q := 23) (v := 0) dX1_games_22 rfl rfl ?_
      refine z_iconst (q := 24) (v := 3) dX1_games_23 rfl rfl ?_
      refine z_cSi m_X1_in [.int x3, .int 0, .int 3] (q := 27) (rc2 := 1) (rs2 := 4) (st := []) dX1_games_24 rfl q1259 oS_X1_in rfl rfl ⟨z_le rfl, z_le rfl⟩ (z_le rfl) rfl  rfl hf (fun x_5 h_6 hf => ?_)
      refine z_if_eq (q := 30) (tgt := 40) dX1_games_27 rfl rfl (fun hc => ?_) (fun hc => ?_)
      · have hf := hf.1 hc
        refine z_iconst (q := 41) (v := (-1)) dX1_games_40 rfl rfl ?_
        exact z_iret dX1_games_41 rfl hf
      · have hf := hf.2 hc
        refine z_aload_n (q := 31) (i := 0) (x := a0) dX1_games_30 rfl rfl rfl ?_
        obtain ⟨g_7, hf⟩ := hf
        obtain ⟨b_8, g_9, hf⟩ := hf
        refine z_get 0 4 (q := 34) (v := .ref b_8) rfl (z_lt rfl) (z_L0_T g_7) q510 dX1_games_31 rfl (z_fvR (fun _ _ _ => rfl) g_9) ?_
        obtain ⟨g_10, hf⟩ := hf
        refine z_cVi m_X10_cards [] (b_8) (q := 37) (rc2 := 1) (rs2 := 4) (st := []) dX1_games_34 rfl q1621 oV_X10_cards rfl rfl ⟨z_le rfl, z_le rfl⟩ (z_le rfl) (z_rcv_of 8 rfl (z_L8_T g_10) rfl) rfl  rfl hf (fun x_11 h_12 hf => ?_)
        refine z_if_ne (q := 40) (tgt := 42) dX1_games_37 rfl rfl (fun hc => ?_) (fun hc => ?_)
        · have hf := hf.2 hc
          refine z_aload_n (q := 43) (i := 0) (x := a0) dX1_games_42 rfl rfl rfl ?_
          refine z_iload_n (q := 44) (i := 1) (x := x1) dX1_games_43 rfl rfl rfl ?_
          refine z_i2l (q := 45) dX1_games_44 rfl ?_
          obtain ⟨g_13, hf⟩ := hf
          refine z_putL 0 21 (q := 48) (x := (Int32.toInt64 x1)) (v := .long (Int32.toInt64 x1)) rfl (z_lt rfl) (z_L0_T g_13) q527 rfl dX1_games_45 rfl rfl rfl rfl (fun _ _ _ => rfl) ?_
          refine z_iconst (q := 49) (v := 4) dX1_games_48 rfl rfl ?_
          refine z_newa 1 (q := 51) (N := 4) (rc2 := 0) (rs2 := 0) (z_lt rfl) (z_lt rfl) rfl q295 (by decide) rfl (z_le rfl) dX1_games_49 rfl rfl rfl ?_
          refine z_astore (q := 53) (i := 4) (ls2 := [some (.ref a0), some (.int x1), some (.int x2), some (.int x3), some (.ref (h_12.n)), none, none]) (x := (h_12.n)) dX1_games_51 (z_lt rfl) rfl rfl ?_
          refine z_iconst (q := 54) (v := 0) dX1_games_53 rfl rfl ?_
          refine z_istore (q := 56) (i := 5) (ls2 := [some (.ref a0), some (.int x1), some (.int x2), some (.int x3), some (.ref (h_12.n)), some (.int 0), none]) (x := 0) dX1_games_54 (z_lt rfl) rfl rfl ?_
          refine z_iconst (q := 57) (v := 0) dX1_games_56 rfl rfl ?_
          refine z_istore (q := 59) (i := 6) (ls2 := [some (.ref a0), some (.int x1), some (.int x2), some (.int x3), some (.ref (h_12.n)), some (.int 0), some (.int 0)]) (x := 0) dX1_games_57 (z_lt rfl) rfl rfl ?_
          refine z_prune [true, false, true, true, true, true, true] (ls2 := [some (.ref a0), none, some (.int x2), some (.int x3), some (.ref (h_12.n)), some (.int 0), some (.int 0)]) rfl ?_
          exact hf
        · have hf := hf.1 hc
          refine z_iconst (q := 41) (v := (-1)) dX1_games_40 rfl rfl ?_
          exact z_iret dX1_games_41 rfl hf

theorem b_X1_games_59 {l : Launch} {G : z_G} {rc rs : Nat} {a0 : Nat} {x2 : Int32} {x3 : Int32} {a4 : Nat} {x5 : Int32} {x6 : Int32} {h : z_H} {Q : z_Q}  (hf : (x2 ≤ x6 → (3 ≤ x3 → Q (some (.int x5)) h) ∧ (¬ 3 ≤ x3 → ∃ n_4, h.T a4 = (1, n_4) ∧ vp_in x3 n_4 ∧ Q (some (.int (h.I a4 (Int32.toNatClampNeg x3)))) h)) ∧ (¬ x2 ≤ x6 → z_L0 h a0 ∧ z_Ct l G m_X1_shuffles [.ref a0] h (z_Qv (fun h_8 => z_L0 h_8 a0 ∧ ∃ b_10, (h_8.P a0 4) = some b_10 ∧ z_L8 h_8 b_10 ∧ z_Ct l G m_X10_first [.ref b_10] h_8 (z_Qi (fun x_13 h_14 => z_L0 h_14 a0 ∧ ∃ b_16, (h_14.P a0 4) = some b_16 ∧ z_L8 h_14 b_16 ∧ z_Ct l G m_X1_plays [.ref a0, .int x_13, .ref (b_16 + 3)] h_14 (z_Qv (fun h_19 => z_L0 h_19 a0 ∧ ∃ n_21, h_19.T a4 = (1, n_21) ∧ vp_in (h_19.I (a0 + 9) 7) n_21 ∧ vp_in (h_19.I (a0 + 9) 7) n_21 ∧ (2 ≤ ((h_19.sI a4 (Int32.toNatClampNeg (h_19.I (a0 + 9) 7)) ((h_19.I a4 (Int32.toNatClampNeg (h_19.I (a0 + 9) 7))) + 1)).I (a0 + 9) 7) → z_V l G m_X1_games (z_Fm G m_X1_games Q) rc rs (h_19.sI a4 (Int32.toNatClampNeg (h_19.I (a0 + 9) 7)) ((h_19.I a4 (Int32.toNatClampNeg (h_19.I (a0 + 9) 7))) + 1)) 59 [some (.ref a0), none, some (.int x2), some (.int x3), some (.ref a4), some (.int x5), some (.int (x6 + 1))] []) ∧ (¬ 2 ≤ ((h_19.sI a4 (Int32.toNatClampNeg (h_19.I (a0 + 9) 7)) ((h_19.I a4 (Int32.toNatClampNeg (h_19.I (a0 + 9) 7))) + 1)).I (a0 + 9) 7) → z_Ct l G m_J5_max [.int x5, .int ((h_19.sI a4 (Int32.toNatClampNeg (h_19.I (a0 + 9) 7)) ((h_19.I a4 (Int32.toNatClampNeg (h_19.I (a0 + 9) 7))) + 1)).I (a0 + 9) 8)] (h_19.sI a4 (Int32.toNatClampNeg (h_19.I (a0 + 9) 7)) ((h_19.I a4 (Int32.toNatClampNeg (h_19.I (a0 + 9) 7))) + 1)) (z_Qi (fun x_25 h_26 => z_V l G m_X1_games (z_Fm G m_X1_games Q) rc rs h_26 59 [some (.ref a0), none, some (.int x2), some (.int x3), some (.ref a4), some (.int x_25), some (.int (x6 + 1))] []))))))))))) : z_V l G m_X1_games (z_Fm G m_X1_games Q) rc rs h 59 [some (.ref a0), none, some (.int x2), some (.int x3), some (.ref a4), some (.int x5), some (.int x6)] [] := by
  refine z_iload (q := 61) (i := 6) (x := x6) dX1_games_59 rfl rfl ?_
  refine z_iload_n (q := 62) (i := 2) (x := x2) dX1_games_61 rfl rfl rfl ?_
  refine z_icmp_ge (q := 65) (tgt := 132) dX1_games_62 rfl rfl (fun hc => ?_) (fun hc => ?_)
  · have hf := hf.1 hc
    refine z_iload_n (q := 133) (i := 3) (x := x3) dX1_games_132 rfl rfl rfl ?_
    refine z_iconst (q := 134) (v := 3) dX1_games_133 rfl rfl ?_
    refine z_icmp_ge (q := 137) (tgt := 144) dX1_games_134 rfl rfl (fun hc => ?_) (fun hc => ?_)
    · have hf := hf.1 hc
      refine z_iload (q := 146) (i := 5) (x := x5) dX1_games_144 rfl rfl ?_
      exact z_iret dX1_games_146 rfl hf
    · have hf := hf.2 hc
      refine z_aload (q := 139) (i := 4) (x := a4) dX1_games_137 rfl rfl ?_
      refine z_iload_n (q := 140) (i := 3) (x := x3) dX1_games_139 rfl rfl rfl ?_
      obtain ⟨n_4, g_5, hf⟩ := hf
      obtain ⟨g_6, hf⟩ := hf
      refine z_iald (q := 141) (n := n_4) g_5 g_6 dX1_games_140 rfl ?_
      refine z_goto (q := 146) dX1_games_141 rfl ?_
      exact z_iret dX1_games_146 rfl hf
  · have hf := hf.2 hc
    refine z_aload_n (q := 66) (i := 0) (x := a0) dX1_games_65 rfl rfl rfl ?_
    obtain ⟨g_7, hf⟩ := hf
    refine z_cVv m_X1_shuffles [] (a0) (q := 69) (rc2 := rc) (rs2 := rs) (st := []) dX1_games_66 rfl q1622 oV_X1_shuffles rfl rfl ⟨z_le rfl, z_le rfl⟩ (z_le rfl) (z_rcv_of 0 rfl (z_L0_T g_7) rfl) rfl  rfl hf (fun h_8 hf => ?_)
    refine z_aload_n (q := 70) (i := 0) (x := a0) dX1_games_69 rfl rfl rfl ?_
    refine z_aload_n (q := 71) (i := 0) (x := a0) dX1_games_70 rfl rfl rfl ?_
    obtain ⟨g_9, hf⟩ := hf
    obtain ⟨b_10, g_11, hf⟩ := hf
    refine z_get 0 4 (q := 74) (v := .ref b_10) rfl (z_lt rfl) (z_L0_T g_9) q510 dX1_games_71 rfl (z_fvR (fun _ _ _ => rfl) g_11) ?_
    obtain ⟨g_12, hf⟩ := hf
    refine z_cVi m_X10_first [] (b_10) (q := 77) (rc2 := rc) (rs2 := rs) (st := [.ref a0]) dX1_games_74 rfl q1180 oV_X10_first rfl rfl ⟨z_le rfl, z_le rfl⟩ (z_le rfl) (z_rcv_of 8 rfl (z_L8_T g_12) rfl) rfl  rfl hf (fun x_13 h_14 hf => ?_)
    refine z_aload_n (q := 78) (i := 0) (x := a0) dX1_games_77 rfl rfl rfl ?_
    obtain ⟨g_15, hf⟩ := hf
    obtain ⟨b_16, g_17, hf⟩ := hf
    refine z_get 0 4 (q := 81) (v := .ref b_16) rfl (z_lt rfl) (z_L0_T g_15) q510 dX1_games_78 rfl (z_fvR (fun _ _ _ => rfl) g_17) ?_
    obtain ⟨g_18, hf⟩ := hf
    refine z_getN 8 1 (q := 84) (v := .ref (b_16 + 3)) rfl (z_lt rfl) (z_L8_T g_18) (z_nwm q334 rfl) dX1_games_81 rfl (z_fvR (fun _ _ _ => rfl) (z_L8_P1 g_18)) ?_
    refine z_cVv m_X1_plays [.int x_13, .ref (b_16 + 3)] (a0) (q := 87) (rc2 := rc) (rs2 := rs) (st := []) dX1_games_84 rfl q1457 oV_X1_plays rfl rfl ⟨z_le rfl, z_le rfl⟩ (z_le rfl) (z_rcv_of 0 rfl (z_L0_T g_15) rfl) rfl  rfl hf (fun h_19 hf => ?_)
    refine z_aload (q := 89) (i := 4) (x := a4) dX1_games_87 rfl rfl ?_
    refine z_aload_n (q := 90) (i := 0) (x := a0) dX1_games_89 rfl rfl rfl ?_
    obtain ⟨g_20, hf⟩ := hf
    refine z_get 0 3 (q := 93) (v := .ref (a0 + 9)) rfl (z_lt rfl) (z_L0_T g_20) q508 dX1_games_90 rfl (z_fvR (fun _ _ _ => rfl) (z_L0_P3 g_20)) ?_
    refine z_getN 7 7 (q := 96) (v := .int (h_19.I (a0 + 9) 7)) rfl (z_lt rfl) (z_L7_T (z_L0_N3 g_20)) (z_nwm q261 rfl) dX1_games_93 rfl rfl ?_
    refine z_dup2 (q := 97) dX1_games_96 rfl rfl rfl ?_
    obtain ⟨n_21, g_22, hf⟩ := hf
    obtain ⟨g_23, hf⟩ := hf
    refine z_iald (q := 98) (n := n_21) g_22 g_23 dX1_games_97 rfl ?_
    refine z_iconst (q := 99) (v := 1) dX1_games_98 rfl rfl ?_
    refine z_iadd (q := 100) dX1_games_99 rfl ?_
    obtain ⟨g_24, hf⟩ := hf
    refine z_iast (q := 101) (n := n_21) g_22 g_24 dX1_games_100 rfl ?_
    refine z_aload_n (q := 102) (i := 0) (x := a0) dX1_games_101 rfl rfl rfl ?_
    refine z_get 0 3 (q := 105) (v := .ref (a0 + 9)) rfl (z_lt rfl) (z_L0_T g_20) q508 dX1_games_102 rfl (z_fvR (fun _ _ _ => rfl) (z_L0_P3 g_20)) ?_
    refine z_getN 7 7 (q := 108) (v := .int ((h_19.sI a4 (Int32.toNatClampNeg (h_19.I (a0 + 9) 7)) ((h_19.I a4 (Int32.toNatClampNeg (h_19.I (a0 + 9) 7))) + 1)).I (a0 + 9) 7)) rfl (z_lt rfl) (z_L7_T (z_L0_N3 g_20)) (z_nwm q261 rfl) dX1_games_105 rfl rfl ?_
    refine z_iconst (q := 109) (v := 2) dX1_games_108 rfl rfl ?_
    refine z_icmp_ge (q := 112) (tgt := 126) dX1_games_109 rfl rfl (fun hc => ?_) (fun hc => ?_)
    · have hf := hf.1 hc
      refine z_iinc (q := 129) (i := 6) (x := x6) (v := (x6 + 1)) (ls2 := [some (.ref a0), none, some (.int x2), some (.int x3), some (.ref a4), some (.int x5), some (.int (x6 + 1))]) dX1_games_126 rfl rfl (z_lt rfl) rfl rfl ?_
      refine z_goto (q := 59) dX1_games_129 rfl ?_
      exact hf
    · have hf := hf.2 hc
      refine z_iload (q := 114) (i := 5) (x := x5) dX1_games_112 rfl rfl ?_
      refine z_aload_n (q := 115) (i := 0) (x := a0) dX1_games_114 rfl rfl rfl ?_
      refine z_get 0 3 (q := 118) (v := .ref (a0 + 9)) rfl (z_lt rfl) (z_L0_T g_20) q508 dX1_games_115 rfl (z_fvR (fun _ _ _ => rfl) (z_L0_P3 g_20)) ?_
      refine z_getN 7 8 (q := 121) (v := .int ((h_19.sI a4 (Int32.toNatClampNeg (h_19.I (a0 + 9) 7)) ((h_19.I a4 (Int32.toNatClampNeg (h_19.I (a0 + 9) 7))) + 1)).I (a0 + 9) 8)) rfl (z_lt rfl) (z_L7_T (z_L0_N3 g_20)) (z_nwm q263 rfl) dX1_games_118 rfl rfl ?_
      refine z_cSi m_J5_max [.int x5, .int ((h_19.sI a4 (Int32.toNatClampNeg (h_19.I (a0 + 9) 7)) ((h_19.I a4 (Int32.toNatClampNeg (h_19.I (a0 + 9) 7))) + 1)).I (a0 + 9) 8)] (q := 124) (rc2 := rc) (rs2 := rs) (st := []) dX1_games_121 rfl q1549 oS_J5_max rfl rfl ⟨z_le rfl, z_le rfl⟩ (z_le rfl) rfl  rfl hf (fun x_25 h_26 hf => ?_)
      refine z_istore (q := 126) (i := 5) (ls2 := [some (.ref a0), none, some (.int x2), some (.int x3), some (.ref a4), some (.int x_25), some (.int x6)]) (x := x_25) dX1_games_124 (z_lt rfl) rfl rfl ?_
      refine z_iinc (q := 129) (i := 6) (x := x6) (v := (x6 + 1)) (ls2 := [some (.ref a0), none, some (.int x2), some (.int x3), some (.ref a4), some (.int x_25), some (.int (x6 + 1))]) dX1_games_126 rfl rfl (z_lt rfl) rfl rfl ?_
      refine z_goto (q := 59) dX1_games_129 rfl ?_
      exact hf

theorem u_X1_gcd {l : Launch} {G : z_G} {d : Nat} {y0 : Int64} {y2 : Int64} {h : z_H} {Q : z_Q} (hst : l.stackTraces = false)  (hf : ((lg_cmp y2 0) = 0 → Q (some (.long y0)) h) ∧ (¬ (lg_cmp y2 0) = 0 → ¬ y2 = 0 ∧ z_Ct l G (m_X1_gcd d) [.long y2, .long (y0 - y0 / y2 * y2)] h (z_Ql (fun y_2 h_3 => Q (some (.long y_2)) h_3)))) : z_Ct l G (m_X1_gcd (d + 1)) [.long y0, .long y2] h Q := by
  refine z_Ct.of (ls := [some (.long y0), none, some (.long y2), none]) hst rfl (by show plainName yX1_gcd.cls = true; decide +kernel) (z_le rfl) rfl ?_
  show z_V l G (m_X1_gcd (d + 1)) (z_Fm G (m_X1_gcd (d + 1)) Q) 0 0 h 0 [some (.long y0), none, some (.long y2), none] []
  refine z_lload_n (q := 1) (i := 2) (x := y2) dX1_gcd_0 rfl rfl rfl ?_
  refine z_lconst (q := 2) (v := 0) dX1_gcd_1 (by decide) rfl ?_
  refine z_lcmp (q := 3) dX1_gcd_2 rfl ?_
  refine z_if_ne (q := 6) (tgt := 10) dX1_gcd_3 rfl rfl (fun hc => ?_) (fun hc => ?_)
  · have hf := hf.2 hc
    refine z_lload_n (q := 11) (i := 2) (x := y2) dX1_gcd_10 rfl rfl rfl ?_
    refine z_lload_n (q := 12) (i := 0) (x := y0) dX1_gcd_11 rfl rfl rfl ?_
    refine z_lload_n (q := 13) (i := 2) (x := y2) dX1_gcd_12 rfl rfl rfl ?_
    obtain ⟨g_1, hf⟩ := hf
    refine z_lrem (q := 14) dX1_gcd_13 g_1 rfl ?_
    refine z_cSl (m_X1_gcd d) [.long y2, .long (y0 - y0 / y2 * y2)] (q := 17) (rc2 := 0) (rs2 := 0) (st := []) dX1_gcd_14 rfl q1508 (oS_X1_gcd _) rfl rfl (z_room_of (by first | exact z_le rfl | (simp only [z_M.d, z_M.nL, z_M.lo, m_X1_gcd, m_X1_gcd]; omega)) (by first | exact z_le rfl | (simp only [z_M.d, z_M.nL, z_M.lo, m_X1_gcd, m_X1_gcd]; omega))) (z_le rfl) rfl  rfl hf (fun y_2 h_3 hf => ?_)
    exact z_lret dX1_gcd_17 rfl hf
  · have hf := hf.1 hc
    refine z_lload_n (q := 7) (i := 0) (x := y0) dX1_gcd_6 rfl rfl rfl ?_
    refine z_goto (q := 17) dX1_gcd_7 rfl ?_
    exact z_lret dX1_gcd_17 rfl hf

theorem u_X1_goesThrough {l : Launch} {G : z_G} {a0 : Nat} {h : z_H} {Q : z_Q} (hst : l.stackTraces = false)  (hf : z_L0 h a0 ∧ z_Ct l G m_X1_unseenOf [.ref a0, .int 0] h (z_Qi (fun x_2 h_3 => z_L0 h_3 a0 ∧ z_Ct l G m_X1_unseenOf [.ref a0, .int 1] h_3 (z_Qi (fun x_5 h_6 => z_L0 h_6 a0 ∧ ((x_2 + x_5) ≤ 10 → z_V l G m_X1_goesThrough (z_Fm G m_X1_goesThrough Q) 1 8 (h_6.sI a0 16 (x_2 + x_5)) 30 [some (.ref a0), some (.int 0), some (.int 0), none] []) ∧ (¬ (x_2 + x_5) ≤ 10 → Q (some (.int 0)) (h_6.sI a0 16 (x_2 + x_5)))))))) : z_Ct l G m_X1_goesThrough [.ref a0] h Q := by
  refine z_Ct.of (ls := [some (.ref a0), none, none, none]) hst rfl (by show plainName yX1_goesThrough.cls = true; decide +kernel) (z_le rfl) rfl ?_
  show z_V l G m_X1_goesThrough (z_Fm G m_X1_goesThrough Q) 1 8 h 0 [some (.ref a0), none, none, none] []
  refine z_aload_n (q := 1) (i := 0) (x := a0) dX1_goesThrough_0 rfl rfl rfl ?_
  refine z_aload_n (q := 2) (i := 0) (x := a0) dX1_goesThrough_1 rfl rfl rfl ?_
  refine z_iconst (q := 3) (v := 0) dX1_goesThrough_2 rfl rfl ?_
  obtain ⟨g_1, hf⟩ := hf
  refine z_cVi m_X1_unseenOf [.int 0] (a0) (q := 6) (rc2 := 1) (rs2 := 8) (st := [.ref a0]) dX1_goesThrough_3 rfl q1515 oV_X1_unseenOf rfl rfl ⟨z_le rfl, z_le rfl⟩ (z_le rfl) (z_rcv_of 0 rfl (z_L0_T g_1) rfl) rfl  rfl hf (fun x_2 h_3 hf => ?_)
  refine z_aload_n (q := 7) (i := 0) (x := a0) dX1_goesThrough_6 rfl rfl rfl ?_
  refine z_iconst (q := 8) (v := 1) dX1_goesThrough_7 rfl rfl ?_
  obtain ⟨g_4, hf⟩ := hf
  refine z_cVi m_X1_unseenOf [.int 1] (a0) (q := 11) (rc2 := 1) (rs2 := 8) (st := [.int x_2, .ref a0]) dX1_goesThrough_8 rfl q1515 oV_X1_unseenOf rfl rfl ⟨z_le rfl, z_le rfl⟩ (z_le rfl) (z_rcv_of 0 rfl (z_L0_T g_4) rfl) rfl  rfl hf (fun x_5 h_6 hf => ?_)
  refine z_iadd (q := 12) dX1_goesThrough_11 rfl ?_
  obtain ⟨g_7, hf⟩ := hf
  refine z_putI 0 16 (q := 15) (x := (x_2 + x_5)) (v := .int (x_2 + x_5)) rfl (z_lt rfl) (z_L0_T g_7) q522 rfl dX1_goesThrough_12 rfl rfl rfl rfl (fun _ _ _ => rfl) ?_
  refine z_aload_n (q := 16) (i := 0) (x := a0) dX1_goesThrough_15 rfl rfl rfl ?_
  refine z_get 0 16 (q := 19) (v := .int (x_2 + x_5)) rfl (z_lt rfl) (z_L0_T g_7) q522 dX1_goesThrough_16 rfl (congrArg Value.int z_rIs) ?_
  refine z_bipush (q := 21) (v := 10) dX1_goesThrough_19 (by decide) rfl ?_
  refine z_icmp_le (q := 24) (tgt := 26) dX1_goesThrough_21 rfl rfl (fun hc => ?_) (fun hc => ?_)
  · have hf := hf.1 hc
    refine z_iconst (q := 27) (v := 0) dX1_goesThrough_26 rfl rfl ?_
    refine z_istore_n (q := 28) (i := 1) (ls2 := [some (.ref a0), some (.int 0), none, none]) (x := 0) dX1_goesThrough_27 rfl (z_lt rfl) rfl rfl ?_
    refine z_iconst (q := 29) (v := 0) dX1_goesThrough_28 rfl rfl ?_
    refine z_istore_n (q := 30) (i := 2) (ls2 := [some (.ref a0), some (.int 0), some (.int 0), none]) (x := 0) dX1_goesThrough_29 rfl (z_lt rfl) rfl rfl ?_
    exact hf
  · have hf := hf.2 hc
    refine z_iconst (q := 25) (v := 0) dX1_goesThrough_24 rfl rfl ?_
    exact z_zret dX1_goesThrough_25 rfl (z_nb01 z_b0) hf

theorem b_X1_goesThrough_30 {l : Launch} {G : z_G} {rc rs : Nat} {a0 : Nat} {x1 : Int32} {x2 : Int32} {h : z_H} {Q : z_Q}  (hf : z_L0 h a0 ∧ z_Ct l G m_X1_kinds [.ref a0] h (z_Qi (fun x_2 h_3 => (x_2 ≤ x2 → ∃ rc_4, rc = rc_4 + 1 ∧ ∃ rs_6, rs = rs_6 + 8 ∧ z_L0 h_3 a0 ∧ z_Ct l G m_X1_rows [.ref a0] h_3 (z_Qi (fun x_9 h_10 => (x_9 ≤ 20000 → z_V l G m_X1_goesThrough (z_Fm G m_X1_goesThrough Q) rc_4 rs_6 h_10 166 [some (.ref a0), none, some (.int 0), none] []) ∧ (¬ x_9 ≤ 20000 → Q (some (.int 0)) h_10)))) ∧ (¬ x_2 ≤ x2 → z_V l G m_X1_goesThrough (z_Fm G m_X1_goesThrough Q) rc rs h_3 40 [some (.ref a0), some (.int x1), some (.int x2), some (.int 0)] [])))) : z_V l G m_X1_goesThrough (z_Fm G m_X1_goesThrough Q) rc rs h 30 [some (.ref a0), some (.int x1), some (.int x2), none] [] := by
  refine z_iload_n (q := 31) (i := 2) (x := x2) dX1_goesThrough_30 rfl rfl rfl ?_
  refine z_aload_n (q := 32) (i := 0) (x := a0) dX1_goesThrough_31 rfl rfl rfl ?_
  obtain ⟨g_1, hf⟩ := hf
  refine z_cVi m_X1_kinds [] (a0) (q := 35) (rc2 := rc) (rs2 := rs) (st := [.int x2]) dX1_goesThrough_32 rfl q1254 oV_X1_kinds rfl rfl ⟨z_le rfl, z_le rfl⟩ (z_le rfl) (z_rcv_of 0 rfl (z_L0_T g_1) rfl) rfl  rfl hf (fun x_2 h_3 hf => ?_)
  refine z_icmp_ge (q := 38) (tgt := 152) dX1_goesThrough_35 rfl rfl (fun hc => ?_) (fun hc => ?_)
  · have hf := hf.1 hc
    refine z_aload_n (q := 153) (i := 0) (x := a0) dX1_goesThrough_152 rfl rfl rfl ?_
    obtain ⟨rc_4, g_5, hf⟩ := hf
    obtain ⟨rs_6, g_7, hf⟩ := hf
    obtain ⟨g_8, hf⟩ := hf
    refine z_cVi m_X1_rows [] (a0) (q := 156) (rc2 := rc_4) (rs2 := rs_6) (st := []) dX1_goesThrough_153 rfl q1453 oV_X1_rows rfl rfl ⟨z_le rfl, z_le rfl⟩ (z_le rfl) (z_rcv_of 0 rfl (z_L0_T g_8) rfl) g_5  g_7 hf (fun x_9 h_10 hf => ?_)
    refine z_sipush (q := 159) (v := 20000) dX1_goesThrough_156 (by decide) rfl ?_
    refine z_icmp_le (q := 162) (tgt := 164) dX1_goesThrough_159 rfl rfl (fun hc => ?_) (fun hc => ?_)
    · have hf := hf.1 hc
      refine z_iconst (q := 165) (v := 0) dX1_goesThrough_164 rfl rfl ?_
      refine z_istore_n (q := 166) (i := 2) (ls2 := [some (.ref a0), some (.int x1), some (.int 0), none]) (x := 0) dX1_goesThrough_165 rfl (z_lt rfl) rfl rfl ?_
      refine z_prune [true, false, true, false] (ls2 := [some (.ref a0), none, some (.int 0), none]) rfl ?_
      exact hf
    · have hf := hf.2 hc
      refine z_iconst (q := 163) (v := 0) dX1_goesThrough_162 rfl rfl ?_
      exact z_zret dX1_goesThrough_163 rfl (z_nb01 z_b0) hf
  · have hf := hf.2 hc
    refine z_iconst (q := 39) (v := 0) dX1_goesThrough_38 rfl rfl ?_
    refine z_istore_n (q := 40) (i := 3) (ls2 := [some (.ref a0), some (.int x1), some (.int x2), some (.int 0)]) (x := 0) dX1_goesThrough_39 rfl (z_lt rfl) rfl rfl ?_
    exact hf

theorem b_X1_goesThrough_166 {l : Launch} {G : z_G} {rc rs : Nat} {a0 : Nat} {x2 : Int32} {h : z_H} {Q : z_Q}  (hf : z_L0 h a0 ∧ (4 ≤ x2 → z_V l G m_X1_goesThrough (z_Fm G m_X1_goesThrough Q) rc rs h 188 [some (.ref a0), none, none, none] []) ∧ (¬ 4 ≤ x2 → vp_in x2 4 ∧ z_V l G m_X1_goesThrough (z_Fm G m_X1_goesThrough Q) rc rs (h.sI (a0 + 56) (Int32.toNatClampNeg x2) 0) 166 [some (.ref a0), none, some (.int (x2 + 1)), none] [])) : z_V l G m_X1_goesThrough (z_Fm G m_X1_goesThrough Q) rc rs h 166 [some (.ref a0), none, some (.int x2), none] [] := by
  refine z_iload_n (q := 167) (i := 2) (x := x2) dX1_goesThrough_166 rfl rfl rfl ?_
  refine z_aload_n (q := 168) (i := 0) (x := a0) dX1_goesThrough_167 rfl rfl rfl ?_
  obtain ⟨g_1, hf⟩ := hf
  refine z_get 0 17 (q := 171) (v := .ref (a0 + 56)) rfl (z_lt rfl) (z_L0_T g_1) q523 dX1_goesThrough_168 rfl (z_fvR (fun _ _ _ => rfl) (z_L0_P17 g_1)) ?_
  refine z_alen (q := 172) (v := 4) (n := 4) (z_L0_A17 g_1) (by decide) rfl dX1_goesThrough_171 rfl ?_
  refine z_icmp_ge (q := 175) (tgt := 188) dX1_goesThrough_172 rfl rfl (fun hc => ?_) (fun hc => ?_)
  · have hf := hf.1 hc
    refine z_prune [true, false, false, false] (ls2 := [some (.ref a0), none, none, none]) rfl ?_
    exact hf
  · have hf := hf.2 hc
    refine z_aload_n (q := 176) (i := 0) (x := a0) dX1_goesThrough_175 rfl rfl rfl ?_
    refine z_get 0 17 (q := 179) (v := .ref (a0 + 56)) rfl (z_lt rfl) (z_L0_T g_1) q523 dX1_goesThrough_176 rfl (z_fvR (fun _ _ _ => rfl) (z_L0_P17 g_1)) ?_
    refine z_iload_n (q := 180) (i := 2) (x := x2) dX1_goesThrough_179 rfl rfl rfl ?_
    refine z_iconst (q := 181) (v := 0) dX1_goesThrough_180 rfl rfl ?_
    obtain ⟨g_2, hf⟩ := hf
    refine z_iast (q := 182) (n := 4) (z_L0_A17 g_1) g_2 dX1_goesThrough_181 rfl ?_
    refine z_iinc (q := 185) (i := 2) (x := x2) (v := (x2 + 1)) (ls2 := [some (.ref a0), none, some (.int (x2 + 1)), none]) dX1_goesThrough_182 rfl rfl (z_lt rfl) rfl rfl ?_
    refine z_goto (q := 166) dX1_goesThrough_185 rfl ?_
    exact hf

theorem b_X1_goesThrough_40 {l : Launch} {G : z_G} {rc rs : Nat} {a0 : Nat} {x1 : Int32} {x2 : Int32} {x3 : Int32} {h : z_H} {Q : z_Q}  (hf : z_L0 h a0 ∧ ((h.I (a0 + 23) 6) ≤ x3 → z_V l G m_X1_goesThrough (z_Fm G m_X1_goesThrough Q) rc rs h 94 [some (.ref a0), some (.int x1), some (.int x2), some (.int 0)] []) ∧ (¬ (h.I (a0 + 23) 6) ≤ x3 → vp_in x3 48 ∧ ((h.I (a0 + 28) (Int32.toNatClampNeg x3)) = 0 → z_V l G m_X1_goesThrough (z_Fm G m_X1_goesThrough Q) rc rs h 40 [some (.ref a0), some (.int x1), some (.int x2), some (.int (x3 + 1))] []) ∧ (¬ (h.I (a0 + 28) (Int32.toNatClampNeg x3)) = 0 → vp_in x3 48 ∧ ((h.I (a0 + 24) (Int32.toNatClampNeg x3)) = x2 → vp_in x1 24 ∧ z_V l G m_X1_goesThrough (z_Fm G m_X1_goesThrough Q) rc rs (h.sI (a0 + 55) (Int32.toNatClampNeg x1) x2) 40 [some (.ref a0), some (.int (x1 + 1)), some (.int x2), some (.int (x3 + 1))] []) ∧ (¬ (h.I (a0 + 24) (Int32.toNatClampNeg x3)) = x2 → z_V l G m_X1_goesThrough (z_Fm G m_X1_goesThrough Q) rc rs h 40 [some (.ref a0), some (.int x1), some (.int x2), some (.int (x3 + 1))] [])))) : z_V l G m_X1_goesThrough (z_Fm G m_X1_goesThrough Q) rc rs h 40 [some (.ref a0), some (.int x1), some (.int x2), some (.int x3)] [] := by
  refine z_iload_n (q := 41) (i := 3) (x := x3) dX1_goesThrough_40 rfl rfl rfl ?_
  refine z_aload_n (q := 42) (i := 0) (x := a0) dX1_goesThrough_41 rfl rfl rfl ?_
  obtain ⟨g_1, hf⟩ := hf
  refine z_get 0 6 (q := 45) (v := .ref (a0 + 23)) rfl (z_lt rfl) (z_L0_T g_1) q512 dX1_goesThrough_42 rfl (z_fvR (fun _ _ _ => rfl) (z_L0_P6 g_1)) ?_
  refine z_getN 9 6 (q := 48) (v := .int (h.I (a0 + 23) 6)) rfl (z_lt rfl) (z_L9_T (z_L0_N6 g_1)) (z_nwm q387 rfl) dX1_goesThrough_45 rfl rfl ?_
  refine z_icmp_ge (q := 51) (tgt := 92) dX1_goesThrough_48 rfl rfl (fun hc => ?_) (fun hc => ?_)
  · have hf := hf.1 hc
    refine z_iconst (q := 93) (v := 0) dX1_goesThrough_92 rfl rfl ?_
    refine z_istore_n (q := 94) (i := 3) (ls2 := [some (.ref a0), some (.int x1), some (.int x2), some (.int 0)]) (x := 0) dX1_goesThrough_93 rfl (z_lt rfl) rfl rfl ?_
    exact hf
  · have hf := hf.2 hc
    refine z_aload_n (q := 52) (i := 0) (x := a0) dX1_goesThrough_51 rfl rfl rfl ?_
    refine z_get 0 6 (q := 55) (v := .ref (a0 + 23)) rfl (z_lt rfl) (z_L0_T g_1) q512 dX1_goesThrough_52 rfl (z_fvR (fun _ _ _ => rfl) (z_L0_P6 g_1)) ?_
    refine z_getN 9 4 (q := 58) (v := .ref (a0 + 28)) rfl (z_lt rfl) (z_L9_T (z_L0_N6 g_1)) (z_nwm q382 rfl) dX1_goesThrough_55 rfl (z_fvR (fun _ _ _ => rfl) (z_L9_P4 (z_L0_N6 g_1))) ?_
    refine z_iload_n (q := 59) (i := 3) (x := x3) dX1_goesThrough_58 rfl rfl rfl ?_
    obtain ⟨g_2, hf⟩ := hf
    refine z_zald (q := 60) (n := 48) (z_L9_A4 (z_L0_N6 g_1)) g_2 dX1_goesThrough_59 rfl ?_
    refine z_if_eq (q := 63) (tgt := 86) dX1_goesThrough_60 rfl rfl (fun hc => ?_) (fun hc => ?_)
    · have hf := hf.1 hc
      refine z_iinc (q := 89) (i := 3) (x := x3) (v := (x3 + 1)) (ls2 := [some (.ref a0), some (.int x1), some (.int x2), some (.int (x3 + 1))]) dX1_goesThrough_86 rfl rfl (z_lt rfl) rfl rfl ?_
      refine z_goto (q := 40) dX1_goesThrough_89 rfl ?_
      exact hf
    · have hf := hf.2 hc
      refine z_aload_n (q := 64) (i := 0) (x := a0) dX1_goesThrough_63 rfl rfl rfl ?_
      refine z_get 0 6 (q := 67) (v := .ref (a0 + 23)) rfl (z_lt rfl) (z_L0_T g_1) q512 dX1_goesThrough_64 rfl (z_fvR (fun _ _ _ => rfl) (z_L0_P6 g_1)) ?_
      refine z_getN 9 0 (q := 70) (v := .ref (a0 + 24)) rfl (z_lt rfl) (z_L9_T (z_L0_N6 g_1)) (z_nwm q374 rfl) dX1_goesThrough_67 rfl (z_fvR (fun _ _ _ => rfl) (z_L9_P0 (z_L0_N6 g_1))) ?_
      refine z_iload_n (q := 71) (i := 3) (x := x3) dX1_goesThrough_70 rfl rfl rfl ?_
      obtain ⟨g_3, hf⟩ := hf
      refine z_iald (q := 72) (n := 48) (z_L9_A0 (z_L0_N6 g_1)) g_3 dX1_goesThrough_71 rfl ?_
      refine z_iload_n (q := 73) (i := 2) (x := x2) dX1_goesThrough_72 rfl rfl rfl ?_
      refine z_icmp_ne (q := 76) (tgt := 86) dX1_goesThrough_73 rfl rfl (fun hc => ?_) (fun hc => ?_)
      · have hf := hf.2 hc
        refine z_iinc (q := 89) (i := 3) (x := x3) (v := (x3 + 1)) (ls2 := [some (.ref a0), some (.int x1), some (.int x2), some (.int (x3 + 1))]) dX1_goesThrough_86 rfl rfl (z_lt rfl) rfl rfl ?_
        refine z_goto (q := 40) dX1_goesThrough_89 rfl ?_
        exact hf
      · have hf := hf.1 hc
        refine z_aload_n (q := 77) (i := 0) (x := a0) dX1_goesThrough_76 rfl rfl rfl ?_
        refine z_get 0 15 (q := 80) (v := .ref (a0 + 55)) rfl (z_lt rfl) (z_L0_T g_1) q521 dX1_goesThrough_77 rfl (z_fvR (fun _ _ _ => rfl) (z_L0_P15 g_1)) ?_
        refine z_iload_n (q := 81) (i := 1) (x := x1) dX1_goesThrough_80 rfl rfl rfl ?_
        refine z_iinc (q := 84) (i := 1) (x := x1) (v := (x1 + 1)) (ls2 := [some (.ref a0), some (.int (x1 + 1)), some (.int x2), some (.int x3)]) dX1_goesThrough_81 rfl rfl (z_lt rfl) rfl rfl ?_
        refine z_iload_n (q := 85) (i := 2) (x := x2) dX1_goesThrough_84 rfl rfl rfl ?_
        obtain ⟨g_4, hf⟩ := hf
        refine z_iast (q := 86) (n := 24) (z_L0_A15 g_1) g_4 dX1_goesThrough_85 rfl ?_
        refine z_iinc (q := 89) (i := 3) (x := x3) (v := (x3 + 1)) (ls2 := [some (.ref a0), some (.int (x1 + 1)), some (.int x2), some (.int (x3 + 1))]) dX1_goesThrough_86 rfl rfl (z_lt rfl) rfl rfl ?_
        refine z_goto (q := 40) dX1_goesThrough_89 rfl ?_
        exact hf

theorem b_X1_goesThrough_188 {l : Launch} {G : z_G} {rc rs : Nat} {a0 : Nat} {h : z_H} {Q : z_Q}  (hf : z_L0 h a0 ∧ z_Ct l G m_X11_be [.ref (a0 + 36), .ref (a0 + 23)] h (z_Qv (fun h_2 => z_V l G m_X1_goesThrough (z_Fm G m_X1_goesThrough Q) rc rs h_2 203 [some (.ref a0), none, some (.int 0), some (.int 0)] []))) : z_V l G m_X1_goesThrough (z_Fm G m_X1_goesThrough Q) rc rs h 188 [some (.ref a0), none, none, none] [] := by
  refine z_aload_n (q := 189) (i := 0) (x := a0) dX1_goesThrough_188 rfl rfl rfl ?_
  obtain ⟨g_1, hf⟩ := hf
  refine z_get 0 7 (q := 192) (v := .ref (a0 + 36)) rfl (z_lt rfl) (z_L0_T g_1) q513 dX1_goesThrough_189 rfl (z_fvR (fun _ _ _ => rfl) (z_L0_P7 g_1)) ?_
  refine z_aload_n (q := 193) (i := 0) (x := a0) dX1_goesThrough_192 rfl rfl rfl ?_
  refine z_get 0 6 (q := 196) (v := .ref (a0 + 23)) rfl (z_lt rfl) (z_L0_T g_1) q512 dX1_goesThrough_193 rfl (z_fvR (fun _ _ _ => rfl) (z_L0_P6 g_1)) ?_
  refine z_cVv m_X11_be [.ref (a0 + 23)] ((a0 + 36)) (q := 199) (rc2 := rc) (rs2 := rs) (st := []) dX1_goesThrough_196 rfl q1414 oV_X11_be rfl rfl ⟨z_le rfl, z_le rfl⟩ (z_le rfl) (z_rcv_of 9 rfl (z_L9_T (z_L0_N7 g_1)) rfl) rfl  rfl hf (fun h_2 hf => ?_)
  refine z_iconst (q := 200) (v := 0) dX1_goesThrough_199 rfl rfl ?_
  refine z_istore_n (q := 201) (i := 2) (ls2 := [some (.ref a0), none, some (.int 0), none]) (x := 0) dX1_goesThrough_200 rfl (z_lt rfl) rfl rfl ?_
  refine z_iconst (q := 202) (v := 0) dX1_goesThrough_201 rfl rfl ?_
  refine z_istore_n (q := 203) (i := 3) (ls2 := [some (.ref a0), none, some (.int 0), some (.int 0)]) (x := 0) dX1_goesThrough_202 rfl (z_lt rfl) rfl rfl ?_
  exact hf

theorem b_X1_goesThrough_94 {l : Launch} {G : z_G} {rc rs : Nat} {a0 : Nat} {x1 : Int32} {x2 : Int32} {x3 : Int32} {h : z_H} {Q : z_Q}  (hf : z_L0 h a0 ∧ ((h.I (a0 + 23) 7) ≤ x3 → z_V l G m_X1_goesThrough (z_Fm G m_X1_goesThrough Q) rc rs h 30 [some (.ref a0), some (.int x1), some (.int (x2 + 1)), none] []) ∧ (¬ (h.I (a0 + 23) 7) ≤ x3 → vp_in x3 48 ∧ ((h.I (a0 + 29) (Int32.toNatClampNeg x3)) = 0 → z_V l G m_X1_goesThrough (z_Fm G m_X1_goesThrough Q) rc rs h 94 [some (.ref a0), some (.int x1), some (.int x2), some (.int (x3 + 1))] []) ∧ (¬ (h.I (a0 + 29) (Int32.toNatClampNeg x3)) = 0 → vp_in x3 48 ∧ ((h.I (a0 + 25) (Int32.toNatClampNeg x3)) = x2 → vp_in x1 24 ∧ z_V l G m_X1_goesThrough (z_Fm G m_X1_goesThrough Q) rc rs (h.sI (a0 + 55) (Int32.toNatClampNeg x1) x2) 94 [some (.ref a0), some (.int (x1 + 1)), some (.int x2), some (.int (x3 + 1))] []) ∧ (¬ (h.I (a0 + 25) (Int32.toNatClampNeg x3)) = x2 → z_V l G m_X1_goesThrough (z_Fm G m_X1_goesThrough Q) rc rs h 94 [some (.ref a0), some (.int x1), some (.int x2), some (.int (x3 + 1))] [])))) : z_V l G m_X1_goesThrough (z_Fm G m_X1_goesThrough Q) rc rs h 94 [some (.ref a0), some (.int x1), some (.int x2), some (.int x3)] [] := by
  refine z_iload_n (q := 95) (i := 3) (x := x3) dX1_goesThrough_94 rfl rfl rfl ?_
  refine z_aload_n (q := 96) (i := 0) (x := a0) dX1_goesThrough_95 rfl rfl rfl ?_
  obtain ⟨g_1, hf⟩ := hf
  refine z_get 0 6 (q := 99) (v := .ref (a0 + 23)) rfl (z_lt rfl) (z_L0_T g_1) q512 dX1_goesThrough_96 rfl (z_fvR (fun _ _ _ => rfl) (z_L0_P6 g_1)) ?_
  refine z_getN 9 7 (q := 102) (v := .int (h.I (a0 + 23) 7)) rfl (z_lt rfl) (z_L9_T (z_L0_N6 g_1)) (z_nwm q390 rfl) dX1_goesThrough_99 rfl rfl ?_
  refine z_icmp_ge (q := 105) (tgt := 146) dX1_goesThrough_102 rfl rfl (fun hc => ?_) (fun hc => ?_)
  · have hf := hf.1 hc
    refine z_iinc (q := 149) (i := 2) (x := x2) (v := (x2 + 1)) (ls2 := [some (.ref a0), some (.int x1), some (.int (x2 + 1)), some (.int x3)]) dX1_goesThrough_146 rfl rfl (z_lt rfl) rfl rfl ?_
    refine z_goto (q := 30) dX1_goesThrough_149 rfl ?_
    refine z_prune [true, true, true, false] (ls2 := [some (.ref a0), some (.int x1), some (.int (x2 + 1)), none]) rfl ?_
    exact hf
  · have hf := hf.2 hc
    refine z_aload_n (q := 106) (i := 0) (x := a0) dX1_goesThrough_105 rfl rfl rfl ?_
    refine z_get 0 6 (q := 109) (v := .ref (a0 + 23)) rfl (z_lt rfl) (z_L0_T g_1) q512 dX1_goesThrough_106 rfl (z_fvR (fun _ _ _ => rfl) (z_L0_P6 g_1)) ?_
    refine z_getN 9 5 (q := 112) (v := .ref (a0 + 29)) rfl (z_lt rfl) (z_L9_T (z_L0_N6 g_1)) (z_nwm q384 rfl) dX1_goesThrough_109 rfl (z_fvR (fun _ _ _ => rfl) (z_L9_P5 (z_L0_N6 g_1))) ?_
    refine z_iload_n (q := 113) (i := 3) (x := x3) dX1_goesThrough_112 rfl rfl rfl ?_
    obtain ⟨g_2, hf⟩ := hf
    refine z_zald (q := 114) (n := 48) (z_L9_A5 (z_L0_N6 g_1)) g_2 dX1_goesThrough_113 rfl ?_
    refine z_if_eq (q := 117) (tgt := 140) dX1_goesThrough_114 rfl rfl (fun hc => ?_) (fun hc => ?_)
    · have hf := hf.1 hc
      refine z_iinc (q := 143) (i := 3) (x := x3) (v := (x3 + 1)) (ls2 := [some (.ref a0), some (.int x1), some (.int x2), some (.int (x3 + 1))]) dX1_goesThrough_140 rfl rfl (z_lt rfl) rfl rfl ?_
      refine z_goto (q := 94) dX1_goesThrough_143 rfl ?_
      exact hf
    · have hf := hf.2 hc
      refine z_aload_n (q := 118) (i := 0) (x := a0) dX1_goesThrough_117 rfl rfl rfl ?_
      refine z_get 0 6 (q := 121) (v := .ref (a0 + 23)) rfl (z_lt rfl) (z_L0_T g_1) q512 dX1_goesThrough_118 rfl (z_fvR (fun _ _ _ => rfl) (z_L0_P6 g_1)) ?_
      refine z_getN 9 1 (q := 124) (v := .ref (a0 + 25)) rfl (z_lt rfl) (z_L9_T (z_L0_N6 g_1)) (z_nwm q377 rfl) dX1_goesThrough_121 rfl (z_fvR (fun _ _ _ => rfl) (z_L9_P1 (z_L0_N6 g_1))) ?_
      refine z_iload_n (q := 125) (i := 3) (x := x3) dX1_goesThrough_124 rfl rfl rfl ?_
      obtain ⟨g_3, hf⟩ := hf
      refine z_iald (q := 126) (n := 48) (z_L9_A1 (z_L0_N6 g_1)) g_3 dX1_goesThrough_125 rfl ?_
      refine z_iload_n (q := 127) (i := 2) (x := x2) dX1_goesThrough_126 rfl rfl rfl ?_
      refine z_icmp_ne (q := 130) (tgt := 140) dX1_goesThrough_127 rfl rfl (fun hc => ?_) (fun hc => ?_)
      · have hf := hf.2 hc
        refine z_iinc (q := 143) (i := 3) (x := x3) (v := (x3 + 1)) (ls2 := [some (.ref a0), some (.int x1), some (.int x2), some (.int (x3 + 1))]) dX1_goesThrough_140 rfl rfl (z_lt rfl) rfl rfl ?_
        refine z_goto (q := 94) dX1_goesThrough_143 rfl ?_
        exact hf
      · have hf := hf.1 hc
        refine z_aload_n (q := 131) (i := 0) (x := a0) dX1_goesThrough_130 rfl rfl rfl ?_
        refine z_get 0 15 (q := 134) (v := .ref (a0 + 55)) rfl (z_lt rfl) (z_L0_T g_1) q521 dX1_goesThrough_131 rfl (z_fvR (fun _ _ _ => rfl) (z_L0_P15 g_1)) ?_
        refine z_iload_n (q := 135) (i := 1) (x := x1) dX1_goesThrough_134 rfl rfl rfl ?_
        refine z_iinc (q := 138) (i := 1) (x := x1) (v := (x1 + 1)) (ls2 := [some (.ref a0), some (.int (x1 + 1)), some (.int x2), some (.int x3)]) dX1_goesThrough_135 rfl rfl (z_lt rfl) rfl rfl ?_
        refine z_iload_n (q := 139) (i := 2) (x := x2) dX1_goesThrough_138 rfl rfl rfl ?_
        obtain ⟨g_4, hf⟩ := hf
        refine z_iast (q := 140) (n := 24) (z_L0_A15 g_1) g_4 dX1_goesThrough_139 rfl ?_
        refine z_iinc (q := 143) (i := 3) (x := x3) (v := (x3 + 1)) (ls2 := [some (.ref a0), some (.int (x1 + 1)), some (.int x2), some (.int (x3 + 1))]) dX1_goesThrough_140 rfl rfl (z_lt rfl) rfl rfl ?_
        refine z_goto (q := 94) dX1_goesThrough_143 rfl ?_
        exact hf

theorem b_X1_goesThrough_203 {l : Launch} {G : z_G} {rc rs : Nat} {a0 : Nat} {x2 : Int32} {x3 : Int32} {h : z_H} {Q : z_Q}  (hf : z_L0 h a0 ∧ ((h.I (a0 + 23) 6) ≤ x3 → z_V l G m_X1_goesThrough (z_Fm G m_X1_goesThrough Q) rc rs h 252 [some (.ref a0), none, some (.int x2), some (.int 0)] []) ∧ (¬ (h.I (a0 + 23) 6) ≤ x3 → vp_in x3 48 ∧ ((h.I (a0 + 28) (Int32.toNatClampNeg x3)) = 0 → z_V l G m_X1_goesThrough (z_Fm G m_X1_goesThrough Q) rc rs h 203 [some (.ref a0), none, some (.int x2), some (.int (x3 + 1))] []) ∧ (¬ (h.I (a0 + 28) (Int32.toNatClampNeg x3)) = 0 → vp_in x2 24 ∧ vp_in x3 48 ∧ z_V l G m_X1_goesThrough (z_Fm G m_X1_goesThrough Q) rc rs (h.sI (a0 + 37) (Int32.toNatClampNeg x3) (h.I (a0 + 55) (Int32.toNatClampNeg x2))) 203 [some (.ref a0), none, some (.int (x2 + 1)), some (.int (x3 + 1))] []))) : z_V l G m_X1_goesThrough (z_Fm G m_X1_goesThrough Q) rc rs h 203 [some (.ref a0), none, some (.int x2), some (.int x3)] [] := by
  refine z_iload_n (q := 204) (i := 3) (x := x3) dX1_goesThrough_203 rfl rfl rfl ?_
  refine z_aload_n (q := 205) (i := 0) (x := a0) dX1_goesThrough_204 rfl rfl rfl ?_
  obtain ⟨g_1, hf⟩ := hf
  refine z_get 0 6 (q := 208) (v := .ref (a0 + 23)) rfl (z_lt rfl) (z_L0_T g_1) q512 dX1_goesThrough_205 rfl (z_fvR (fun _ _ _ => rfl) (z_L0_P6 g_1)) ?_
  refine z_getN 9 6 (q := 211) (v := .int (h.I (a0 + 23) 6)) rfl (z_lt rfl) (z_L9_T (z_L0_N6 g_1)) (z_nwm q387 rfl) dX1_goesThrough_208 rfl rfl ?_
  refine z_icmp_ge (q := 214) (tgt := 250) dX1_goesThrough_211 rfl rfl (fun hc => ?_) (fun hc => ?_)
  · have hf := hf.1 hc
    refine z_iconst (q := 251) (v := 0) dX1_goesThrough_250 rfl rfl ?_
    refine z_istore_n (q := 252) (i := 3) (ls2 := [some (.ref a0), none, some (.int x2), some (.int 0)]) (x := 0) dX1_goesThrough_251 rfl (z_lt rfl) rfl rfl ?_
    exact hf
  · have hf := hf.2 hc
    refine z_aload_n (q := 215) (i := 0) (x := a0) dX1_goesThrough_214 rfl rfl rfl ?_
    refine z_get 0 6 (q := 218) (v := .ref (a0 + 23)) rfl (z_lt rfl) (z_L0_T g_1) q512 dX1_goesThrough_215 rfl (z_fvR (fun _ _ _ => rfl) (z_L0_P6 g_1)) ?_
    refine z_getN 9 4 (q := 221) (v := .ref (a0 + 28)) rfl (z_lt rfl) (z_L9_T (z_L0_N6 g_1)) (z_nwm q382 rfl) dX1_goesThrough_218 rfl (z_fvR (fun _ _ _ => rfl) (z_L9_P4 (z_L0_N6 g_1))) ?_
    refine z_iload_n (q := 222) (i := 3) (x := x3) dX1_goesThrough_221 rfl rfl rfl ?_
    obtain ⟨g_2, hf⟩ := hf
    refine z_zald (q := 223) (n := 48) (z_L9_A4 (z_L0_N6 g_1)) g_2 dX1_goesThrough_222 rfl ?_
    refine z_if_eq (q := 226) (tgt := 244) dX1_goesThrough_223 rfl rfl (fun hc => ?_) (fun hc => ?_)
    · have hf := hf.1 hc
      refine z_iinc (q := 247) (i := 3) (x := x3) (v := (x3 + 1)) (ls2 := [some (.ref a0), none, some (.int x2), some (.int (x3 + 1))]) dX1_goesThrough_244 rfl rfl (z_lt rfl) rfl rfl ?_
      refine z_goto (q := 203) dX1_goesThrough_247 rfl ?_
      exact hf
    · have hf := hf.2 hc
      refine z_aload_n (q := 227) (i := 0) (x := a0) dX1_goesThrough_226 rfl rfl rfl ?_
      refine z_get 0 7 (q := 230) (v := .ref (a0 + 36)) rfl (z_lt rfl) (z_L0_T g_1) q513 dX1_goesThrough_227 rfl (z_fvR (fun _ _ _ => rfl) (z_L0_P7 g_1)) ?_
      refine z_getN 9 0 (q := 233) (v := .ref (a0 + 37)) rfl (z_lt rfl) (z_L9_T (z_L0_N7 g_1)) (z_nwm q374 rfl) dX1_goesThrough_230 rfl (z_fvR (fun _ _ _ => rfl) (z_L9_P0 (z_L0_N7 g_1))) ?_
      refine z_iload_n (q := 234) (i := 3) (x := x3) dX1_goesThrough_233 rfl rfl rfl ?_
      refine z_aload_n (q := 235) (i := 0) (x := a0) dX1_goesThrough_234 rfl rfl rfl ?_
      refine z_get 0 15 (q := 238) (v := .ref (a0 + 55)) rfl (z_lt rfl) (z_L0_T g_1) q521 dX1_goesThrough_235 rfl (z_fvR (fun _ _ _ => rfl) (z_L0_P15 g_1)) ?_
      refine z_iload_n (q := 239) (i := 2) (x := x2) dX1_goesThrough_238 rfl rfl rfl ?_
      refine z_iinc (q := 242) (i := 2) (x := x2) (v := (x2 + 1)) (ls2 := [some (.ref a0), none, some (.int (x2 + 1)), some (.int x3)]) dX1_goesThrough_239 rfl rfl (z_lt rfl) rfl rfl ?_
      obtain ⟨g_3, hf⟩ := hf
      refine z_iald (q := 243) (n := 24) (z_L0_A15 g_1) g_3 dX1_goesThrough_242 rfl ?_
      obtain ⟨g_4, hf⟩ := hf
      refine z_iast (q := 244) (n := 48) (z_L9_A0 (z_L0_N7 g_1)) g_4 dX1_goesThrough_243 rfl ?_
      refine z_iinc (q := 247) (i := 3) (x := x3) (v := (x3 + 1)) (ls2 := [some (.ref a0), none, some (.int (x2 + 1)), some (.int (x3 + 1))]) dX1_goesThrough_244 rfl rfl (z_lt rfl) rfl rfl ?_
      refine z_goto (q := 203) dX1_goesThrough_247 rfl ?_
      exact hf

theorem b_X1_goesThrough_252 {l : Launch} {G : z_G} {rc rs : Nat} {a0 : Nat} {x2 : Int32} {x3 : Int32} {h : z_H} {Q : z_Q}  (hf : z_L0 h a0 ∧ ((h.I (a0 + 23) 7) ≤ x3 → ∃ b_2, (h.P a0 4) = some b_2 ∧ z_L8 h b_2 ∧ ∃ b_5, (h.P a0 4) = some b_5 ∧ z_L8 h b_5 ∧ z_Ct l G m_X10_limit [.ref b_5] h (z_Qi (fun x_8 h_9 => z_L7 h_9 (a0 + 9) ∧ z_Ct l G m_X9_goes [.ref (a0 + 9), .ref (a0 + 36), .ref (b_2 + 3), .int x_8] h_9 (z_Qv (fun h_11 => z_L0 h_11 a0 ∧ vp_in (h_11.I (a0 + 9) 7) 4 ∧ vp_in (h_11.I (a0 + 9) 7) 4 ∧ z_Ct l G m_X1_nextRow [.ref a0] (h_11.sI (a0 + 56) (Int32.toNatClampNeg (h_11.I (a0 + 9) 7)) ((h_11.I (a0 + 56) (Int32.toNatClampNeg (h_11.I (a0 + 9) 7))) + 1)) (z_Qi (fun x_15 h_16 => (x_15 = 0 → Q (some (.int 1)) h_16) ∧ (¬ x_15 = 0 → z_V l G m_X1_goesThrough (z_Fm G m_X1_goesThrough Q) rc rs h_16 188 [some (.ref a0), none, none, none] [])))))))) ∧ (¬ (h.I (a0 + 23) 7) ≤ x3 → vp_in x3 48 ∧ ((h.I (a0 + 29) (Int32.toNatClampNeg x3)) = 0 → z_V l G m_X1_goesThrough (z_Fm G m_X1_goesThrough Q) rc rs h 252 [some (.ref a0), none, some (.int x2), some (.int (x3 + 1))] []) ∧ (¬ (h.I (a0 + 29) (Int32.toNatClampNeg x3)) = 0 → vp_in x2 24 ∧ vp_in x3 48 ∧ z_V l G m_X1_goesThrough (z_Fm G m_X1_goesThrough Q) rc rs (h.sI (a0 + 38) (Int32.toNatClampNeg x3) (h.I (a0 + 55) (Int32.toNatClampNeg x2))) 252 [some (.ref a0), none, some (.int (x2 + 1)), some (.int (x3 + 1))] []))) : z_V l G m_X1_goesThrough (z_Fm G m_X1_goesThrough Q) rc rs h 252 [some (.ref a0), none, some (.int x2), some (.int x3)] [] := by
  refine z_iload_n (q := 253) (i := 3) (x := x3) dX1_goesThrough_252 rfl rfl rfl ?_
  refine z_aload_n (q := 254) (i := 0) (x := a0) dX1_goesThrough_253 rfl rfl rfl ?_
  obtain ⟨g_1, hf⟩ := hf
  refine z_get 0 6 (q := 257) (v := .ref (a0 + 23)) rfl (z_lt rfl) (z_L0_T g_1) q512 dX1_goesThrough_254 rfl (z_fvR (fun _ _ _ => rfl) (z_L0_P6 g_1)) ?_
  refine z_getN 9 7 (q := 260) (v := .int (h.I (a0 + 23) 7)) rfl (z_lt rfl) (z_L9_T (z_L0_N6 g_1)) (z_nwm q390 rfl) dX1_goesThrough_257 rfl rfl ?_
  refine z_icmp_ge (q := 263) (tgt := 299) dX1_goesThrough_260 rfl rfl (fun hc => ?_) (fun hc => ?_)
  · have hf := hf.1 hc
    refine z_aload_n (q := 300) (i := 0) (x := a0) dX1_goesThrough_299 rfl rfl rfl ?_
    refine z_get 0 3 (q := 303) (v := .ref (a0 + 9)) rfl (z_lt rfl) (z_L0_T g_1) q508 dX1_goesThrough_300 rfl (z_fvR (fun _ _ _ => rfl) (z_L0_P3 g_1)) ?_
    refine z_aload_n (q := 304) (i := 0) (x := a0) dX1_goesThrough_303 rfl rfl rfl ?_
    refine z_get 0 7 (q := 307) (v := .ref (a0 + 36)) rfl (z_lt rfl) (z_L0_T g_1) q513 dX1_goesThrough_304 rfl (z_fvR (fun _ _ _ => rfl) (z_L0_P7 g_1)) ?_
    refine z_aload_n (q := 308) (i := 0) (x := a0) dX1_goesThrough_307 rfl rfl rfl ?_
    obtain ⟨b_2, g_3, hf⟩ := hf
    refine z_get 0 4 (q := 311) (v := .ref b_2) rfl (z_lt rfl) (z_L0_T g_1) q510 dX1_goesThrough_308 rfl (z_fvR (fun _ _ _ => rfl) g_3) ?_
    obtain ⟨g_4, hf⟩ := hf
    refine z_getN 8 1 (q := 314) (v := .ref (b_2 + 3)) rfl (z_lt rfl) (z_L8_T g_4) (z_nwm q334 rfl) dX1_goesThrough_311 rfl (z_fvR (fun _ _ _ => rfl) (z_L8_P1 g_4)) ?_
    refine z_aload_n (q := 315) (i := 0) (x := a0) dX1_goesThrough_314 rfl rfl rfl ?_
    obtain ⟨b_5, g_6, hf⟩ := hf
    refine z_get 0 4 (q := 318) (v := .ref b_5) rfl (z_lt rfl) (z_L0_T g_1) q510 dX1_goesThrough_315 rfl (z_fvR (fun _ _ _ => rfl) g_6) ?_
    obtain ⟨g_7, hf⟩ := hf
    refine z_cVi m_X10_limit [] (b_5) (q := 321) (rc2 := rc) (rs2 := rs) (st := [.ref (b_2 + 3), .ref (a0 + 36), .ref (a0 + 9)]) dX1_goesThrough_318 rfl q1415 oV_X10_limit rfl rfl ⟨z_le rfl, z_le rfl⟩ (z_le rfl) (z_rcv_of 8 rfl (z_L8_T g_7) rfl) rfl  rfl hf (fun x_8 h_9 hf => ?_)
    obtain ⟨g_10, hf⟩ := hf
    refine z_cVv m_X9_goes [.ref (a0 + 36), .ref (b_2 + 3), .int x_8] ((a0 + 9)) (q := 324) (rc2 := rc) (rs2 := rs) (st := []) dX1_goesThrough_321 rfl q1419 oV_X9_goes rfl rfl ⟨z_le rfl, z_le rfl⟩ (z_le rfl) (z_rcv_of 7 rfl (z_L7_T g_10) rfl) rfl  rfl hf (fun h_11 hf => ?_)
    refine z_aload_n (q := 325) (i := 0) (x := a0) dX1_goesThrough_324 rfl rfl rfl ?_
    obtain ⟨g_12, hf⟩ := hf
    refine z_get 0 17 (q := 328) (v := .ref (a0 + 56)) rfl (z_lt rfl) (z_L0_T g_12) q523 dX1_goesThrough_325 rfl (z_fvR (fun _ _ _ => rfl) (z_L0_P17 g_12)) ?_
    refine z_aload_n (q := 329) (i := 0) (x := a0) dX1_goesThrough_328 rfl rfl rfl ?_
    refine z_get 0 3 (q := 332) (v := .ref (a0 + 9)) rfl (z_lt rfl) (z_L0_T g_12) q508 dX1_goesThrough_329 rfl (z_fvR (fun _ _ _ => rfl) (z_L0_P3 g_12)) ?_
    refine z_getN 7 7 (q := 335) (v := .int (h_11.I (a0 + 9) 7)) rfl (z_lt rfl) (z_L7_T (z_L0_N3 g_12)) (z_nwm q261 rfl) dX1_goesThrough_332 rfl rfl ?_
    refine z_dup2 (q := 336) dX1_goesThrough_335 rfl rfl rfl ?_
    obtain ⟨g_13, hf⟩ := hf
    refine z_iald (q := 337) (n := 4) (z_L0_A17 g_12) g_13 dX1_goesThrough_336 rfl ?_
    refine z_iconst (q := 338) (v := 1) dX1_goesThrough_337 rfl rfl ?_
    refine z_iadd (q := 339) dX1_goesThrough_338 rfl ?_
    obtain ⟨g_14, hf⟩ := hf
    refine z_iast (q := 340) (n := 4) (z_L0_A17 g_12) g_14 dX1_goesThrough_339 rfl ?_
    refine z_aload_n (q := 341) (i := 0) (x := a0) dX1_goesThrough_340 rfl rfl rfl ?_
    refine z_cVi m_X1_nextRow [] (a0) (q := 344) (rc2 := rc) (rs2 := rs) (st := []) dX1_goesThrough_341 rfl q1465 oV_X1_nextRow rfl rfl ⟨z_le rfl, z_le rfl⟩ (z_le rfl) (z_rcv_of 0 rfl (z_L0_T g_12) rfl) rfl  rfl hf (fun x_15 h_16 hf => ?_)
    refine z_if_ne (q := 347) (tgt := 188) dX1_goesThrough_344 rfl rfl (fun hc => ?_) (fun hc => ?_)
    · have hf := hf.2 hc
      refine z_prune [true, false, false, false] (ls2 := [some (.ref a0), none, none, none]) rfl ?_
      exact hf
    · have hf := hf.1 hc
      refine z_iconst (q := 348) (v := 1) dX1_goesThrough_347 rfl rfl ?_
      exact z_zret dX1_goesThrough_348 rfl (z_nb01 z_b1) hf
  · have hf := hf.2 hc
    refine z_aload_n (q := 264) (i := 0) (x := a0) dX1_goesThrough_263 rfl rfl rfl ?_
    refine z_get 0 6 (q := 267) (v := .ref (a0 + 23)) rfl (z_lt rfl) (z_L0_T g_1) q512 dX1_goesThrough_264 rfl (z_fvR (fun _ _ _ => rfl) (z_L0_P6 g_1)) ?_
    refine z_getN 9 5 (q := 270) (v := .ref (a0 + 29)) rfl (z_lt rfl) (z_L9_T (z_L0_N6 g_1)) (z_nwm q384 rfl) dX1_goesThrough_267 rfl (z_fvR (fun _ _ _ => rfl) (z_L9_P5 (z_L0_N6 g_1))) ?_
    refine z_iload_n (q := 271) (i := 3) (x := x3) dX1_goesThrough_270 rfl rfl rfl ?_
    obtain ⟨g_17, hf⟩ := hf
    refine z_zald (q := 272) (n := 48) (z_L9_A5 (z_L0_N6 g_1)) g_17 dX1_goesThrough_271 rfl ?_
    refine z_if_eq (q := 275) (tgt := 293) dX1_goesThrough_272 rfl rfl (fun hc => ?_) (fun hc => ?_)
    · have hf := hf.1 hc
      refine z_iinc (q := 296) (i := 3) (x := x3) (v := (x3 + 1)) (ls2 := [some (.ref a0), none, some (.int x2), some (.int (x3 + 1))]) dX1_goesThrough_293 rfl rfl (z_lt rfl) rfl rfl ?_
      refine z_goto (q := 252) dX1_goesThrough_296 rfl ?_
      exact hf
    · have hf := hf.2 hc
      refine z_aload_n (q := 276) (i := 0) (x := a0) dX1_goesThrough_275 rfl rfl rfl ?_
      refine z_get 0 7 (q := 279) (v := .ref (a0 + 36)) rfl (z_lt rfl) (z_L0_T g_1) q513 dX1_goesThrough_276 rfl (z_fvR (fun _ _ _ => rfl) (z_L0_P7 g_1)) ?_
      refine z_getN 9 1 (q := 282) (v := .ref (a0 + 38)) rfl (z_lt rfl) (z_L9_T (z_L0_N7 g_1)) (z_nwm q377 rfl) dX1_goesThrough_279 rfl (z_fvR (fun _ _ _ => rfl) (z_L9_P1 (z_L0_N7 g_1))) ?_
      refine z_iload_n (q := 283) (i := 3) (x := x3) dX1_goesThrough_282 rfl rfl rfl ?_
      refine z_aload_n (q := 284) (i := 0) (x := a0) dX1_goesThrough_283 rfl rfl rfl ?_
      refine z_get 0 15 (q := 287) (v := .ref (a0 + 55)) rfl (z_lt rfl) (z_L0_T g_1) q521 dX1_goesThrough_284 rfl (z_fvR (fun _ _ _ => rfl) (z_L0_P15 g_1)) ?_
      refine z_iload_n (q := 288) (i := 2) (x := x2) dX1_goesThrough_287 rfl rfl rfl ?_
      refine z_iinc (q := 291) (i := 2) (x := x2) (v := (x2 + 1)) (ls2 := [some (.ref a0), none, some (.int (x2 + 1)), some (.int x3)]) dX1_goesThrough_288 rfl rfl (z_lt rfl) rfl rfl ?_
      obtain ⟨g_18, hf⟩ := hf
      refine z_iald (q := 292) (n := 24) (z_L0_A15 g_1) g_18 dX1_goesThrough_291 rfl ?_
      obtain ⟨g_19, hf⟩ := hf
      refine z_iast (q := 293) (n := 48) (z_L9_A1 (z_L0_N7 g_1)) g_19 dX1_goesThrough_292 rfl ?_
      refine z_iinc (q := 296) (i := 3) (x := x3) (v := (x3 + 1)) (ls2 := [some (.ref a0), none, some (.int (x2 + 1)), some (.int (x3 + 1))]) dX1_goesThrough_293 rfl rfl (z_lt rfl) rfl rfl ?_
      refine z_goto (q := 252) dX1_goesThrough_296 rfl ?_
      exact hf

theorem u_X1_goesTo {l : Launch} {G : z_G} {a0 : Nat} {x1 : Int32} {h : z_H} {Q : z_Q} (hst : l.stackTraces = false)  (hf : z_L0 h a0 ∧ (x1 ≤ (h.I (a0 + 36) 14) → Q (some (.int 1)) h) ∧ (¬ x1 ≤ (h.I (a0 + 36) 14) → ∃ b_2, (h.P a0 4) = some b_2 ∧ z_L8 h b_2 ∧ z_Ct l G m_X10_limit [.ref b_2] h (z_Qi (fun x_5 h_6 => ((h.I (a0 + 36) 13) = x_5 → Q (some (.int 0)) h_6) ∧ (¬ (h.I (a0 + 36) 13) = x_5 → z_L0 h_6 a0 ∧ ∃ b_8, (h_6.P a0 4) = some b_8 ∧ z_L8 h_6 b_8 ∧ ∃ b_11, (h_6.P a0 4) = some b_11 ∧ z_L8 h_6 b_11 ∧ z_Ct l G m_X10_order [.ref b_11] h_6 (z_Qi (fun x_14 h_15 => ∃ n_16, h_15.T (a0 + 3) = (6, n_16) ∧ vp_in x_14 n_16 ∧ ∃ b_19, (h_15.P (a0 + 3) (Int32.toNatClampNeg x_14)) = some b_19 ∧ z_L0 h_15 a0 ∧ vp_in 1 5 ∧ ∃ b_23, (h_15.P (a0 + 3) (Int32.toNatClampNeg 1)) = some b_23 ∧ z_L9 h_15 (a0 + 36) ∧ z_Ct l G m_X11_turn [.ref (a0 + 36), .ref (b_8 + 3), .ref b_19, .ref b_23] h_15 (z_Qi (fun x_26 h_27 => (x_26 = 2 → Q (some (.int 0)) h_27) ∧ (¬ x_26 = 2 → z_V l G m_X1_goesTo (z_Fm G m_X1_goesTo Q) 0 0 h_27 0 [some (.ref a0), some (.int x1)] [])))))))))) : z_Ct l G m_X1_goesTo [.ref a0, .int x1] h Q := by
  refine z_Ct.of (ls := [some (.ref a0), some (.int x1)]) hst rfl (by show plainName yX1_goesTo.cls = true; decide +kernel) (z_le rfl) rfl ?_
  show z_V l G m_X1_goesTo (z_Fm G m_X1_goesTo Q) 0 0 h 0 [some (.ref a0), some (.int x1)] []
  refine z_aload_n (q := 1) (i := 0) (x := a0) dX1_goesTo_0 rfl rfl rfl ?_
  obtain ⟨g_1, hf⟩ := hf
  refine z_get 0 7 (q := 4) (v := .ref (a0 + 36)) rfl (z_lt rfl) (z_L0_T g_1) q513 dX1_goesTo_1 rfl (z_fvR (fun _ _ _ => rfl) (z_L0_P7 g_1)) ?_
  refine z_getN 9 14 (q := 7) (v := .int (h.I (a0 + 36) 14)) rfl (z_lt rfl) (z_L9_T (z_L0_N7 g_1)) (z_nwm q408 rfl) dX1_goesTo_4 rfl rfl ?_
  refine z_iload_n (q := 8) (i := 1) (x := x1) dX1_goesTo_7 rfl rfl rfl ?_
  refine z_icmp_ge (q := 11) (tgt := 66) dX1_goesTo_8 rfl rfl (fun hc => ?_) (fun hc => ?_)
  · have hf := hf.1 hc
    refine z_iconst (q := 67) (v := 1) dX1_goesTo_66 rfl rfl ?_
    exact z_zret dX1_goesTo_67 rfl (z_nb01 z_b1) hf
  · have hf := hf.2 hc
    refine z_aload_n (q := 12) (i := 0) (x := a0) dX1_goesTo_11 rfl rfl rfl ?_
    refine z_get 0 7 (q := 15) (v := .ref (a0 + 36)) rfl (z_lt rfl) (z_L0_T g_1) q513 dX1_goesTo_12 rfl (z_fvR (fun _ _ _ => rfl) (z_L0_P7 g_1)) ?_
    refine z_getN 9 13 (q := 18) (v := .int (h.I (a0 + 36) 13)) rfl (z_lt rfl) (z_L9_T (z_L0_N7 g_1)) (z_nwm q405 rfl) dX1_goesTo_15 rfl rfl ?_
    refine z_aload_n (q := 19) (i := 0) (x := a0) dX1_goesTo_18 rfl rfl rfl ?_
    obtain ⟨b_2, g_3, hf⟩ := hf
    refine z_get 0 4 (q := 22) (v := .ref b_2) rfl (z_lt rfl) (z_L0_T g_1) q510 dX1_goesTo_19 rfl (z_fvR (fun _ _ _ => rfl) g_3) ?_
    obtain ⟨g_4, hf⟩ := hf
    refine z_cVi m_X10_limit [] (b_2) (q := 25) (rc2 := 0) (rs2 := 0) (st := [.int (h.I (a0 + 36) 13)]) dX1_goesTo_22 rfl q1415 oV_X10_limit rfl rfl ⟨z_le rfl, z_le rfl⟩ (z_le rfl) (z_rcv_of 8 rfl (z_L8_T g_4) rfl) rfl  rfl hf (fun x_5 h_6 hf => ?_)
    refine z_icmp_eq (q := 28) (tgt := 64) dX1_goesTo_25 rfl rfl (fun hc => ?_) (fun hc => ?_)
    · have hf := hf.1 hc
      refine z_iconst (q := 65) (v := 0) dX1_goesTo_64 rfl rfl ?_
      exact z_zret dX1_goesTo_65 rfl (z_nb01 z_b0) hf
    · have hf := hf.2 hc
      refine z_aload_n (q := 29) (i := 0) (x := a0) dX1_goesTo_28 rfl rfl rfl ?_
      obtain ⟨g_7, hf⟩ := hf
      refine z_get 0 7 (q := 32) (v := .ref (a0 + 36)) rfl (z_lt rfl) (z_L0_T g_7) q513 dX1_goesTo_29 rfl (z_fvR (fun _ _ _ => rfl) (z_L0_P7 g_7)) ?_
      refine z_aload_n (q := 33) (i := 0) (x := a0) dX1_goesTo_32 rfl rfl rfl ?_
      obtain ⟨b_8, g_9, hf⟩ := hf
      refine z_get 0 4 (q := 36) (v := .ref b_8) rfl (z_lt rfl) (z_L0_T g_7) q510 dX1_goesTo_33 rfl (z_fvR (fun _ _ _ => rfl) g_9) ?_
      obtain ⟨g_10, hf⟩ := hf
      refine z_getN 8 1 (q := 39) (v := .ref (b_8 + 3)) rfl (z_lt rfl) (z_L8_T g_10) (z_nwm q334 rfl) dX1_goesTo_36 rfl (z_fvR (fun _ _ _ => rfl) (z_L8_P1 g_10)) ?_
      refine z_aload_n (q := 40) (i := 0) (x := a0) dX1_goesTo_39 rfl rfl rfl ?_
      refine z_get 0 2 (q := 43) (v := .ref (a0 + 3)) rfl (z_lt rfl) (z_L0_T g_7) q507 dX1_goesTo_40 rfl (z_fvR (fun _ _ _ => rfl) (z_L0_P2 g_7)) ?_
      refine z_aload_n (q := 44) (i := 0) (x := a0) dX1_goesTo_43 rfl rfl rfl ?_
      obtain ⟨b_11, g_12, hf⟩ := hf
      refine z_get 0 4 (q := 47) (v := .ref b_11) rfl (z_lt rfl) (z_L0_T g_7) q510 dX1_goesTo_44 rfl (z_fvR (fun _ _ _ => rfl) g_12) ?_
      obtain ⟨g_13, hf⟩ := hf
      refine z_cVi m_X10_order [] (b_11) (q := 50) (rc2 := 0) (rs2 := 0) (st := [.ref (a0 + 3), .ref (b_8 + 3), .ref (a0 + 36)]) dX1_goesTo_47 rfl q1364 oV_X10_order rfl rfl ⟨z_le rfl, z_le rfl⟩ (z_le rfl) (z_rcv_of 8 rfl (z_L8_T g_13) rfl) rfl  rfl hf (fun x_14 h_15 hf => ?_)
      obtain ⟨n_16, g_17, hf⟩ := hf
      obtain ⟨g_18, hf⟩ := hf
      obtain ⟨b_19, g_20, hf⟩ := hf
      refine z_aald (q := 51) (n := n_16) (v := .ref b_19) g_17 (by decide) g_18 dX1_goesTo_50 rfl (z_rfR g_20) ?_
      refine z_aload_n (q := 52) (i := 0) (x := a0) dX1_goesTo_51 rfl rfl rfl ?_
      obtain ⟨g_21, hf⟩ := hf
      refine z_get 0 2 (q := 55) (v := .ref (a0 + 3)) rfl (z_lt rfl) (z_L0_T g_21) q507 dX1_goesTo_52 rfl (z_fvR (fun _ _ _ => rfl) (z_L0_P2 g_21)) ?_
      refine z_iconst (q := 56) (v := 1) dX1_goesTo_55 rfl rfl ?_
      obtain ⟨g_22, hf⟩ := hf
      obtain ⟨b_23, g_24, hf⟩ := hf
      refine z_aald (q := 57) (n := 5) (v := .ref b_23) (z_L0_A2 g_21) (by decide) g_22 dX1_goesTo_56 rfl (z_rfR g_24) ?_
      obtain ⟨g_25, hf⟩ := hf
      refine z_cVi m_X11_turn [.ref (b_8 + 3), .ref b_19, .ref b_23] ((a0 + 36)) (q := 60) (rc2 := 0) (rs2 := 0) (st := []) dX1_goesTo_57 rfl q1493 oV_X11_turn rfl rfl ⟨z_le rfl, z_le rfl⟩ (z_le rfl) (z_rcv_of 9 rfl (z_L9_T g_25) rfl) rfl  rfl hf (fun x_26 h_27 hf => ?_)
      refine z_iconst (q := 61) (v := 2) dX1_goesTo_60 rfl rfl ?_
      refine z_icmp_ne (q := 64) (tgt := 0) dX1_goesTo_61 rfl rfl (fun hc => ?_) (fun hc => ?_)
      · have hf := hf.2 hc
        exact hf
      · have hf := hf.1 hc
        refine z_iconst (q := 65) (v := 0) dX1_goesTo_64 rfl rfl ?_
        exact z_zret dX1_goesTo_65 rfl (z_nb01 z_b0) hf

theorem b_X1_goesTo_0 {l : Launch} {G : z_G} {a0 : Nat} {x1 : Int32} {h : z_H} {Q : z_Q}  (hf : z_L0 h a0 ∧ (x1 ≤ (h.I (a0 + 36) 14) → Q (some (.int 1)) h) ∧ (¬ x1 ≤ (h.I (a0 + 36) 14) → ∃ b_2, (h.P a0 4) = some b_2 ∧ z_L8 h b_2 ∧ z_Ct l G m_X10_limit [.ref b_2] h (z_Qi (fun x_5 h_6 => ((h.I (a0 + 36) 13) = x_5 → Q (some (.int 0)) h_6) ∧ (¬ (h.I (a0 + 36) 13) = x_5 → z_L0 h_6 a0 ∧ ∃ b_8, (h_6.P a0 4) = some b_8 ∧ z_L8 h_6 b_8 ∧ ∃ b_11, (h_6.P a0 4) = some b_11 ∧ z_L8 h_6 b_11 ∧ z_Ct l G m_X10_order [.ref b_11] h_6 (z_Qi (fun x_14 h_15 => ∃ n_16, h_15.T (a0 + 3) = (6, n_16) ∧ vp_in x_14 n_16 ∧ ∃ b_19, (h_15.P (a0 + 3) (Int32.toNatClampNeg x_14)) = some b_19 ∧ z_L0 h_15 a0 ∧ vp_in 1 5 ∧ ∃ b_23, (h_15.P (a0 + 3) (Int32.toNatClampNeg 1)) = some b_23 ∧ z_L9 h_15 (a0 + 36) ∧ z_Ct l G m_X11_turn [.ref (a0 + 36), .ref (b_8 + 3), .ref b_19, .ref b_23] h_15 (z_Qi (fun x_26 h_27 => (x_26 = 2 → Q (some (.int 0)) h_27) ∧ (¬ x_26 = 2 → z_V l G m_X1_goesTo (z_Fm G m_X1_goesTo Q) 0 0 h_27 0 [some (.ref a0), some (.int x1)] [])))))))))) : z_V l G m_X1_goesTo (z_Fm G m_X1_goesTo Q) 0 0 h 0 [some (.ref a0), some (.int x1)] [] := by
  refine z_aload_n (q := 1) (i := 0) (x := a0) dX1_goesTo_0 rfl rfl rfl ?_
  obtain ⟨g_1, hf⟩ := hf
  refine z_get 0 7 (q := 4) (v := .ref (a0 + 36)) rfl (z_lt rfl) (z_L0_T g_1) q513 dX1_goesTo_1 rfl (z_fvR (fun _ _ _ => rfl) (z_L0_P7 g_1)) ?_
  refine z_getN 9 14 (q := 7) (v := .int (h.I (a0 + 36) 14)) rfl (z_lt rfl) (z_L9_T (z_L0_N7 g_1)) (z_nwm q408 rfl) dX1_goesTo_4 rfl rfl ?_
  refine z_iload_n (q := 8) (i := 1) (x := x1) dX1_goesTo_7 rfl rfl rfl ?_
  refine z_icmp_ge (q := 11) (tgt := 66) dX1_goesTo_8 rfl rfl (fun hc => ?_) (fun hc => ?_)
  · have hf := hf.1 hc
    refine z_iconst (q := 67) (v := 1) dX1_goesTo_66 rfl rfl ?_
    exact z_zret dX1_goesTo_67 rfl (z_nb01 z_b1) hf
  · have hf := hf.2 hc
    refine z_aload_n (q := 12) (i := 0) (x := a0) dX1_goesTo_11 rfl rfl rfl ?_
    refine z_get 0 7 (q := 15) (v := .ref (a0 + 36)) rfl (z_lt rfl) (z_L0_T g_1) q513 dX1_goesTo_12 rfl (z_fvR (fun _ _ _ => rfl) (z_L0_P7 g_1)) ?_
    refine z_getN 9 13 (q := 18) (v := .int (h.I (a0 + 36) 13)) rfl (z_lt rfl) (z_L9_T (z_L0_N7 g_1)) (z_nwm q405 rfl) dX1_goesTo_15 rfl rfl ?_
    refine z_aload_n (q := 19) (i := 0) (x := a0) dX1_goesTo_18 rfl rfl rfl ?_
    obtain ⟨b_2, g_3, hf⟩ := hf
    refine z_get 0 4 (q := 22) (v := .ref b_2) rfl (z_lt rfl) (z_L0_T g_1) q510 dX1_goesTo_19 rfl (z_fvR (fun _ _ _ => rfl) g_3) ?_
    obtain ⟨g_4, hf⟩ := hf
    refine z_cVi m_X10_limit [] (b_2) (q := 25) (rc2 := 0) (rs2 := 0) (st := [.int (h.I (a0 + 36) 13)]) dX1_goesTo_22 rfl q1415 oV_X10_limit rfl rfl ⟨z_le rfl, z_le rfl⟩ (z_le rfl) (z_rcv_of 8 rfl (z_L8_T g_4) rfl) rfl  rfl hf (fun x_5 h_6 hf => ?_)
    refine z_icmp_eq (q := 28) (tgt := 64) dX1_goesTo_25 rfl rfl (fun hc => ?_) (fun hc => ?_)
    · have hf := hf.1 hc
      refine z_iconst (q := 65) (v := 0) dX1_goesTo_64 rfl rfl ?_
      exact z_zret dX1_goesTo_65 rfl (z_nb01 z_b0) hf
    · have hf := hf.2 hc
      refine z_aload_n (q := 29) (i := 0) (x := a0) dX1_goesTo_28 rfl rfl rfl ?_
      obtain ⟨g_7, hf⟩ := hf
      refine z_get 0 7 (q := 32) (v := .ref (a0 + 36)) rfl (z_lt rfl) (z_L0_T g_7) q513 dX1_goesTo_29 rfl (z_fvR (fun _ _ _ => rfl) (z_L0_P7 g_7)) ?_
      refine z_aload_n (q := 33) (i := 0) (x := a0) dX1_goesTo_32 rfl rfl rfl ?_
      obtain ⟨b_8, g_9, hf⟩ := hf
      refine z_get 0 4 (q := 36) (v := .ref b_8) rfl (z_lt rfl) (z_L0_T g_7) q510 dX1_goesTo_33 rfl (z_fvR (fun _ _ _ => rfl) g_9) ?_
      obtain ⟨g_10, hf⟩ := hf
      refine z_getN 8 1 (q := 39) (v := .ref (b_8 + 3)) rfl (z_lt rfl) (z_L8_T g_10) (z_nwm q334 rfl) dX1_goesTo_36 rfl (z_fvR (fun _ _ _ => rfl) (z_L8_P1 g_10)) ?_
      refine z_aload_n (q := 40) (i := 0) (x := a0) dX1_goesTo_39 rfl rfl rfl ?_
      refine z_get 0 2 (q := 43) (v := .ref (a0 + 3)) rfl (z_lt rfl) (z_L0_T g_7) q507 dX1_goesTo_40 rfl (z_fvR (fun _ _ _ => rfl) (z_L0_P2 g_7)) ?_
      refine z_aload_n (q := 44) (i := 0) (x := a0) dX1_goesTo_43 rfl rfl rfl ?_
      obtain ⟨b_11, g_12, hf⟩ := hf
      refine z_get 0 4 (q := 47) (v := .ref b_11) rfl (z_lt rfl) (z_L0_T g_7) q510 dX1_goesTo_44 rfl (z_fvR (fun _ _ _ => rfl) g_12) ?_
      obtain ⟨g_13, hf⟩ := hf
      refine z_cVi m_X10_order [] (b_11) (q := 50) (rc2 := 0) (rs2 := 0) (st := [.ref (a0 + 3), .ref (b_8 + 3), .ref (a0 + 36)]) dX1_goesTo_47 rfl q1364 oV_X10_order rfl rfl ⟨z_le rfl, z_le rfl⟩ (z_le rfl) (z_rcv_of 8 rfl (z_L8_T g_13) rfl) rfl  rfl hf (fun x_14 h_15 hf => ?_)
      obtain ⟨n_16, g_17, hf⟩ := hf
      obtain ⟨g_18, hf⟩ := hf
      obtain ⟨b_19, g_20, hf⟩ := hf
      refine z_aald (q := 51) (n := n_16) (v := .ref b_19) g_17 (by decide) g_18 dX1_goesTo_50 rfl (z_rfR g_20) ?_
      refine z_aload_n (q := 52) (i := 0) (x := a0) dX1_goesTo_51 rfl rfl rfl ?_
      obtain ⟨g_21, hf⟩ := hf
      refine z_get 0 2 (q := 55) (v := .ref (a0 + 3)) rfl (z_lt rfl) (z_L0_T g_21) q507 dX1_goesTo_52 rfl (z_fvR (fun _ _ _ => rfl) (z_L0_P2 g_21)) ?_
      refine z_iconst (q := 56) (v := 1) dX1_goesTo_55 rfl rfl ?_
      obtain ⟨g_22, hf⟩ := hf
      obtain ⟨b_23, g_24, hf⟩ := hf
      refine z_aald (q := 57) (n := 5) (v := .ref b_23) (z_L0_A2 g_21) (by decide) g_22 dX1_goesTo_56 rfl (z_rfR g_24) ?_
      obtain ⟨g_25, hf⟩ := hf
      refine z_cVi m_X11_turn [.ref (b_8 + 3), .ref b_19, .ref b_23] ((a0 + 36)) (q := 60) (rc2 := 0) (rs2 := 0) (st := []) dX1_goesTo_57 rfl q1493 oV_X11_turn rfl rfl ⟨z_le rfl, z_le rfl⟩ (z_le rfl) (z_rcv_of 9 rfl (z_L9_T g_25) rfl) rfl  rfl hf (fun x_26 h_27 hf => ?_)
      refine z_iconst (q := 61) (v := 2) dX1_goesTo_60 rfl rfl ?_
      refine z_icmp_ne (q := 64) (tgt := 0) dX1_goesTo_61 rfl rfl (fun hc => ?_) (fun hc => ?_)
      · have hf := hf.2 hc
        exact hf
      · have hf := hf.1 hc
        refine z_iconst (q := 65) (v := 0) dX1_goesTo_64 rfl rfl ?_
        exact z_zret dX1_goesTo_65 rfl (z_nb01 z_b0) hf

theorem u_X1_goesToHeap {l : Launch} {G : z_G} {a0 : Nat} {a1 : Nat} {h : z_H} {Q : z_Q} (hst : l.stackTraces = false)  (hf : z_L9 h a1 ∧ (0 ≤ (h.I a1 12) → Q (some (.int 0)) h) ∧ (¬ 0 ≤ (h.I a1 12) → z_L0 h a0 ∧ ∃ b_3, (h.P a0 4) = some b_3 ∧ z_L8 h b_3 ∧ z_Ct l G m_X11_turned [.ref a1, .ref (b_3 + 3)] h (z_Qi (fun x_6 h_7 => (x_6 = 0 → z_V l G m_X1_goesToHeap (z_Fm G m_X1_goesToHeap Q) 0 0 h_7 0 [some (.ref a0), some (.ref a1)] []) ∧ (¬ x_6 = 0 → Q (some (.int 1)) h_7))))) : z_Ct l G m_X1_goesToHeap [.ref a0, .ref a1] h Q := by
  refine z_Ct.of (ls := [some (.ref a0), some (.ref a1)]) hst rfl (by show plainName yX1_goesToHeap.cls = true; decide +kernel) (z_le rfl) rfl ?_
  show z_V l G m_X1_goesToHeap (z_Fm G m_X1_goesToHeap Q) 0 0 h 0 [some (.ref a0), some (.ref a1)] []
  refine z_aload_n (q := 1) (i := 1) (x := a1) dX1_goesToHeap_0 rfl rfl rfl ?_
  obtain ⟨g_1, hf⟩ := hf
  refine z_getN 9 12 (q := 4) (v := .int (h.I a1 12)) rfl (z_lt rfl) (z_L9_T g_1) (z_nwm q402 rfl) dX1_goesToHeap_1 rfl rfl ?_
  refine z_if_ge (q := 7) (tgt := 23) dX1_goesToHeap_4 rfl rfl (fun hc => ?_) (fun hc => ?_)
  · have hf := hf.1 hc
    refine z_iconst (q := 24) (v := 0) dX1_goesToHeap_23 rfl rfl ?_
    exact z_zret dX1_goesToHeap_24 rfl (z_nb01 z_b0) hf
  · have hf := hf.2 hc
    refine z_aload_n (q := 8) (i := 1) (x := a1) dX1_goesToHeap_7 rfl rfl rfl ?_
    refine z_aload_n (q := 9) (i := 0) (x := a0) dX1_goesToHeap_8 rfl rfl rfl ?_
    obtain ⟨g_2, hf⟩ := hf
    obtain ⟨b_3, g_4, hf⟩ := hf
    refine z_get 0 4 (q := 12) (v := .ref b_3) rfl (z_lt rfl) (z_L0_T g_2) q510 dX1_goesToHeap_9 rfl (z_fvR (fun _ _ _ => rfl) g_4) ?_
    obtain ⟨g_5, hf⟩ := hf
    refine z_getN 8 1 (q := 15) (v := .ref (b_3 + 3)) rfl (z_lt rfl) (z_L8_T g_5) (z_nwm q334 rfl) dX1_goesToHeap_12 rfl (z_fvR (fun _ _ _ => rfl) (z_L8_P1 g_5)) ?_
    refine z_cVi m_X11_turned [.ref (b_3 + 3)] (a1) (q := 18) (rc2 := 0) (rs2 := 0) (st := []) dX1_goesToHeap_15 rfl q1315 oV_X11_turned rfl rfl ⟨z_le rfl, z_le rfl⟩ (z_le rfl) (z_rcv_of 9 rfl (z_L9_T g_1) rfl) rfl  rfl hf (fun x_6 h_7 hf => ?_)
    refine z_if_eq (q := 21) (tgt := 0) dX1_goesToHeap_18 rfl rfl (fun hc => ?_) (fun hc => ?_)
    · have hf := hf.1 hc
      exact hf
    · have hf := hf.2 hc
      refine z_iconst (q := 22) (v := 1) dX1_goesToHeap_21 rfl rfl ?_
      exact z_zret dX1_goesToHeap_22 rfl (z_nb01 z_b1) hf

theorem b_X1_goesToHeap_0 {l : Launch} {G : z_G} {a0 : Nat} {a1 : Nat} {h : z_H} {Q : z_Q}  (hf : z_L9 h a1 ∧ (0 ≤ (h.I a1 12) → Q (some (.int 0)) h) ∧ (¬ 0 ≤ (h.I a1 12) → z_L0 h a0 ∧ ∃ b_3, (h.P a0 4) = some b_3 ∧ z_L8 h b_3 ∧ z_Ct l G m_X11_turned [.ref a1, .ref (b_3 + 3)] h (z_Qi (fun x_6 h_7 => (x_6 = 0 → z_V l G m_X1_goesToHeap (z_Fm G m_X1_goesToHeap Q) 0 0 h_7 0 [some (.ref a0), some (.ref a1)] []) ∧ (¬ x_6 = 0 → Q (some (.int 1)) h_7))))) : z_V l G m_X1_goesToHeap (z_Fm G m_X1_goesToHeap Q) 0 0 h 0 [some (.ref a0), some (.ref a1)] [] := by
  refine z_aload_n (q := 1) (i := 1) (x := a1) dX1_goesToHeap_0 rfl rfl rfl ?_
  obtain ⟨g_1, hf⟩ := hf
  refine z_getN 9 12 (q := 4) (v := .int (h.I a1 12)) rfl (z_lt rfl) (z_L9_T g_1) (z_nwm q402 rfl) dX1_goesToHeap_1 rfl rfl ?_
  refine z_if_ge (q := 7) (tgt := 23) dX1_goesToHeap_4 rfl rfl (fun hc => ?_) (fun hc => ?_)
  · have hf := hf.1 hc
    refine z_iconst (q := 24) (v := 0) dX1_goesToHeap_23 rfl rfl ?_
    exact z_zret dX1_goesToHeap_24 rfl (z_nb01 z_b0) hf
  · have hf := hf.2 hc
    refine z_aload_n (q := 8) (i := 1) (x := a1) dX1_goesToHeap_7 rfl rfl rfl ?_
    refine z_aload_n (q := 9) (i := 0) (x := a0) dX1_goesToHeap_8 rfl rfl rfl ?_
    obtain ⟨g_2, hf⟩ := hf
    obtain ⟨b_3, g_4, hf⟩ := hf
    refine z_get 0 4 (q := 12) (v := .ref b_3) rfl (z_lt rfl) (z_L0_T g_2) q510 dX1_goesToHeap_9 rfl (z_fvR (fun _ _ _ => rfl) g_4) ?_
    obtain ⟨g_5, hf⟩ := hf
    refine z_getN 8 1 (q := 15) (v := .ref (b_3 + 3)) rfl (z_lt rfl) (z_L8_T g_5) (z_nwm q334 rfl) dX1_goesToHeap_12 rfl (z_fvR (fun _ _ _ => rfl) (z_L8_P1 g_5)) ?_
    refine z_cVi m_X11_turned [.ref (b_3 + 3)] (a1) (q := 18) (rc2 := 0) (rs2 := 0) (st := []) dX1_goesToHeap_15 rfl q1315 oV_X11_turned rfl rfl ⟨z_le rfl, z_le rfl⟩ (z_le rfl) (z_rcv_of 9 rfl (z_L9_T g_1) rfl) rfl  rfl hf (fun x_6 h_7 hf => ?_)
    refine z_if_eq (q := 21) (tgt := 0) dX1_goesToHeap_18 rfl rfl (fun hc => ?_) (fun hc => ?_)
    · have hf := hf.1 hc
      exact hf
    · have hf := hf.2 hc
      refine z_iconst (q := 22) (v := 1) dX1_goesToHeap_21 rfl rfl ?_
      exact z_zret dX1_goesToHeap_22 rfl (z_nb01 z_b1) hf

theorem u_X1_heap {l : Launch} {G : z_G} {a0 : Nat} {x1 : Int32} {h : z_H} {Q : z_Q} (hst : l.stackTraces = false)  (hf : z_L0 h a0 ∧ z_Ct l G m_X1_in [.int x1, .int 0, .int ((h.I (a0 + 23) 8) - 1)] h (z_Qi (fun x_2 h_3 => z_L0 h_3 a0 ∧ ((x_2 = 0 → True) ∧ (¬ x_2 = 0 → vp_in x1 48 ∧ True)) ∧ Q (some (.int (if x_2 = 0 then (-1) else (h_3.I (a0 + 26) (Int32.toNatClampNeg x1))))) h_3))) : z_Ct l G m_X1_heap [.ref a0, .int x1] h Q := by
  refine z_Ct.of (ls := [some (.ref a0), some (.int x1)]) hst rfl (by show plainName yX1_heap.cls = true; decide +kernel) (z_le rfl) rfl ?_
  show z_V l G m_X1_heap (z_Fm G m_X1_heap Q) 0 0 h 0 [some (.ref a0), some (.int x1)] []
  refine z_iload_n (q := 1) (i := 1) (x := x1) dX1_heap_0 rfl rfl rfl ?_
  refine z_iconst (q := 2) (v := 0) dX1_heap_1 rfl rfl ?_
  refine z_aload_n (q := 3) (i := 0) (x := a0) dX1_heap_2 rfl rfl rfl ?_
  obtain ⟨g_1, hf⟩ := hf
  refine z_get 0 6 (q := 6) (v := .ref (a0 + 23)) rfl (z_lt rfl) (z_L0_T g_1) q512 dX1_heap_3 rfl (z_fvR (fun _ _ _ => rfl) (z_L0_P6 g_1)) ?_
  refine z_getN 9 8 (q := 9) (v := .int (h.I (a0 + 23) 8)) rfl (z_lt rfl) (z_L9_T (z_L0_N6 g_1)) (z_nwm q392 rfl) dX1_heap_6 rfl rfl ?_
  refine z_iconst (q := 10) (v := 1) dX1_heap_9 rfl rfl ?_
  refine z_isub (q := 11) dX1_heap_10 rfl ?_
  refine z_cSi m_X1_in [.int x1, .int 0, .int ((h.I (a0 + 23) 8) - 1)] (q := 14) (rc2 := 0) (rs2 := 0) (st := []) dX1_heap_11 rfl q1259 oS_X1_in rfl rfl ⟨z_le rfl, z_le rfl⟩ (z_le rfl) rfl  rfl hf (fun x_2 h_3 hf => ?_)
  obtain ⟨g_4, hf⟩ := hf
  obtain ⟨hsc, hf⟩ := hf
  have hk : z_V l G m_X1_heap (z_Fm G m_X1_heap Q) 0 0 h_3 30 [some (.ref a0), some (.int x1)] [.int (if x_2 = 0 then (-1) else (h_3.I (a0 + 26) (Int32.toNatClampNeg x1)))] := by
    exact z_iret dX1_heap_30 rfl hf
  refine z_if_eq (q := 17) (tgt := 29) dX1_heap_14 rfl rfl (fun hc => ?_) (fun hc => ?_)
  · have hk := (z_ite hk).1 hc
    have hsc := hsc.1 hc
    refine z_iconst (q := 30) (v := (-1)) dX1_heap_29 rfl rfl ?_
    exact hk
  · have hk := (z_ite hk).2 hc
    have hsc := hsc.2 hc
    obtain ⟨g_5, hsc⟩ := hsc
    refine z_aload_n (q := 18) (i := 0) (x := a0) dX1_heap_17 rfl rfl rfl ?_
    refine z_get 0 6 (q := 21) (v := .ref (a0 + 23)) rfl (z_lt rfl) (z_L0_T g_4) q512 dX1_heap_18 rfl (z_fvR (fun _ _ _ => rfl) (z_L0_P6 g_4)) ?_
    refine z_getN 9 2 (q := 24) (v := .ref (a0 + 26)) rfl (z_lt rfl) (z_L9_T (z_L0_N6 g_4)) (z_nwm q379 rfl) dX1_heap_21 rfl (z_fvR (fun _ _ _ => rfl) (z_L9_P2 (z_L0_N6 g_4))) ?_
    refine z_iload_n (q := 25) (i := 1) (x := x1) dX1_heap_24 rfl rfl rfl ?_
    refine z_iald (q := 26) (n := 48) (z_L9_A2 (z_L0_N6 g_4)) g_5 dX1_heap_25 rfl ?_
    refine z_goto (q := 30) dX1_heap_26 rfl ?_
    exact hk

theorem u_X1_in {l : Launch} {G : z_G} {x0 : Int32} {x1 : Int32} {x2 : Int32} {h : z_H} {Q : z_Q} (hst : l.stackTraces = false)  (hf : Q (some (.int (if x0 < x1 then 0 else (if x2 < x0 then 0 else 1)))) h) : z_Ct l G m_X1_in [.int x0, .int x1, .int x2] h Q := by
  refine z_Ct.of (ls := [some (.int x0), some (.int x1), some (.int x2)]) hst rfl (by show plainName yX1_in.cls = true; decide +kernel) (z_le rfl) rfl ?_
  show z_V l G m_X1_in (z_Fm G m_X1_in Q) 0 0 h 0 [some (.int x0), some (.int x1), some (.int x2)] []
  refine z_iload_n (q := 1) (i := 0) (x := x0) dX1_in_0 rfl rfl rfl ?_
  refine z_iload_n (q := 2) (i := 1) (x := x1) dX1_in_1 rfl rfl rfl ?_
  have hk : z_V l G m_X1_in (z_Fm G m_X1_in Q) 0 0 h 15 [some (.int x0), some (.int x1), some (.int x2)] [.int (if x0 < x1 then 0 else (if x2 < x0 then 0 else 1))] := by
    exact z_zret dX1_in_15 rfl (z_nb01 (z_bif z_b0 (z_bif z_b0 z_b1))) hf
  refine z_icmp_lt (q := 5) (tgt := 14) dX1_in_2 rfl rfl (fun hc => ?_) (fun hc => ?_)
  · have hk := (z_ite hk).1 hc
    refine z_iconst (q := 15) (v := 0) dX1_in_14 rfl rfl ?_
    exact hk
  · have hk := (z_ite hk).2 hc
    refine z_iload_n (q := 6) (i := 0) (x := x0) dX1_in_5 rfl rfl rfl ?_
    refine z_iload_n (q := 7) (i := 2) (x := x2) dX1_in_6 rfl rfl rfl ?_
    refine z_icmp_gt (q := 10) (tgt := 14) dX1_in_7 rfl rfl (fun hc => ?_) (fun hc => ?_)
    · have hk := (z_ite hk).1 hc
      refine z_iconst (q := 15) (v := 0) dX1_in_14 rfl rfl ?_
      exact hk
    · have hk := (z_ite hk).2 hc
      refine z_iconst (q := 11) (v := 1) dX1_in_10 rfl rfl ?_
      refine z_goto (q := 15) dX1_in_11 rfl ?_
      exact hk

theorem u_X1_isKind {l : Launch} {G : z_G} {a0 : Nat} {x1 : Int32} {h : z_H} {Q : z_Q} (hst : l.stackTraces = false)  (hf : z_L0 h a0 ∧ z_Ct l G m_X1_kinds [.ref a0] h (z_Qi (fun x_2 h_3 => z_Ct l G m_X1_in [.int x1, .int 0, .int (x_2 - 1)] h_3 (z_Qi (fun x_4 h_5 => (x_4 = 0 ∨ x_4 = 1) ∧ Q (some (.int x_4)) h_5))))) : z_Ct l G m_X1_isKind [.ref a0, .int x1] h Q := by
  refine z_Ct.of (ls := [some (.ref a0), some (.int x1)]) hst rfl (by show plainName yX1_isKind.cls = true; decide +kernel) (z_le rfl) rfl ?_
  show z_V l G m_X1_isKind (z_Fm G m_X1_isKind Q) 0 0 h 0 [some (.ref a0), some (.int x1)] []
  refine z_iload_n (q := 1) (i := 1) (x := x1) dX1_isKind_0 rfl rfl rfl ?_
  refine z_iconst (q := 2) (v := 0) dX1_isKind_1 rfl rfl ?_
  refine z_aload_n (q := 3) (i := 0) (x := a0) dX1_isKind_2 rfl rfl rfl ?_
  obtain ⟨g_1, hf⟩ := hf
  refine z_cVi m_X1_kinds [] (a0) (q := 6) (rc2 := 0) (rs2 := 0) (st := [.int 0, .int x1]) dX1_isKind_3 rfl q1254 oV_X1_kinds rfl rfl ⟨z_le rfl, z_le rfl⟩ (z_le rfl) (z_rcv_of 0 rfl (z_L0_T g_1) rfl) rfl  rfl hf (fun x_2 h_3 hf => ?_)
  refine z_iconst (q := 7) (v := 1) dX1_isKind_6 rfl rfl ?_
  refine z_isub (q := 8) dX1_isKind_7 rfl ?_
  refine z_cSi m_X1_in [.int x1, .int 0, .int (x_2 - 1)] (q := 11) (rc2 := 0) (rs2 := 0) (st := []) dX1_isKind_8 rfl q1259 oS_X1_in rfl rfl ⟨z_le rfl, z_le rfl⟩ (z_le rfl) rfl  rfl hf (fun x_4 h_5 hf => ?_)
  obtain ⟨g_6, hf⟩ := hf
  exact z_zret dX1_isKind_11 rfl (z_nb01 g_6) hf

theorem u_X1_isSide {l : Launch} {G : z_G} {x0 : Int32} {h : z_H} {Q : z_Q} (hst : l.stackTraces = false)  (hf : z_Ct l G m_X1_in [.int x0, .int 0, .int 1] h (z_Qi (fun x_1 h_2 => (x_1 = 0 ∨ x_1 = 1) ∧ Q (some (.int x_1)) h_2))) : z_Ct l G m_X1_isSide [.int x0] h Q := by
  refine z_Ct.of (ls := [some (.int x0)]) hst rfl (by show plainName yX1_isSide.cls = true; decide +kernel) (z_le rfl) rfl ?_
  show z_V l G m_X1_isSide (z_Fm G m_X1_isSide Q) 0 0 h 0 [some (.int x0)] []
  refine z_iload_n (q := 1) (i := 0) (x := x0) dX1_isSide_0 rfl rfl rfl ?_
  refine z_iconst (q := 2) (v := 0) dX1_isSide_1 rfl rfl ?_
  refine z_iconst (q := 3) (v := 1) dX1_isSide_2 rfl rfl ?_
  refine z_cSi m_X1_in [.int x0, .int 0, .int 1] (q := 6) (rc2 := 0) (rs2 := 0) (st := []) dX1_isSide_3 rfl q1259 oS_X1_in rfl rfl ⟨z_le rfl, z_le rfl⟩ (z_le rfl) rfl  rfl hf (fun x_1 h_2 hf => ?_)
  obtain ⟨g_3, hf⟩ := hf
  exact z_zret dX1_isSide_6 rfl (z_nb01 g_3) hf

theorem u_X1_keeps {l : Launch} {G : z_G} {a0 : Nat} {h : z_H} {Q : z_Q} (hst : l.stackTraces = false)  (hf : z_L0 h a0 ∧ ((h.I a0 14) = 16 → vp_in 0 16 ∧ ∃ b_3, (h.P (a0 + 54) (Int32.toNatClampNeg 0)) = some b_3 ∧ z_V l G m_X1_keeps (z_Fm G m_X1_keeps Q) 61 3458 h 18 [some (.ref a0), some (.ref b_3), some (.int 0)] []) ∧ (¬ (h.I a0 14) = 16 → z_V l G m_X1_keeps (z_Fm G m_X1_keeps Q) 61 3458 h 64 [some (.ref a0), none, none] [])) : z_Ct l G m_X1_keeps [.ref a0] h Q := by
  refine z_Ct.of (ls := [some (.ref a0), none, none]) hst rfl (by show plainName yX1_keeps.cls = true; decide +kernel) (z_le rfl) rfl ?_
  show z_V l G m_X1_keeps (z_Fm G m_X1_keeps Q) 61 3458 h 0 [some (.ref a0), none, none] []
  refine z_aload_n (q := 1) (i := 0) (x := a0) dX1_keeps_0 rfl rfl rfl ?_
  obtain ⟨g_1, hf⟩ := hf
  refine z_get 0 14 (q := 4) (v := .int (h.I a0 14)) rfl (z_lt rfl) (z_L0_T g_1) q520 dX1_keeps_1 rfl rfl ?_
  refine z_bipush (q := 6) (v := 16) dX1_keeps_4 (by decide) rfl ?_
  refine z_icmp_ne (q := 9) (tgt := 64) dX1_keeps_6 rfl rfl (fun hc => ?_) (fun hc => ?_)
  · have hf := hf.2 hc
    exact hf
  · have hf := hf.1 hc
    refine z_aload_n (q := 10) (i := 0) (x := a0) dX1_keeps_9 rfl rfl rfl ?_
    refine z_get 0 13 (q := 13) (v := .ref (a0 + 54)) rfl (z_lt rfl) (z_L0_T g_1) q519 dX1_keeps_10 rfl (z_fvR (fun _ _ _ => rfl) (z_L0_P13 g_1)) ?_
    refine z_iconst (q := 14) (v := 0) dX1_keeps_13 rfl rfl ?_
    obtain ⟨g_2, hf⟩ := hf
    obtain ⟨b_3, g_4, hf⟩ := hf
    refine z_aald (q := 15) (n := 16) (v := .ref b_3) (z_L0_A13 g_1) (by decide) g_2 dX1_keeps_14 rfl (z_rfR g_4) ?_
    refine z_astore_n (q := 16) (i := 1) (ls2 := [some (.ref a0), some (.ref b_3), none]) (x := b_3) dX1_keeps_15 rfl (z_lt rfl) rfl rfl ?_
    refine z_iconst (q := 17) (v := 0) dX1_keeps_16 rfl rfl ?_
    refine z_istore_n (q := 18) (i := 2) (ls2 := [some (.ref a0), some (.ref b_3), some (.int 0)]) (x := 0) dX1_keeps_17 rfl (z_lt rfl) rfl rfl ?_
    exact hf

theorem b_X1_keeps_64 {l : Launch} {G : z_G} {rc rs : Nat} {a0 : Nat} {h : z_H} {Q : z_Q}  (hf : z_L0 h a0 ∧ vp_in (h.I a0 14) 16 ∧ ((h.P (a0 + 54) (Int32.toNatClampNeg (h.I a0 14))) = none → ∃ rc_5, rc = rc_5 + 1 ∧ ∃ rs_7, rs = rs_7 + 24 ∧ ∃ rc_9, rc_5 = rc_9 + 12 ∧ ∃ rs_11, rs_7 = rs_11 + 362 ∧ z_Ct l G m_X11_init [.ref (h.n)] (h.nw (19, 0)) (z_Qv (fun h_13 => ∃ n_14, h_13.T (a0 + 54) = (7, n_14) ∧ vp_in (h.I a0 14) n_14 ∧ z_L9 h_13 (h.n) ∧ z_L0 (h_13.sP (a0 + 54) (Int32.toNatClampNeg (h.I a0 14)) (some (h.n))) a0 ∧ vp_in (h_13.I a0 14) 16 ∧ ∃ b_20, ((h_13.sP (a0 + 54) (Int32.toNatClampNeg (h.I a0 14)) (some (h.n))).P (a0 + 54) (Int32.toNatClampNeg (h_13.I a0 14))) = some b_20 ∧ ∃ rc_22, rc_9 = rc_22 + 48 ∧ ∃ rs_24, rs_11 = rs_24 + 3072 ∧ z_L9 (h_13.sP (a0 + 54) (Int32.toNatClampNeg (h.I a0 14)) (some (h.n))) b_20 ∧ z_Ct l G m_X11_beWhole [.ref b_20, .ref (a0 + 23)] ((h_13.sP (a0 + 54) (Int32.toNatClampNeg (h.I a0 14)) (some (h.n))).sI a0 14 ((h_13.I a0 14) + 1)) (z_Qv (fun h_27 => Q none h_27))))) ∧ (∀ b_3, (h.P (a0 + 54) (Int32.toNatClampNeg (h.I a0 14))) = some b_3 → vp_in (h.I a0 14) 16 ∧ ∃ rc_29, rc = rc_29 + 48 ∧ ∃ rs_31, rs = rs_31 + 3072 ∧ z_L9 h b_3 ∧ z_Ct l G m_X11_beWhole [.ref b_3, .ref (a0 + 23)] (h.sI a0 14 ((h.I a0 14) + 1)) (z_Qv (fun h_34 => Q none h_34)))) : z_V l G m_X1_keeps (z_Fm G m_X1_keeps Q) rc rs h 64 [some (.ref a0), none, none] [] := by
  refine z_aload_n (q := 65) (i := 0) (x := a0) dX1_keeps_64 rfl rfl rfl ?_
  obtain ⟨g_1, hf⟩ := hf
  refine z_get 0 13 (q := 68) (v := .ref (a0 + 54)) rfl (z_lt rfl) (z_L0_T g_1) q519 dX1_keeps_65 rfl (z_fvR (fun _ _ _ => rfl) (z_L0_P13 g_1)) ?_
  refine z_aload_n (q := 69) (i := 0) (x := a0) dX1_keeps_68 rfl rfl rfl ?_
  refine z_get 0 14 (q := 72) (v := .int (h.I a0 14)) rfl (z_lt rfl) (z_L0_T g_1) q520 dX1_keeps_69 rfl rfl ?_
  obtain ⟨g_2, hf⟩ := hf
  refine z_aald (q := 73) (n := 16) (v := va_rf (h.P (a0 + 54) (Int32.toNatClampNeg (h.I a0 14)))) (z_L0_A13 g_1) (by decide) g_2 dX1_keeps_72 rfl rfl ?_
  rcases z_nn (h.P (a0 + 54) (Int32.toNatClampNeg (h.I a0 14))) with hn | ⟨b_3, g_4⟩
  · have hf := hf.1 hn
    refine z_topq hn ?_
    refine z_ifnonnullN (q := 76) dX1_keeps_73 rfl ?_
    refine z_aload_n (q := 77) (i := 0) (x := a0) dX1_keeps_76 rfl rfl rfl ?_
    refine z_get 0 13 (q := 80) (v := .ref (a0 + 54)) rfl (z_lt rfl) (z_L0_T g_1) q519 dX1_keeps_77 rfl (z_fvR (fun _ _ _ => rfl) (z_L0_P13 g_1)) ?_
    refine z_aload_n (q := 81) (i := 0) (x := a0) dX1_keeps_80 rfl rfl rfl ?_
    refine z_get 0 14 (q := 84) (v := .int (h.I a0 14)) rfl (z_lt rfl) (z_L0_T g_1) q520 dX1_keeps_81 rfl rfl ?_
    obtain ⟨rc_5, g_6, hf⟩ := hf
    obtain ⟨rs_7, g_8, hf⟩ := hf
    refine z_new 9 (q := 87) (rc2 := rc_5) (rs2 := rs_7) rfl q364 q365 q135 dX1_keeps_84 rfl g_6 g_8 ?_
    refine z_dup (q := 88) dX1_keeps_87 rfl rfl ?_
    obtain ⟨rc_9, g_10, hf⟩ := hf
    obtain ⟨rs_11, g_12, hf⟩ := hf
    refine z_cINv m_X11_init [] ((h.n)) (q := 91) (rc2 := rc_9) (rs2 := rs_11) (st := [.ref (h.n), .int (h.I a0 14), .ref (a0 + 54)]) dX1_keeps_88 rfl (z_nwm q366 rfl) oI_X11_init rfl rfl ⟨z_le rfl, z_le rfl⟩ (z_le rfl) g_10  g_12 hf (fun h_13 hf => ?_)
    obtain ⟨n_14, g_15, hf⟩ := hf
    obtain ⟨g_16, hf⟩ := hf
    obtain ⟨g_17, hf⟩ := hf
    refine z_aast (q := 92) (c := 9) (n := n_14) g_15 (by decide) (z_L9_T g_17) ⟨_, rfl, _, rfl, Or.inl rfl⟩ g_16 dX1_keeps_91 rfl ?_
    refine z_aload_n (q := 93) (i := 0) (x := a0) dX1_keeps_92 rfl rfl rfl ?_
    obtain ⟨g_18, hf⟩ := hf
    refine z_get 0 13 (q := 96) (v := .ref (a0 + 54)) rfl (z_lt rfl) (z_L0_T g_18) q519 dX1_keeps_93 rfl (z_fvR (fun _ _ _ => rfl) (z_L0_P13 g_18)) ?_
    refine z_aload_n (q := 97) (i := 0) (x := a0) dX1_keeps_96 rfl rfl rfl ?_
    refine z_dup (q := 98) dX1_keeps_97 rfl rfl ?_
    refine z_get 0 14 (q := 101) (v := .int (h_13.I a0 14)) rfl (z_lt rfl) (z_L0_T g_18) q520 dX1_keeps_98 rfl rfl ?_
    refine z_dup_x1 (q := 102) dX1_keeps_101 rfl rfl rfl ?_
    refine z_iconst (q := 103) (v := 1) dX1_keeps_102 rfl rfl ?_
    refine z_iadd (q := 104) dX1_keeps_103 rfl ?_
    refine z_putI 0 14 (q := 107) (x := ((h_13.I a0 14) + 1)) (v := .int ((h_13.I a0 14) + 1)) rfl (z_lt rfl) (z_L0_T g_18) q520 rfl dX1_keeps_104 rfl rfl rfl rfl (fun _ _ _ => rfl) ?_
    obtain ⟨g_19, hf⟩ := hf
    obtain ⟨b_20, g_21, hf⟩ := hf
    refine z_aald (q := 108) (n := 16) (v := .ref b_20) (z_L0_A13 g_18) (by decide) g_19 dX1_keeps_107 rfl (z_rfR g_21) ?_
    refine z_aload_n (q := 109) (i := 0) (x := a0) dX1_keeps_108 rfl rfl rfl ?_
    refine z_get 0 6 (q := 112) (v := .ref (a0 + 23)) rfl (z_lt rfl) (z_L0_T g_18) q512 dX1_keeps_109 rfl (z_fvR (fun _ _ _ => rfl) (z_L0_P6 g_18)) ?_
    obtain ⟨rc_22, g_23, hf⟩ := hf
    obtain ⟨rs_24, g_25, hf⟩ := hf
    obtain ⟨g_26, hf⟩ := hf
    refine z_cVv m_X11_beWhole [.ref (a0 + 23)] (b_20) (q := 115) (rc2 := rc_22) (rs2 := rs_24) (st := []) dX1_keeps_112 rfl q1295 oV_X11_beWhole rfl rfl ⟨z_le rfl, z_le rfl⟩ (z_le rfl) (z_rcv_of 9 rfl (z_L9_T g_26) rfl) g_23  g_25 hf (fun h_27 hf => ?_)
    exact z_vret dX1_keeps_115 rfl hf
  · have hf := hf.2 b_3 g_4
    refine z_topq g_4 ?_
    refine z_ifnonnull (q := 92) dX1_keeps_73 rfl ?_
    refine z_aload_n (q := 93) (i := 0) (x := a0) dX1_keeps_92 rfl rfl rfl ?_
    refine z_get 0 13 (q := 96) (v := .ref (a0 + 54)) rfl (z_lt rfl) (z_L0_T g_1) q519 dX1_keeps_93 rfl (z_fvR (fun _ _ _ => rfl) (z_L0_P13 g_1)) ?_
    refine z_aload_n (q := 97) (i := 0) (x := a0) dX1_keeps_96 rfl rfl rfl ?_
    refine z_dup (q := 98) dX1_keeps_97 rfl rfl ?_
    refine z_get 0 14 (q := 101) (v := .int (h.I a0 14)) rfl (z_lt rfl) (z_L0_T g_1) q520 dX1_keeps_98 rfl rfl ?_
    refine z_dup_x1 (q := 102) dX1_keeps_101 rfl rfl rfl ?_
    refine z_iconst (q := 103) (v := 1) dX1_keeps_102 rfl rfl ?_
    refine z_iadd (q := 104) dX1_keeps_103 rfl ?_
    refine z_putI 0 14 (q := 107) (x := ((h.I a0 14) + 1)) (v := .int ((h.I a0 14) + 1)) rfl (z_lt rfl) (z_L0_T g_1) q520 rfl dX1_keeps_104 rfl rfl rfl rfl (fun _ _ _ => rfl) ?_
    obtain ⟨g_28, hf⟩ := hf
    refine z_aald (q := 108) (n := 16) (v := .ref b_3) (z_L0_A13 g_1) (by decide) g_28 dX1_keeps_107 rfl (z_rfR g_4) ?_
    refine z_aload_n (q := 109) (i := 0) (x := a0) dX1_keeps_108 rfl rfl rfl ?_
    refine z_get 0 6 (q := 112) (v := .ref (a0 + 23)) rfl (z_lt rfl) (z_L0_T g_1) q512 dX1_keeps_109 rfl (z_fvR (fun _ _ _ => rfl) (z_L0_P6 g_1)) ?_
    obtain ⟨rc_29, g_30, hf⟩ := hf
    obtain ⟨rs_31, g_32, hf⟩ := hf
    obtain ⟨g_33, hf⟩ := hf
    refine z_cVv m_X11_beWhole [.ref (a0 + 23)] (b_3) (q := 115) (rc2 := rc_29) (rs2 := rs_31) (st := []) dX1_keeps_112 rfl q1295 oV_X11_beWhole rfl rfl ⟨z_le rfl, z_le rfl⟩ (z_le rfl) (z_rcv_of 9 rfl (z_L9_T g_33) rfl) g_30  g_32 hf (fun h_34 hf => ?_)
    exact z_vret dX1_keeps_115 rfl hf

theorem b_X1_keeps_18 {l : Launch} {G : z_G} {rc rs : Nat} {a0 : Nat} {a1 : Nat} {x2 : Int32} {h : z_H} {Q : z_Q}  (hf : (16 ≤ (x2 + 1) → z_L0 h a0 ∧ vp_in 15 16 ∧ z_L9 h a1 ∧ z_L0 (h.sP (a0 + 54) (Int32.toNatClampNeg 15) (some a1)) a0 ∧ z_V l G m_X1_keeps (z_Fm G m_X1_keeps Q) rc rs ((h.sP (a0 + 54) (Int32.toNatClampNeg 15) (some a1)).sI a0 14 ((h.I a0 14) - 1)) 64 [some (.ref a0), none, none] []) ∧ (¬ 16 ≤ (x2 + 1) → z_L0 h a0 ∧ vp_in (x2 + 1) 16 ∧ ∃ b_7, (h.P (a0 + 54) (Int32.toNatClampNeg (x2 + 1))) = some b_7 ∧ vp_in x2 16 ∧ z_L9 h b_7 ∧ z_V l G m_X1_keeps (z_Fm G m_X1_keeps Q) rc rs (h.sP (a0 + 54) (Int32.toNatClampNeg x2) (some b_7)) 18 [some (.ref a0), some (.ref a1), some (.int (x2 + 1))] [])) : z_V l G m_X1_keeps (z_Fm G m_X1_keeps Q) rc rs h 18 [some (.ref a0), some (.ref a1), some (.int x2)] [] := by
  refine z_iload_n (q := 19) (i := 2) (x := x2) dX1_keeps_18 rfl rfl rfl ?_
  refine z_iconst (q := 20) (v := 1) dX1_keeps_19 rfl rfl ?_
  refine z_iadd (q := 21) dX1_keeps_20 rfl ?_
  refine z_bipush (q := 23) (v := 16) dX1_keeps_21 (by decide) rfl ?_
  refine z_icmp_ge (q := 26) (tgt := 46) dX1_keeps_23 rfl rfl (fun hc => ?_) (fun hc => ?_)
  · have hf := hf.1 hc
    refine z_aload_n (q := 47) (i := 0) (x := a0) dX1_keeps_46 rfl rfl rfl ?_
    obtain ⟨g_1, hf⟩ := hf
    refine z_get 0 13 (q := 50) (v := .ref (a0 + 54)) rfl (z_lt rfl) (z_L0_T g_1) q519 dX1_keeps_47 rfl (z_fvR (fun _ _ _ => rfl) (z_L0_P13 g_1)) ?_
    refine z_bipush (q := 52) (v := 15) dX1_keeps_50 (by decide) rfl ?_
    refine z_aload_n (q := 53) (i := 1) (x := a1) dX1_keeps_52 rfl rfl rfl ?_
    obtain ⟨g_2, hf⟩ := hf
    obtain ⟨g_3, hf⟩ := hf
    refine z_aast (q := 54) (c := 9) (n := 16) (z_L0_A13 g_1) (by decide) (z_L9_T g_3) ⟨_, rfl, _, rfl, Or.inl rfl⟩ g_2 dX1_keeps_53 rfl ?_
    refine z_aload_n (q := 55) (i := 0) (x := a0) dX1_keeps_54 rfl rfl rfl ?_
    refine z_dup (q := 56) dX1_keeps_55 rfl rfl ?_
    obtain ⟨g_4, hf⟩ := hf
    refine z_get 0 14 (q := 59) (v := .int (h.I a0 14)) rfl (z_lt rfl) (z_L0_T g_4) q520 dX1_keeps_56 rfl rfl ?_
    refine z_iconst (q := 60) (v := 1) dX1_keeps_59 rfl rfl ?_
    refine z_isub (q := 61) dX1_keeps_60 rfl ?_
    refine z_putI 0 14 (q := 64) (x := ((h.I a0 14) - 1)) (v := .int ((h.I a0 14) - 1)) rfl (z_lt rfl) (z_L0_T g_4) q520 rfl dX1_keeps_61 rfl rfl rfl rfl (fun _ _ _ => rfl) ?_
    refine z_prune [true, false, false] (ls2 := [some (.ref a0), none, none]) rfl ?_
    exact hf
  · have hf := hf.2 hc
    refine z_aload_n (q := 27) (i := 0) (x := a0) dX1_keeps_26 rfl rfl rfl ?_
    obtain ⟨g_5, hf⟩ := hf
    refine z_get 0 13 (q := 30) (v := .ref (a0 + 54)) rfl (z_lt rfl) (z_L0_T g_5) q519 dX1_keeps_27 rfl (z_fvR (fun _ _ _ => rfl) (z_L0_P13 g_5)) ?_
    refine z_iload_n (q := 31) (i := 2) (x := x2) dX1_keeps_30 rfl rfl rfl ?_
    refine z_aload_n (q := 32) (i := 0) (x := a0) dX1_keeps_31 rfl rfl rfl ?_
    refine z_get 0 13 (q := 35) (v := .ref (a0 + 54)) rfl (z_lt rfl) (z_L0_T g_5) q519 dX1_keeps_32 rfl (z_fvR (fun _ _ _ => rfl) (z_L0_P13 g_5)) ?_
    refine z_iload_n (q := 36) (i := 2) (x := x2) dX1_keeps_35 rfl rfl rfl ?_
    refine z_iconst (q := 37) (v := 1) dX1_keeps_36 rfl rfl ?_
    refine z_iadd (q := 38) dX1_keeps_37 rfl ?_
    obtain ⟨g_6, hf⟩ := hf
    obtain ⟨b_7, g_8, hf⟩ := hf
    refine z_aald (q := 39) (n := 16) (v := .ref b_7) (z_L0_A13 g_5) (by decide) g_6 dX1_keeps_38 rfl (z_rfR g_8) ?_
    obtain ⟨g_9, hf⟩ := hf
    obtain ⟨g_10, hf⟩ := hf
    refine z_aast (q := 40) (c := 9) (n := 16) (z_L0_A13 g_5) (by decide) (z_L9_T g_10) ⟨_, rfl, _, rfl, Or.inl rfl⟩ g_9 dX1_keeps_39 rfl ?_
    refine z_iinc (q := 43) (i := 2) (x := x2) (v := (x2 + 1)) (ls2 := [some (.ref a0), some (.ref a1), some (.int (x2 + 1))]) dX1_keeps_40 rfl rfl (z_lt rfl) rfl rfl ?_
    refine z_goto (q := 18) dX1_keeps_43 rfl ?_
    exact hf

theorem u_X1_kind {l : Launch} {G : z_G} {a0 : Nat} {x1 : Int32} {x2 : Int32} {h : z_H} {Q : z_Q} (hst : l.stackTraces = false)  (hf : z_L0 h a0 ∧ z_Ct l G m_X1_isKind [.ref a0, .int x1] h (z_Qi (fun x_2 h_3 => (x_2 = 0 → Q (some (.int (-1))) h_3) ∧ (¬ x_2 = 0 → z_Ct l G m_X1_in [.int x2, .int 0, .int 4] h_3 (z_Qi (fun x_4 h_5 => (x_4 = 0 → Q (some (.int (-1))) h_5) ∧ (¬ x_4 = 0 → (2 ≤ x2 → (x2 = 4 → z_V l G m_X1_kind (z_Fm G m_X1_kind Q) 0 0 h_5 60 [some (.ref a0), some (.int x1), none, some (.int 0), some (.int 0)] []) ∧ (¬ x2 = 4 → z_V l G m_X1_kind (z_Fm G m_X1_kind Q) 0 0 h_5 106 [some (.ref a0), some (.int x1), some (.int x2), some (.int 0), some (.int 0)] [])) ∧ (¬ 2 ≤ x2 → (x2 = 0 → z_L0 h_5 a0 ∧ ∃ b_15, (h_5.P a0 4) = some b_15 ∧ z_L8 h_5 b_15 ∧ vp_in x1 8 ∧ Q (some (.int (h_5.I (b_15 + 3) (Int32.toNatClampNeg x1)))) h_5) ∧ (¬ x2 = 0 → z_L0 h_5 a0 ∧ ∃ b_10, (h_5.P a0 4) = some b_10 ∧ z_L8 h_5 b_10 ∧ vp_in x1 8 ∧ Q (some (.int (h_5.I (b_10 + 4) (Int32.toNatClampNeg x1)))) h_5))))))))) : z_Ct l G m_X1_kind [.ref a0, .int x1, .int x2] h Q := by
  refine z_Ct.of (ls := [some (.ref a0), some (.int x1), some (.int x2), none, none]) hst rfl (by show plainName yX1_kind.cls = true; decide +kernel) (z_le rfl) rfl ?_
  show z_V l G m_X1_kind (z_Fm G m_X1_kind Q) 0 0 h 0 [some (.ref a0), some (.int x1), some (.int x2), none, none] []
  refine z_aload_n (q := 1) (i := 0) (x := a0) dX1_kind_0 rfl rfl rfl ?_
  refine z_iload_n (q := 2) (i := 1) (x := x1) dX1_kind_1 rfl rfl rfl ?_
  obtain ⟨g_1, hf⟩ := hf
  refine z_cVi m_X1_isKind [.int x1] (a0) (q := 5) (rc2 := 0) (rs2 := 0) (st := []) dX1_kind_2 rfl q1250 oV_X1_isKind rfl rfl ⟨z_le rfl, z_le rfl⟩ (z_le rfl) (z_rcv_of 0 rfl (z_L0_T g_1) rfl) rfl  rfl hf (fun x_2 h_3 hf => ?_)
  refine z_if_eq (q := 8) (tgt := 17) dX1_kind_5 rfl rfl (fun hc => ?_) (fun hc => ?_)
  · have hf := hf.1 hc
    refine z_iconst (q := 18) (v := (-1)) dX1_kind_17 rfl rfl ?_
    exact z_iret dX1_kind_18 rfl hf
  · have hf := hf.2 hc
    refine z_iload_n (q := 9) (i := 2) (x := x2) dX1_kind_8 rfl rfl rfl ?_
    refine z_iconst (q := 10) (v := 0) dX1_kind_9 rfl rfl ?_
    refine z_iconst (q := 11) (v := 4) dX1_kind_10 rfl rfl ?_
    refine z_cSi m_X1_in [.int x2, .int 0, .int 4] (q := 14) (rc2 := 0) (rs2 := 0) (st := []) dX1_kind_11 rfl q1259 oS_X1_in rfl rfl ⟨z_le rfl, z_le rfl⟩ (z_le rfl) rfl  rfl hf (fun x_4 h_5 hf => ?_)
    refine z_if_ne (q := 17) (tgt := 19) dX1_kind_14 rfl rfl (fun hc => ?_) (fun hc => ?_)
    · have hf := hf.2 hc
      refine z_iload_n (q := 20) (i := 2) (x := x2) dX1_kind_19 rfl rfl rfl ?_
      refine z_iconst (q := 21) (v := 2) dX1_kind_20 rfl rfl ?_
      refine z_icmp_ge (q := 24) (tgt := 50) dX1_kind_21 rfl rfl (fun hc => ?_) (fun hc => ?_)
      · have hf := hf.1 hc
        refine z_iconst (q := 51) (v := 0) dX1_kind_50 rfl rfl ?_
        refine z_istore_n (q := 52) (i := 3) (ls2 := [some (.ref a0), some (.int x1), some (.int x2), some (.int 0), none]) (x := 0) dX1_kind_51 rfl (z_lt rfl) rfl rfl ?_
        refine z_iload_n (q := 53) (i := 2) (x := x2) dX1_kind_52 rfl rfl rfl ?_
        refine z_iconst (q := 54) (v := 4) dX1_kind_53 rfl rfl ?_
        refine z_icmp_ne (q := 57) (tgt := 103) dX1_kind_54 rfl rfl (fun hc => ?_) (fun hc => ?_)
        · have hf := hf.2 hc
          refine z_iconst (q := 104) (v := 0) dX1_kind_103 rfl rfl ?_
          refine z_istore (q := 106) (i := 4) (ls2 := [some (.ref a0), some (.int x1), some (.int x2), some (.int 0), some (.int 0)]) (x := 0) dX1_kind_104 (z_lt rfl) rfl rfl ?_
          exact hf
        · have hf := hf.1 hc
          refine z_iconst (q := 58) (v := 0) dX1_kind_57 rfl rfl ?_
          refine z_istore (q := 60) (i := 4) (ls2 := [some (.ref a0), some (.int x1), some (.int x2), some (.int 0), some (.int 0)]) (x := 0) dX1_kind_58 (z_lt rfl) rfl rfl ?_
          refine z_prune [true, true, false, true, true] (ls2 := [some (.ref a0), some (.int x1), none, some (.int 0), some (.int 0)]) rfl ?_
          exact hf
      · have hf := hf.2 hc
        refine z_iload_n (q := 25) (i := 2) (x := x2) dX1_kind_24 rfl rfl rfl ?_
        refine z_if_ne (q := 28) (tgt := 40) dX1_kind_25 rfl rfl (fun hc => ?_) (fun hc => ?_)
        · have hf := hf.2 hc
          refine z_aload_n (q := 41) (i := 0) (x := a0) dX1_kind_40 rfl rfl rfl ?_
          obtain ⟨g_9, hf⟩ := hf
          obtain ⟨b_10, g_11, hf⟩ := hf
          refine z_get 0 4 (q := 44) (v := .ref b_10) rfl (z_lt rfl) (z_L0_T g_9) q510 dX1_kind_41 rfl (z_fvR (fun _ _ _ => rfl) g_11) ?_
          obtain ⟨g_12, hf⟩ := hf
          refine z_getN 8 2 (q := 47) (v := .ref (b_10 + 4)) rfl (z_lt rfl) (z_L8_T g_12) (z_nwm q338 rfl) dX1_kind_44 rfl (z_fvR (fun _ _ _ => rfl) (z_L8_P2 g_12)) ?_
          refine z_iload_n (q := 48) (i := 1) (x := x1) dX1_kind_47 rfl rfl rfl ?_
          obtain ⟨g_13, hf⟩ := hf
          refine z_iald (q := 49) (n := 8) (z_L8_A2 g_12) g_13 dX1_kind_48 rfl ?_
          exact z_iret dX1_kind_49 rfl hf
        · have hf := hf.1 hc
          refine z_aload_n (q := 29) (i := 0) (x := a0) dX1_kind_28 rfl rfl rfl ?_
          obtain ⟨g_14, hf⟩ := hf
          obtain ⟨b_15, g_16, hf⟩ := hf
          refine z_get 0 4 (q := 32) (v := .ref b_15) rfl (z_lt rfl) (z_L0_T g_14) q510 dX1_kind_29 rfl (z_fvR (fun _ _ _ => rfl) g_16) ?_
          obtain ⟨g_17, hf⟩ := hf
          refine z_getN 8 1 (q := 35) (v := .ref (b_15 + 3)) rfl (z_lt rfl) (z_L8_T g_17) (z_nwm q334 rfl) dX1_kind_32 rfl (z_fvR (fun _ _ _ => rfl) (z_L8_P1 g_17)) ?_
          refine z_iload_n (q := 36) (i := 1) (x := x1) dX1_kind_35 rfl rfl rfl ?_
          obtain ⟨g_18, hf⟩ := hf
          refine z_iald (q := 37) (n := 8) (z_L8_A1 g_17) g_18 dX1_kind_36 rfl ?_
          refine z_goto (q := 49) dX1_kind_37 rfl ?_
          exact z_iret dX1_kind_49 rfl hf
    · have hf := hf.1 hc
      refine z_iconst (q := 18) (v := (-1)) dX1_kind_17 rfl rfl ?_
      exact z_iret dX1_kind_18 rfl hf

theorem b_X1_kind_106 {l : Launch} {G : z_G} {a0 : Nat} {x1 : Int32} {x2 : Int32} {x3 : Int32} {x4 : Int32} {h : z_H} {Q : z_Q}  (hf : z_L0 h a0 ∧ z_Ct l G m_X11_cards [.ref (a0 + 23), .int (x2 - 2)] h (z_Qi (fun x_2 h_3 => (x_2 ≤ x4 → Q (some (.int x3)) h_3) ∧ (¬ x_2 ≤ x4 → z_L0 h_3 a0 ∧ z_Ct l G m_X11_card [.ref (a0 + 23), .int (x2 - 2), .int x4] h_3 (z_Qi (fun x_5 h_6 => ∀ v_7 : Int32, v_7 = (x3 + (if x_5 = x1 then 1 else 0)) → z_V l G m_X1_kind (z_Fm G m_X1_kind Q) 0 0 h_6 106 [some (.ref a0), some (.int x1), some (.int x2), some (.int v_7), some (.int (x4 + 1))] [])))))) : z_V l G m_X1_kind (z_Fm G m_X1_kind Q) 0 0 h 106 [some (.ref a0), some (.int x1), some (.int x2), some (.int x3), some (.int x4)] [] := by
  refine z_iload (q := 108) (i := 4) (x := x4) dX1_kind_106 rfl rfl ?_
  refine z_aload_n (q := 109) (i := 0) (x := a0) dX1_kind_108 rfl rfl rfl ?_
  obtain ⟨g_1, hf⟩ := hf
  refine z_get 0 6 (q := 112) (v := .ref (a0 + 23)) rfl (z_lt rfl) (z_L0_T g_1) q512 dX1_kind_109 rfl (z_fvR (fun _ _ _ => rfl) (z_L0_P6 g_1)) ?_
  refine z_iload_n (q := 113) (i := 2) (x := x2) dX1_kind_112 rfl rfl rfl ?_
  refine z_iconst (q := 114) (v := 2) dX1_kind_113 rfl rfl ?_
  refine z_isub (q := 115) dX1_kind_114 rfl ?_
  refine z_cVi m_X11_cards [.int (x2 - 2)] ((a0 + 23)) (q := 118) (rc2 := 0) (rs2 := 0) (st := [.int x4]) dX1_kind_115 rfl q1262 oV_X11_cards rfl rfl ⟨z_le rfl, z_le rfl⟩ (z_le rfl) (z_rcv_of 9 rfl (z_L9_T (z_L0_N6 g_1)) rfl) rfl  rfl hf (fun x_2 h_3 hf => ?_)
  refine z_icmp_ge (q := 121) (tgt := 151) dX1_kind_118 rfl rfl (fun hc => ?_) (fun hc => ?_)
  · have hf := hf.1 hc
    refine z_iload_n (q := 152) (i := 3) (x := x3) dX1_kind_151 rfl rfl rfl ?_
    exact z_iret dX1_kind_152 rfl hf
  · have hf := hf.2 hc
    refine z_iload_n (q := 122) (i := 3) (x := x3) dX1_kind_121 rfl rfl rfl ?_
    refine z_aload_n (q := 123) (i := 0) (x := a0) dX1_kind_122 rfl rfl rfl ?_
    obtain ⟨g_4, hf⟩ := hf
    refine z_get 0 6 (q := 126) (v := .ref (a0 + 23)) rfl (z_lt rfl) (z_L0_T g_4) q512 dX1_kind_123 rfl (z_fvR (fun _ _ _ => rfl) (z_L0_P6 g_4)) ?_
    refine z_iload_n (q := 127) (i := 2) (x := x2) dX1_kind_126 rfl rfl rfl ?_
    refine z_iconst (q := 128) (v := 2) dX1_kind_127 rfl rfl ?_
    refine z_isub (q := 129) dX1_kind_128 rfl ?_
    refine z_iload (q := 131) (i := 4) (x := x4) dX1_kind_129 rfl rfl ?_
    refine z_cVi m_X11_card [.int (x2 - 2), .int x4] ((a0 + 23)) (q := 134) (rc2 := 0) (rs2 := 0) (st := [.int x3]) dX1_kind_131 rfl q1266 oV_X11_card rfl rfl ⟨z_le rfl, z_le rfl⟩ (z_le rfl) (z_rcv_of 9 rfl (z_L9_T (z_L0_N6 g_4)) rfl) rfl  rfl hf (fun x_5 h_6 hf => ?_)
    refine z_iload_n (q := 135) (i := 1) (x := x1) dX1_kind_134 rfl rfl rfl ?_
    have hk : z_V l G m_X1_kind (z_Fm G m_X1_kind Q) 0 0 h_6 143 [some (.ref a0), some (.int x1), some (.int x2), some (.int x3), some (.int x4)] [.int (if x_5 = x1 then 1 else 0), .int x3] := by
      refine z_iadd (q := 144) dX1_kind_143 rfl ?_
      refine z_nmI (fun v_7 hv_8 => ?_)
      have hf := hf v_7 hv_8
      refine z_istore_n (q := 145) (i := 3) (ls2 := [some (.ref a0), some (.int x1), some (.int x2), some (.int v_7), some (.int x4)]) (x := v_7) dX1_kind_144 rfl (z_lt rfl) rfl rfl ?_
      refine z_iinc (q := 148) (i := 4) (x := x4) (v := (x4 + 1)) (ls2 := [some (.ref a0), some (.int x1), some (.int x2), some (.int v_7), some (.int (x4 + 1))]) dX1_kind_145 rfl rfl (z_lt rfl) rfl rfl ?_
      refine z_goto (q := 106) dX1_kind_148 rfl ?_
      exact hf
    refine z_icmp_ne (q := 138) (tgt := 142) dX1_kind_135 rfl rfl (fun hc => ?_) (fun hc => ?_)
    · have hk := (z_ite hk).2 hc
      refine z_iconst (q := 143) (v := 0) dX1_kind_142 rfl rfl ?_
      exact hk
    · have hk := (z_ite hk).1 hc
      refine z_iconst (q := 139) (v := 1) dX1_kind_138 rfl rfl ?_
      refine z_goto (q := 143) dX1_kind_139 rfl ?_
      exact hk

theorem b_X1_kind_60 {l : Launch} {G : z_G} {a0 : Nat} {x1 : Int32} {x3 : Int32} {x4 : Int32} {h : z_H} {Q : z_Q}  (hf : z_L0 h a0 ∧ ((h.I (a0 + 23) 8) ≤ x4 → Q (some (.int x3)) h) ∧ (¬ (h.I (a0 + 23) 8) ≤ x4 → vp_in x4 48 ∧ ∀ v_3 : Int32, v_3 = (x3 + (if (h.I (a0 + 26) (Int32.toNatClampNeg x4)) = x1 then 1 else 0)) → z_V l G m_X1_kind (z_Fm G m_X1_kind Q) 0 0 h 60 [some (.ref a0), some (.int x1), none, some (.int v_3), some (.int (x4 + 1))] [])) : z_V l G m_X1_kind (z_Fm G m_X1_kind Q) 0 0 h 60 [some (.ref a0), some (.int x1), none, some (.int x3), some (.int x4)] [] := by
  refine z_iload (q := 62) (i := 4) (x := x4) dX1_kind_60 rfl rfl ?_
  refine z_aload_n (q := 63) (i := 0) (x := a0) dX1_kind_62 rfl rfl rfl ?_
  obtain ⟨g_1, hf⟩ := hf
  refine z_get 0 6 (q := 66) (v := .ref (a0 + 23)) rfl (z_lt rfl) (z_L0_T g_1) q512 dX1_kind_63 rfl (z_fvR (fun _ _ _ => rfl) (z_L0_P6 g_1)) ?_
  refine z_getN 9 8 (q := 69) (v := .int (h.I (a0 + 23) 8)) rfl (z_lt rfl) (z_L9_T (z_L0_N6 g_1)) (z_nwm q392 rfl) dX1_kind_66 rfl rfl ?_
  refine z_icmp_ge (q := 72) (tgt := 100) dX1_kind_69 rfl rfl (fun hc => ?_) (fun hc => ?_)
  · have hf := hf.1 hc
    refine z_goto (q := 151) dX1_kind_100 rfl ?_
    refine z_iload_n (q := 152) (i := 3) (x := x3) dX1_kind_151 rfl rfl rfl ?_
    exact z_iret dX1_kind_152 rfl hf
  · have hf := hf.2 hc
    refine z_iload_n (q := 73) (i := 3) (x := x3) dX1_kind_72 rfl rfl rfl ?_
    refine z_aload_n (q := 74) (i := 0) (x := a0) dX1_kind_73 rfl rfl rfl ?_
    refine z_get 0 6 (q := 77) (v := .ref (a0 + 23)) rfl (z_lt rfl) (z_L0_T g_1) q512 dX1_kind_74 rfl (z_fvR (fun _ _ _ => rfl) (z_L0_P6 g_1)) ?_
    refine z_getN 9 2 (q := 80) (v := .ref (a0 + 26)) rfl (z_lt rfl) (z_L9_T (z_L0_N6 g_1)) (z_nwm q379 rfl) dX1_kind_77 rfl (z_fvR (fun _ _ _ => rfl) (z_L9_P2 (z_L0_N6 g_1))) ?_
    refine z_iload (q := 82) (i := 4) (x := x4) dX1_kind_80 rfl rfl ?_
    obtain ⟨g_2, hf⟩ := hf
    refine z_iald (q := 83) (n := 48) (z_L9_A2 (z_L0_N6 g_1)) g_2 dX1_kind_82 rfl ?_
    refine z_iload_n (q := 84) (i := 1) (x := x1) dX1_kind_83 rfl rfl rfl ?_
    have hk : z_V l G m_X1_kind (z_Fm G m_X1_kind Q) 0 0 h 92 [some (.ref a0), some (.int x1), none, some (.int x3), some (.int x4)] [.int (if (h.I (a0 + 26) (Int32.toNatClampNeg x4)) = x1 then 1 else 0), .int x3] := by
      refine z_iadd (q := 93) dX1_kind_92 rfl ?_
      refine z_nmI (fun v_3 hv_4 => ?_)
      have hf := hf v_3 hv_4
      refine z_istore_n (q := 94) (i := 3) (ls2 := [some (.ref a0), some (.int x1), none, some (.int v_3), some (.int x4)]) (x := v_3) dX1_kind_93 rfl (z_lt rfl) rfl rfl ?_
      refine z_iinc (q := 97) (i := 4) (x := x4) (v := (x4 + 1)) (ls2 := [some (.ref a0), some (.int x1), none, some (.int v_3), some (.int (x4 + 1))]) dX1_kind_94 rfl rfl (z_lt rfl) rfl rfl ?_
      refine z_goto (q := 60) dX1_kind_97 rfl ?_
      exact hf
    refine z_icmp_ne (q := 87) (tgt := 91) dX1_kind_84 rfl rfl (fun hc => ?_) (fun hc => ?_)
    · have hk := (z_ite hk).2 hc
      refine z_iconst (q := 92) (v := 0) dX1_kind_91 rfl rfl ?_
      exact hk
    · have hk := (z_ite hk).1 hc
      refine z_iconst (q := 88) (v := 1) dX1_kind_87 rfl rfl ?_
      refine z_goto (q := 92) dX1_kind_88 rfl ?_
      exact hk

