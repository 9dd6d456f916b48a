set_option maxRecDepth 100000
set_option maxHeartbeats 4000000
theorem u_X13_feed {l : Launch} {G : z_G} {a0 : Nat} {y1 : Int64} {y3 : Int64} {y5 : Int64} {h : z_H} {Q : z_Q} (hst : l.stackTraces = false)  (hf : z_L11 h a0 ∧ z_Ct l G m_X13_lay [.ref a0, .long y1] (h.sI a0 0 0) (z_Qv (fun h_2 => z_L11 h_2 a0 ∧ z_Ct l G m_X13_lay [.ref a0, .long y3] h_2 (z_Qv (fun h_4 => z_L11 h_4 a0 ∧ z_Ct l G m_X13_lay [.ref a0, .long y5] h_4 (z_Qv (fun h_6 => z_L11 h_6 a0 ∧ Q (some (.int (h_6.I a0 2))) h_6))))))) : z_Ct l G m_X13_feed [.ref a0, .long y1, .long y3, .long y5] h Q := by
  refine z_Ct.of (ls := [some (.ref a0), some (.long y1), none, some (.long y3), none, some (.long y5), none]) hst rfl (by show plainName yX13_feed.cls = true; decide +kernel) (z_le rfl) rfl ?_
  show z_V l G m_X13_feed (z_Fm G m_X13_feed Q) 0 0 h 0 [some (.ref a0), some (.long y1), none, some (.long y3), none, some (.long y5), none] []
  refine z_aload_n (q := 1) (i := 0) (x := a0) dX13_feed_0 rfl rfl rfl ?_
  refine z_iconst (q := 2) (v := 0) dX13_feed_1 rfl rfl ?_
  obtain ⟨g_1, hf⟩ := hf
  refine z_putI 11 0 (q := 5) (x := 0) (v := .int 0) rfl (z_lt rfl) (z_L11_T g_1) q1758 rfl dX13_feed_2 rfl rfl rfl rfl (fun _ _ _ => rfl) ?_
  refine z_aload_n (q := 6) (i := 0) (x := a0) dX13_feed_5 rfl rfl rfl ?_
  refine z_lload_n (q := 7) (i := 1) (x := y1) dX13_feed_6 rfl rfl rfl ?_
  refine z_cVv m_X13_lay [.long y1] (a0) (q := 10) (rc2 := 0) (rs2 := 0) (st := []) dX13_feed_7 rfl q1716 oV_X13_lay rfl rfl ⟨z_le rfl, z_le rfl⟩ (z_le rfl) (z_rcv_of 11 rfl (z_L11_T g_1) rfl) rfl  rfl hf (fun h_2 hf => ?_)
  refine z_aload_n (q := 11) (i := 0) (x := a0) dX13_feed_10 rfl rfl rfl ?_
  refine z_lload_n (q := 12) (i := 3) (x := y3) dX13_feed_11 rfl rfl rfl ?_
  obtain ⟨g_3, hf⟩ := hf
  refine z_cVv m_X13_lay [.long y3] (a0) (q := 15) (rc2 := 0) (rs2 := 0) (st := []) dX13_feed_12 rfl q1716 oV_X13_lay rfl rfl ⟨z_le rfl, z_le rfl⟩ (z_le rfl) (z_rcv_of 11 rfl (z_L11_T g_3) rfl) rfl  rfl hf (fun h_4 hf => ?_)
  refine z_aload_n (q := 16) (i := 0) (x := a0) dX13_feed_15 rfl rfl rfl ?_
  refine z_lload (q := 18) (i := 5) (x := y5) dX13_feed_16 rfl rfl ?_
  obtain ⟨g_5, hf⟩ := hf
  refine z_cVv m_X13_lay [.long y5] (a0) (q := 21) (rc2 := 0) (rs2 := 0) (st := []) dX13_feed_18 rfl q1716 oV_X13_lay rfl rfl ⟨z_le rfl, z_le rfl⟩ (z_le rfl) (z_rcv_of 11 rfl (z_L11_T g_5) rfl) rfl  rfl hf (fun h_6 hf => ?_)
  refine z_aload_n (q := 22) (i := 0) (x := a0) dX13_feed_21 rfl rfl rfl ?_
  obtain ⟨g_7, hf⟩ := hf
  refine z_get 11 2 (q := 25) (v := .int (h_6.I a0 2)) rfl (z_lt rfl) (z_L11_T g_7) q1760 dX13_feed_22 rfl rfl ?_
  exact z_iret dX13_feed_25 rfl hf

theorem u_X13_find {l : Launch} {G : z_G} {a0 : Nat} {a1 : Nat} {x2 : Int32} {h : z_H} {Q : z_Q} (hst : l.stackTraces = false)  (hf : z_V l G m_X13_find (z_Fm G m_X13_find Q) 0 0 h 2 [some (.ref a0), some (.ref a1), some (.int x2), some (.int 0)] []) : z_Ct l G m_X13_find [.ref a0, .ref a1, .int x2] h Q := by
  refine z_Ct.of (ls := [some (.ref a0), some (.ref a1), some (.int x2), none]) hst rfl (by show plainName yX13_find.cls = true; decide +kernel) (z_le rfl) rfl ?_
  show z_V l G m_X13_find (z_Fm G m_X13_find Q) 0 0 h 0 [some (.ref a0), some (.ref a1), some (.int x2), none] []
  refine z_iconst (q := 1) (v := 0) dX13_find_0 rfl rfl ?_
  refine z_istore_n (q := 2) (i := 3) (ls2 := [some (.ref a0), some (.ref a1), some (.int x2), some (.int 0)]) (x := 0) dX13_find_1 rfl (z_lt rfl) rfl rfl ?_
  exact hf

theorem b_X13_find_2 {l : Launch} {G : z_G} {a0 : Nat} {a1 : Nat} {x2 : Int32} {x3 : Int32} {h : z_H} {Q : z_Q}  (hf : (x2 ≤ x3 → Q (some (.int (-1))) h) ∧ (¬ x2 ≤ x3 → ∃ n_1, h.T a1 = (4, n_1) ∧ vp_in x3 n_1 ∧ z_L11 h a0 ∧ vp_in (h.I a0 7) 1002 ∧ ((lg_cmp (h.L a1 (Int32.toNatClampNeg x3)) (h.L (a0 + 4) (Int32.toNatClampNeg (h.I a0 7)))) = 0 → Q (some (.int x3)) h) ∧ (¬ (lg_cmp (h.L a1 (Int32.toNatClampNeg x3)) (h.L (a0 + 4) (Int32.toNatClampNeg (h.I a0 7)))) = 0 → z_V l G m_X13_find (z_Fm G m_X13_find Q) 0 0 h 2 [some (.ref a0), some (.ref a1), some (.int x2), some (.int (x3 + 1))] []))) : z_V l G m_X13_find (z_Fm G m_X13_find Q) 0 0 h 2 [some (.ref a0), some (.ref a1), some (.int x2), some (.int x3)] [] := by
  refine z_iload_n (q := 3) (i := 3) (x := x3) dX13_find_2 rfl rfl rfl ?_
  refine z_iload_n (q := 4) (i := 2) (x := x2) dX13_find_3 rfl rfl rfl ?_
  refine z_icmp_ge (q := 7) (tgt := 31) dX13_find_4 rfl rfl (fun hc => ?_) (fun hc => ?_)
  · have hf := hf.1 hc
    refine z_iconst (q := 32) (v := (-1)) dX13_find_31 rfl rfl ?_
    exact z_iret dX13_find_32 rfl hf
  · have hf := hf.2 hc
    refine z_aload_n (q := 8) (i := 1) (x := a1) dX13_find_7 rfl rfl rfl ?_
    refine z_iload_n (q := 9) (i := 3) (x := x3) dX13_find_8 rfl rfl rfl ?_
    obtain ⟨n_1, g_2, hf⟩ := hf
    obtain ⟨g_3, hf⟩ := hf
    refine z_lald (q := 10) (n := n_1) g_2 g_3 dX13_find_9 rfl ?_
    refine z_aload_n (q := 11) (i := 0) (x := a0) dX13_find_10 rfl rfl rfl ?_
    obtain ⟨g_4, hf⟩ := hf
    refine z_get 11 6 (q := 14) (v := .ref (a0 + 4)) rfl (z_lt rfl) (z_L11_T g_4) q1764 dX13_find_11 rfl (z_fvR (fun _ _ _ => rfl) (z_L11_P6 g_4)) ?_
    refine z_aload_n (q := 15) (i := 0) (x := a0) dX13_find_14 rfl rfl rfl ?_
    refine z_get 11 7 (q := 18) (v := .int (h.I a0 7)) rfl (z_lt rfl) (z_L11_T g_4) q1765 dX13_find_15 rfl rfl ?_
    obtain ⟨g_5, hf⟩ := hf
    refine z_lald (q := 19) (n := 1002) (z_L11_A6 g_4) g_5 dX13_find_18 rfl ?_
    refine z_lcmp (q := 20) dX13_find_19 rfl ?_
    refine z_if_ne (q := 23) (tgt := 25) dX13_find_20 rfl rfl (fun hc => ?_) (fun hc => ?_)
    · have hf := hf.2 hc
      refine z_iinc (q := 28) (i := 3) (x := x3) (v := (x3 + 1)) (ls2 := [some (.ref a0), some (.ref a1), some (.int x2), some (.int (x3 + 1))]) dX13_find_25 rfl rfl (z_lt rfl) rfl rfl ?_
      refine z_goto (q := 2) dX13_find_28 rfl ?_
      exact hf
    · have hf := hf.1 hc
      refine z_iload_n (q := 24) (i := 3) (x := x3) dX13_find_23 rfl rfl rfl ?_
      exact z_iret dX13_find_24 rfl hf

theorem u_X13_findChoice {l : Launch} {G : z_G} {a0 : Nat} {x1 : Int32} {h : z_H} {Q : z_Q} (hst : l.stackTraces = false)  (hf : z_V l G m_X13_findChoice (z_Fm G m_X13_findChoice Q) 0 0 h 2 [some (.ref a0), some (.int x1), some (.int 0)] []) : z_Ct l G m_X13_findChoice [.ref a0, .int x1] h Q := by
  refine z_Ct.of (ls := [some (.ref a0), some (.int x1), none]) hst rfl (by show plainName yX13_findChoice.cls = true; decide +kernel) (z_le rfl) rfl ?_
  show z_V l G m_X13_findChoice (z_Fm G m_X13_findChoice Q) 0 0 h 0 [some (.ref a0), some (.int x1), none] []
  refine z_iconst (q := 1) (v := 0) dX13_findChoice_0 rfl rfl ?_
  refine z_istore_n (q := 2) (i := 2) (ls2 := [some (.ref a0), some (.int x1), some (.int 0)]) (x := 0) dX13_findChoice_1 rfl (z_lt rfl) rfl rfl ?_
  exact hf

theorem b_X13_findChoice_2 {l : Launch} {G : z_G} {a0 : Nat} {x1 : Int32} {x2 : Int32} {h : z_H} {Q : z_Q}  (hf : (x1 < x2 → Q (some (.int (-1))) h) ∧ (¬ x1 < x2 → z_L11 h a0 ∧ z_Ct l G m_X13_copies [.ref a0, .int 0, .int 9660, .int 164] h (z_Qv (fun h_2 => z_L11 h_2 a0 ∧ z_Ct l G (m_X13_canWin 7) [.ref a0, .int 9660, .int x2, .int 0] h_2 (z_Qi (fun x_4 h_5 => (x_4 = 0 → z_V l G m_X13_findChoice (z_Fm G m_X13_findChoice Q) 0 0 h_5 2 [some (.ref a0), some (.int x1), some (.int (x2 + 1))] []) ∧ (¬ x_4 = 0 → Q (some (.int x2)) h_5))))))) : z_V l G m_X13_findChoice (z_Fm G m_X13_findChoice Q) 0 0 h 2 [some (.ref a0), some (.int x1), some (.int x2)] [] := by
  refine z_iload_n (q := 3) (i := 2) (x := x2) dX13_findChoice_2 rfl rfl rfl ?_
  refine z_iload_n (q := 4) (i := 1) (x := x1) dX13_findChoice_3 rfl rfl rfl ?_
  refine z_icmp_gt (q := 7) (tgt := 38) dX13_findChoice_4 rfl rfl (fun hc => ?_) (fun hc => ?_)
  · have hf := hf.1 hc
    refine z_iconst (q := 39) (v := (-1)) dX13_findChoice_38 rfl rfl ?_
    exact z_iret dX13_findChoice_39 rfl hf
  · have hf := hf.2 hc
    refine z_aload_n (q := 8) (i := 0) (x := a0) dX13_findChoice_7 rfl rfl rfl ?_
    refine z_iconst (q := 9) (v := 0) dX13_findChoice_8 rfl rfl ?_
    refine z_sipush (q := 12) (v := 9660) dX13_findChoice_9 (by decide) rfl ?_
    refine z_sipush (q := 15) (v := 164) dX13_findChoice_12 (by decide) rfl ?_
    obtain ⟨g_1, hf⟩ := hf
    refine z_cVv m_X13_copies [.int 0, .int 9660, .int 164] (a0) (q := 18) (rc2 := 0) (rs2 := 0) (st := []) dX13_findChoice_15 rfl q2104 oV_X13_copies rfl rfl ⟨z_le rfl, z_le rfl⟩ (z_le rfl) (z_rcv_of 11 rfl (z_L11_T g_1) rfl) rfl  rfl hf (fun h_2 hf => ?_)
    refine z_aload_n (q := 19) (i := 0) (x := a0) dX13_findChoice_18 rfl rfl rfl ?_
    refine z_sipush (q := 22) (v := 9660) dX13_findChoice_19 (by decide) rfl ?_
    refine z_iload_n (q := 23) (i := 2) (x := x2) dX13_findChoice_22 rfl rfl rfl ?_
    refine z_iconst (q := 24) (v := 0) dX13_findChoice_23 rfl rfl ?_
    obtain ⟨g_3, hf⟩ := hf
    refine z_cVi (m_X13_canWin 7) [.int 9660, .int x2, .int 0] (a0) (q := 27) (rc2 := 0) (rs2 := 0) (st := []) dX13_findChoice_24 rfl q2285 (oV_X13_canWin _) rfl rfl (z_room_of (by first | exact z_le rfl | (simp only [z_M.d, z_M.nL, z_M.lo, m_X13_canWin, m_X13_findChoice]; omega)) (by first | exact z_le rfl | (simp only [z_M.d, z_M.nL, z_M.lo, m_X13_canWin, m_X13_findChoice]; omega))) (z_le rfl) (z_rcv_of 11 rfl (z_L11_T g_3) rfl) rfl  rfl hf (fun x_4 h_5 hf => ?_)
    refine z_if_eq (q := 30) (tgt := 32) dX13_findChoice_27 rfl rfl (fun hc => ?_) (fun hc => ?_)
    · have hf := hf.1 hc
      refine z_iinc (q := 35) (i := 2) (x := x2) (v := (x2 + 1)) (ls2 := [some (.ref a0), some (.int x1), some (.int (x2 + 1))]) dX13_findChoice_32 rfl rfl (z_lt rfl) rfl rfl ?_
      refine z_goto (q := 2) dX13_findChoice_35 rfl ?_
      exact hf
    · have hf := hf.2 hc
      refine z_iload_n (q := 31) (i := 2) (x := x2) dX13_findChoice_30 rfl rfl rfl ?_
      exact z_iret dX13_findChoice_31 rfl hf

theorem u_X13_findHidden {l : Launch} {G : z_G} {a0 : Nat} {h : z_H} {Q : z_Q} (hst : l.stackTraces = false)  (hf : z_L11 h a0 ∧ z_V l G m_X13_findHidden (z_Fm G m_X13_findHidden Q) 0 0 (h.sI a0 48 0) 7 [some (.ref a0), some (.int 0), none, none] []) : z_Ct l G m_X13_findHidden [.ref a0] h Q := by
  refine z_Ct.of (ls := [some (.ref a0), none, none, none]) hst rfl (by show plainName yX13_findHidden.cls = true; decide +kernel) (z_le rfl) rfl ?_
  show z_V l G m_X13_findHidden (z_Fm G m_X13_findHidden Q) 0 0 h 0 [some (.ref a0), none, none, none] []
  refine z_aload_n (q := 1) (i := 0) (x := a0) dX13_findHidden_0 rfl rfl rfl ?_
  refine z_iconst (q := 2) (v := 0) dX13_findHidden_1 rfl rfl ?_
  obtain ⟨g_1, hf⟩ := hf
  refine z_putI 11 48 (q := 5) (x := 0) (v := .int 0) rfl (z_lt rfl) (z_L11_T g_1) q1806 rfl dX13_findHidden_2 rfl rfl rfl rfl (fun _ _ _ => rfl) ?_
  refine z_iconst (q := 6) (v := 0) dX13_findHidden_5 rfl rfl ?_
  refine z_istore_n (q := 7) (i := 1) (ls2 := [some (.ref a0), some (.int 0), none, none]) (x := 0) dX13_findHidden_6 rfl (z_lt rfl) rfl rfl ?_
  exact hf

theorem b_X13_findHidden_7 {l : Launch} {G : z_G} {a0 : Nat} {x1 : Int32} {h : z_H} {Q : z_Q}  (hf : (2 ≤ x1 → z_V l G m_X13_findHidden (z_Fm G m_X13_findHidden Q) 0 0 h 99 [some (.ref a0), some (.int 0), none, none] []) ∧ (¬ 2 ≤ x1 → z_V l G m_X13_findHidden (z_Fm G m_X13_findHidden Q) 0 0 h 14 [some (.ref a0), some (.int x1), some (.int 0), none] [])) : z_V l G m_X13_findHidden (z_Fm G m_X13_findHidden Q) 0 0 h 7 [some (.ref a0), some (.int x1), none, none] [] := by
  refine z_iload_n (q := 8) (i := 1) (x := x1) dX13_findHidden_7 rfl rfl rfl ?_
  refine z_iconst (q := 9) (v := 2) dX13_findHidden_8 rfl rfl ?_
  refine z_icmp_ge (q := 12) (tgt := 97) dX13_findHidden_9 rfl rfl (fun hc => ?_) (fun hc => ?_)
  · have hf := hf.1 hc
    refine z_iconst (q := 98) (v := 0) dX13_findHidden_97 rfl rfl ?_
    refine z_istore_n (q := 99) (i := 1) (ls2 := [some (.ref a0), some (.int 0), none, none]) (x := 0) dX13_findHidden_98 rfl (z_lt rfl) rfl rfl ?_
    exact hf
  · have hf := hf.2 hc
    refine z_iconst (q := 13) (v := 0) dX13_findHidden_12 rfl rfl ?_
    refine z_istore_n (q := 14) (i := 2) (ls2 := [some (.ref a0), some (.int x1), some (.int 0), none]) (x := 0) dX13_findHidden_13 rfl (z_lt rfl) rfl rfl ?_
    exact hf

theorem b_X13_findHidden_99 {l : Launch} {G : z_G} {a0 : Nat} {x1 : Int32} {h : z_H} {Q : z_Q}  (hf : z_L11 h a0 ∧ ((h.I a0 48) ≤ x1 → Q none h) ∧ (¬ (h.I a0 48) ≤ x1 → z_V l G m_X13_findHidden (z_Fm G m_X13_findHidden Q) 0 0 h 109 [some (.ref a0), some (.int x1), some (.int 0), none] [])) : z_V l G m_X13_findHidden (z_Fm G m_X13_findHidden Q) 0 0 h 99 [some (.ref a0), some (.int x1), none, none] [] := by
  refine z_iload_n (q := 100) (i := 1) (x := x1) dX13_findHidden_99 rfl rfl rfl ?_
  refine z_aload_n (q := 101) (i := 0) (x := a0) dX13_findHidden_100 rfl rfl rfl ?_
  obtain ⟨g_1, hf⟩ := hf
  refine z_get 11 48 (q := 104) (v := .int (h.I a0 48)) rfl (z_lt rfl) (z_L11_T g_1) q1806 dX13_findHidden_101 rfl rfl ?_
  refine z_icmp_ge (q := 107) (tgt := 150) dX13_findHidden_104 rfl rfl (fun hc => ?_) (fun hc => ?_)
  · have hf := hf.1 hc
    exact z_vret dX13_findHidden_150 rfl hf
  · have hf := hf.2 hc
    refine z_iconst (q := 108) (v := 0) dX13_findHidden_107 rfl rfl ?_
    refine z_istore_n (q := 109) (i := 2) (ls2 := [some (.ref a0), some (.int x1), some (.int 0), none]) (x := 0) dX13_findHidden_108 rfl (z_lt rfl) rfl rfl ?_
    exact hf

theorem b_X13_findHidden_14 {l : Launch} {G : z_G} {a0 : Nat} {x1 : Int32} {x2 : Int32} {h : z_H} {Q : z_Q}  (hf : z_L11 h a0 ∧ vp_in (0 + x1) 16560 ∧ ((h.I (a0 + 16) (Int32.toNatClampNeg (0 + x1))) ≤ x2 → z_V l G m_X13_findHidden (z_Fm G m_X13_findHidden Q) 0 0 h 7 [some (.ref a0), some (.int (x1 + 1)), none, none] []) ∧ (¬ (h.I (a0 + 16) (Int32.toNatClampNeg (0 + x1))) ≤ x2 → ∀ v_3 : Int32, v_3 = ((20 + (48 * x1)) + x2) → vp_in v_3 16560 ∧ ((h.I (a0 + 16) (Int32.toNatClampNeg v_3)) < 8 → z_V l G m_X13_findHidden (z_Fm G m_X13_findHidden Q) 0 0 h 14 [some (.ref a0), some (.int x1), some (.int (x2 + 1)), none] []) ∧ (¬ (h.I (a0 + 16) (Int32.toNatClampNeg v_3)) < 8 → vp_in (h.I a0 48) 48 ∧ vp_in v_3 16560 ∧ vp_in (h.I a0 48) 48 ∧ z_V l G m_X13_findHidden (z_Fm G m_X13_findHidden Q) 0 0 (((h.sI (a0 + 29) (Int32.toNatClampNeg (h.I a0 48)) v_3).sI (a0 + 30) (Int32.toNatClampNeg (h.I a0 48)) ((h.I (a0 + 16) (Int32.toNatClampNeg v_3)) - (h.I (a0 + 16) (Int32.toNatClampNeg v_3)) / 8 * 8)).sI a0 48 ((h.I a0 48) + 1)) 14 [some (.ref a0), some (.int x1), some (.int (x2 + 1)), none] []))) : z_V l G m_X13_findHidden (z_Fm G m_X13_findHidden Q) 0 0 h 14 [some (.ref a0), some (.int x1), some (.int x2), none] [] := by
  refine z_iload_n (q := 15) (i := 2) (x := x2) dX13_findHidden_14 rfl rfl rfl ?_
  refine z_aload_n (q := 16) (i := 0) (x := a0) dX13_findHidden_15 rfl rfl rfl ?_
  obtain ⟨g_1, hf⟩ := hf
  refine z_get 11 22 (q := 19) (v := .ref (a0 + 16)) rfl (z_lt rfl) (z_L11_T g_1) q1780 dX13_findHidden_16 rfl (z_fvR (fun _ _ _ => rfl) (z_L11_P22 g_1)) ?_
  refine z_iconst (q := 20) (v := 0) dX13_findHidden_19 rfl rfl ?_
  refine z_iload_n (q := 21) (i := 1) (x := x1) dX13_findHidden_20 rfl rfl rfl ?_
  refine z_iadd (q := 22) dX13_findHidden_21 rfl ?_
  obtain ⟨g_2, hf⟩ := hf
  refine z_iald (q := 23) (n := 16560) (z_L11_A22 g_1) g_2 dX13_findHidden_22 rfl ?_
  refine z_icmp_ge (q := 26) (tgt := 91) dX13_findHidden_23 rfl rfl (fun hc => ?_) (fun hc => ?_)
  · have hf := hf.1 hc
    refine z_iinc (q := 94) (i := 1) (x := x1) (v := (x1 + 1)) (ls2 := [some (.ref a0), some (.int (x1 + 1)), some (.int x2), none]) dX13_findHidden_91 rfl rfl (z_lt rfl) rfl rfl ?_
    refine z_goto (q := 7) dX13_findHidden_94 rfl ?_
    refine z_prune [true, true, false, false] (ls2 := [some (.ref a0), some (.int (x1 + 1)), none, none]) rfl ?_
    exact hf
  · have hf := hf.2 hc
    refine z_bipush (q := 28) (v := 20) dX13_findHidden_26 (by decide) rfl ?_
    refine z_bipush (q := 30) (v := 48) dX13_findHidden_28 (by decide) rfl ?_
    refine z_iload_n (q := 31) (i := 1) (x := x1) dX13_findHidden_30 rfl rfl rfl ?_
    refine z_imul (q := 32) dX13_findHidden_31 rfl ?_
    refine z_iadd (q := 33) dX13_findHidden_32 rfl ?_
    refine z_iload_n (q := 34) (i := 2) (x := x2) dX13_findHidden_33 rfl rfl rfl ?_
    refine z_iadd (q := 35) dX13_findHidden_34 rfl ?_
    refine z_nmI (fun v_3 hv_4 => ?_)
    have hf := hf v_3 hv_4
    refine z_istore_n (q := 36) (i := 3) (ls2 := [some (.ref a0), some (.int x1), some (.int x2), some (.int v_3)]) (x := v_3) dX13_findHidden_35 rfl (z_lt rfl) rfl rfl ?_
    refine z_aload_n (q := 37) (i := 0) (x := a0) dX13_findHidden_36 rfl rfl rfl ?_
    refine z_get 11 22 (q := 40) (v := .ref (a0 + 16)) rfl (z_lt rfl) (z_L11_T g_1) q1780 dX13_findHidden_37 rfl (z_fvR (fun _ _ _ => rfl) (z_L11_P22 g_1)) ?_
    refine z_iload_n (q := 41) (i := 3) (x := v_3) dX13_findHidden_40 rfl rfl rfl ?_
    obtain ⟨g_5, hf⟩ := hf
    refine z_iald (q := 42) (n := 16560) (z_L11_A22 g_1) g_5 dX13_findHidden_41 rfl ?_
    refine z_bipush (q := 44) (v := 8) dX13_findHidden_42 (by decide) rfl ?_
    refine z_icmp_lt (q := 47) (tgt := 85) dX13_findHidden_44 rfl rfl (fun hc => ?_) (fun hc => ?_)
    · have hf := hf.1 hc
      refine z_iinc (q := 88) (i := 2) (x := x2) (v := (x2 + 1)) (ls2 := [some (.ref a0), some (.int x1), some (.int (x2 + 1)), some (.int v_3)]) dX13_findHidden_85 rfl rfl (z_lt rfl) rfl rfl ?_
      refine z_goto (q := 14) dX13_findHidden_88 rfl ?_
      refine z_prune [true, true, true, false] (ls2 := [some (.ref a0), some (.int x1), some (.int (x2 + 1)), none]) rfl ?_
      exact hf
    · have hf := hf.2 hc
      refine z_aload_n (q := 48) (i := 0) (x := a0) dX13_findHidden_47 rfl rfl rfl ?_
      refine z_get 11 46 (q := 51) (v := .ref (a0 + 29)) rfl (z_lt rfl) (z_L11_T g_1) q1804 dX13_findHidden_48 rfl (z_fvR (fun _ _ _ => rfl) (z_L11_P46 g_1)) ?_
      refine z_aload_n (q := 52) (i := 0) (x := a0) dX13_findHidden_51 rfl rfl rfl ?_
      refine z_get 11 48 (q := 55) (v := .int (h.I a0 48)) rfl (z_lt rfl) (z_L11_T g_1) q1806 dX13_findHidden_52 rfl rfl ?_
      refine z_iload_n (q := 56) (i := 3) (x := v_3) dX13_findHidden_55 rfl rfl rfl ?_
      obtain ⟨g_6, hf⟩ := hf
      refine z_iast (q := 57) (n := 48) (z_L11_A46 g_1) g_6 dX13_findHidden_56 rfl ?_
      refine z_aload_n (q := 58) (i := 0) (x := a0) dX13_findHidden_57 rfl rfl rfl ?_
      refine z_get 11 47 (q := 61) (v := .ref (a0 + 30)) rfl (z_lt rfl) (z_L11_T g_1) q1805 dX13_findHidden_58 rfl (z_fvR (fun _ _ _ => rfl) (z_L11_P47 g_1)) ?_
      refine z_aload_n (q := 62) (i := 0) (x := a0) dX13_findHidden_61 rfl rfl rfl ?_
      refine z_get 11 48 (q := 65) (v := .int (h.I a0 48)) rfl (z_lt rfl) (z_L11_T g_1) q1806 dX13_findHidden_62 rfl (congrArg Value.int (z_rIa (by omega))) ?_
      refine z_aload_n (q := 66) (i := 0) (x := a0) dX13_findHidden_65 rfl rfl rfl ?_
      refine z_get 11 22 (q := 69) (v := .ref (a0 + 16)) rfl (z_lt rfl) (z_L11_T g_1) q1780 dX13_findHidden_66 rfl (z_fvR (fun _ _ _ => rfl) (z_L11_P22 g_1)) ?_
      refine z_iload_n (q := 70) (i := 3) (x := v_3) dX13_findHidden_69 rfl rfl rfl ?_
      obtain ⟨g_7, hf⟩ := hf
      refine z_iald (q := 71) (n := 16560) (z_L11_A22 g_1) g_7 dX13_findHidden_70 rfl ?_
      refine z_topI (z_rIa (by omega)) ?_
      refine z_bipush (q := 73) (v := 8) dX13_findHidden_71 (by decide) rfl ?_
      refine z_irem (q := 74) dX13_findHidden_73 (by decide) rfl ?_
      obtain ⟨g_8, hf⟩ := hf
      refine z_iast (q := 75) (n := 48) (z_L11_A47 g_1) g_8 dX13_findHidden_74 rfl ?_
      refine z_aload_n (q := 76) (i := 0) (x := a0) dX13_findHidden_75 rfl rfl rfl ?_
      refine z_dup (q := 77) dX13_findHidden_76 rfl rfl ?_
      refine z_get 11 48 (q := 80) (v := .int (h.I a0 48)) rfl (z_lt rfl) (z_L11_T g_1) q1806 dX13_findHidden_77 rfl (congrArg Value.int (Eq.trans (z_rIa (by omega)) (z_rIa (by omega)))) ?_
      refine z_iconst (q := 81) (v := 1) dX13_findHidden_80 rfl rfl ?_
      refine z_iadd (q := 82) dX13_findHidden_81 rfl ?_
      refine z_putI 11 48 (q := 85) (x := ((h.I a0 48) + 1)) (v := .int ((h.I a0 48) + 1)) rfl (z_lt rfl) (z_L11_T g_1) q1806 rfl dX13_findHidden_82 rfl rfl rfl rfl (fun _ _ _ => rfl) ?_
      refine z_iinc (q := 88) (i := 2) (x := x2) (v := (x2 + 1)) (ls2 := [some (.ref a0), some (.int x1), some (.int (x2 + 1)), some (.int v_3)]) dX13_findHidden_85 rfl rfl (z_lt rfl) rfl rfl ?_
      refine z_goto (q := 14) dX13_findHidden_88 rfl ?_
      refine z_prune [true, true, true, false] (ls2 := [some (.ref a0), some (.int x1), some (.int (x2 + 1)), none]) rfl ?_
      exact hf

theorem b_X13_findHidden_109 {l : Launch} {G : z_G} {a0 : Nat} {x1 : Int32} {x2 : Int32} {h : z_H} {Q : z_Q}  (hf : (x1 ≤ x2 → z_V l G m_X13_findHidden (z_Fm G m_X13_findHidden Q) 0 0 h 99 [some (.ref a0), some (.int (x1 + 1)), none, none] []) ∧ (¬ x1 ≤ x2 → z_L11 h a0 ∧ vp_in x2 48 ∧ vp_in x1 48 ∧ ((h.I (a0 + 30) (Int32.toNatClampNeg x2)) ≤ (h.I (a0 + 30) (Int32.toNatClampNeg x1)) → z_V l G m_X13_findHidden (z_Fm G m_X13_findHidden Q) 0 0 h 109 [some (.ref a0), some (.int x1), some (.int (x2 + 1)), none] []) ∧ (¬ (h.I (a0 + 30) (Int32.toNatClampNeg x2)) ≤ (h.I (a0 + 30) (Int32.toNatClampNeg x1)) → z_Ct l G m_X13_swaps [.ref (a0 + 30), .int x2, .int x1] h (z_Qv (fun h_4 => z_V l G m_X13_findHidden (z_Fm G m_X13_findHidden Q) 0 0 h_4 109 [some (.ref a0), some (.int x1), some (.int (x2 + 1)), none] []))))) : z_V l G m_X13_findHidden (z_Fm G m_X13_findHidden Q) 0 0 h 109 [some (.ref a0), some (.int x1), some (.int x2), none] [] := by
  refine z_iload_n (q := 110) (i := 2) (x := x2) dX13_findHidden_109 rfl rfl rfl ?_
  refine z_iload_n (q := 111) (i := 1) (x := x1) dX13_findHidden_110 rfl rfl rfl ?_
  refine z_icmp_ge (q := 114) (tgt := 144) dX13_findHidden_111 rfl rfl (fun hc => ?_) (fun hc => ?_)
  · have hf := hf.1 hc
    refine z_iinc (q := 147) (i := 1) (x := x1) (v := (x1 + 1)) (ls2 := [some (.ref a0), some (.int (x1 + 1)), some (.int x2), none]) dX13_findHidden_144 rfl rfl (z_lt rfl) rfl rfl ?_
    refine z_goto (q := 99) dX13_findHidden_147 rfl ?_
    refine z_prune [true, true, false, false] (ls2 := [some (.ref a0), some (.int (x1 + 1)), none, none]) rfl ?_
    exact hf
  · have hf := hf.2 hc
    refine z_aload_n (q := 115) (i := 0) (x := a0) dX13_findHidden_114 rfl rfl rfl ?_
    obtain ⟨g_1, hf⟩ := hf
    refine z_get 11 47 (q := 118) (v := .ref (a0 + 30)) rfl (z_lt rfl) (z_L11_T g_1) q1805 dX13_findHidden_115 rfl (z_fvR (fun _ _ _ => rfl) (z_L11_P47 g_1)) ?_
    refine z_iload_n (q := 119) (i := 2) (x := x2) dX13_findHidden_118 rfl rfl rfl ?_
    obtain ⟨g_2, hf⟩ := hf
    refine z_iald (q := 120) (n := 48) (z_L11_A47 g_1) g_2 dX13_findHidden_119 rfl ?_
    refine z_aload_n (q := 121) (i := 0) (x := a0) dX13_findHidden_120 rfl rfl rfl ?_
    refine z_get 11 47 (q := 124) (v := .ref (a0 + 30)) rfl (z_lt rfl) (z_L11_T g_1) q1805 dX13_findHidden_121 rfl (z_fvR (fun _ _ _ => rfl) (z_L11_P47 g_1)) ?_
    refine z_iload_n (q := 125) (i := 1) (x := x1) dX13_findHidden_124 rfl rfl rfl ?_
    obtain ⟨g_3, hf⟩ := hf
    refine z_iald (q := 126) (n := 48) (z_L11_A47 g_1) g_3 dX13_findHidden_125 rfl ?_
    refine z_icmp_le (q := 129) (tgt := 138) dX13_findHidden_126 rfl rfl (fun hc => ?_) (fun hc => ?_)
    · have hf := hf.1 hc
      refine z_iinc (q := 141) (i := 2) (x := x2) (v := (x2 + 1)) (ls2 := [some (.ref a0), some (.int x1), some (.int (x2 + 1)), none]) dX13_findHidden_138 rfl rfl (z_lt rfl) rfl rfl ?_
      refine z_goto (q := 109) dX13_findHidden_141 rfl ?_
      exact hf
    · have hf := hf.2 hc
      refine z_aload_n (q := 130) (i := 0) (x := a0) dX13_findHidden_129 rfl rfl rfl ?_
      refine z_get 11 47 (q := 133) (v := .ref (a0 + 30)) rfl (z_lt rfl) (z_L11_T g_1) q1805 dX13_findHidden_130 rfl (z_fvR (fun _ _ _ => rfl) (z_L11_P47 g_1)) ?_
      refine z_iload_n (q := 134) (i := 2) (x := x2) dX13_findHidden_133 rfl rfl rfl ?_
      refine z_iload_n (q := 135) (i := 1) (x := x1) dX13_findHidden_134 rfl rfl rfl ?_
      refine z_cSv m_X13_swaps [.ref (a0 + 30), .int x2, .int x1] (q := 138) (rc2 := 0) (rs2 := 0) (st := []) dX13_findHidden_135 rfl q2211 oS_X13_swaps rfl rfl ⟨z_le rfl, z_le rfl⟩ (z_le rfl) rfl  rfl hf (fun h_4 hf => ?_)
      refine z_iinc (q := 141) (i := 2) (x := x2) (v := (x2 + 1)) (ls2 := [some (.ref a0), some (.int x1), some (.int (x2 + 1)), none]) dX13_findHidden_138 rfl rfl (z_lt rfl) rfl rfl ?_
      refine z_goto (q := 109) dX13_findHidden_141 rfl ?_
      exact hf

theorem u_X13_findKey {l : Launch} {G : z_G} {a0 : Nat} {x1 : Int32} {x2 : Int32} {x3 : Int32} {h : z_H} {Q : z_Q} (hst : l.stackTraces = false)  (hf : z_L11 h a0 ∧ z_Ct l G m_X13_keyOf [.ref a0, .int x1, .int 0] h (z_Ql (fun y_2 h_3 => z_L11 h_3 a0 ∧ vp_in x1 16560 ∧ vp_in (x1 + 1) 16560 ∧ (((h_3.I (a0 + 16) (Int32.toNatClampNeg x1)) + (h_3.I (a0 + 16) (Int32.toNatClampNeg (x1 + 1)))) ≤ 21 → z_Ct l G m_X13_keyOf [.ref a0, .int x1, .int 2] h_3 (z_Ql (fun y_7 h_8 => ∀ v_9 : Int32, v_9 = (Int64.toInt32 ((((((y_2 * 31) + (0 * 17)) + (y_7 * 7)) + (y_2 >>> (Int32.toInt64 30 &&& 63))) + (y_7 >>> (Int32.toInt64 20 &&& 63))) &&& 1023)) → z_L11 h_8 a0 ∧ vp_in v_9 1024 ∧ ∀ v_13 : Int32, v_13 = (h_8.I (a0 + 25) (Int32.toNatClampNeg v_9)) → z_V l G m_X13_findKey (z_Fm G m_X13_findKey Q) 0 0 h_8 96 [some (.ref a0), none, some (.int x2), some (.int x3), some (.long y_2), none, some (.long 0), none, some (.long y_7), none, some (.int v_9), some (.int v_13)] []))) ∧ (¬ ((h_3.I (a0 + 16) (Int32.toNatClampNeg x1)) + (h_3.I (a0 + 16) (Int32.toNatClampNeg (x1 + 1)))) ≤ 21 → z_Ct l G m_X13_keyOf [.ref a0, .int x1, .int 1] h_3 (z_Ql (fun y_15 h_16 => z_L11 h_16 a0 ∧ z_Ct l G m_X13_keyOf [.ref a0, .int x1, .int 2] h_16 (z_Ql (fun y_18 h_19 => ∀ v_20 : Int32, v_20 = (Int64.toInt32 ((((((y_2 * 31) + (y_15 * 17)) + (y_18 * 7)) + (y_2 >>> (Int32.toInt64 30 &&& 63))) + (y_18 >>> (Int32.toInt64 20 &&& 63))) &&& 1023)) → z_L11 h_19 a0 ∧ vp_in v_20 1024 ∧ ∀ v_24 : Int32, v_24 = (h_19.I (a0 + 25) (Int32.toNatClampNeg v_20)) → z_V l G m_X13_findKey (z_Fm G m_X13_findKey Q) 0 0 h_19 96 [some (.ref a0), none, some (.int x2), some (.int x3), some (.long y_2), none, some (.long y_15), none, some (.long y_18), none, some (.int v_20), some (.int v_24)] [])))))))) : z_Ct l G m_X13_findKey [.ref a0, .int x1, .int x2, .int x3] h Q := by
  refine z_Ct.of (ls := [some (.ref a0), some (.int x1), some (.int x2), some (.int x3), none, none, none, none, none, none, none, none]) hst rfl (by show plainName yX13_findKey.cls = true; decide +kernel) (z_le rfl) rfl ?_
  show z_V l G m_X13_findKey (z_Fm G m_X13_findKey Q) 0 0 h 0 [some (.ref a0), some (.int x1), some (.int x2), some (.int x3), none, none, none, none, none, none, none, none] []
  refine z_aload_n (q := 1) (i := 0) (x := a0) dX13_findKey_0 rfl rfl rfl ?_
  refine z_iload_n (q := 2) (i := 1) (x := x1) dX13_findKey_1 rfl rfl rfl ?_
  refine z_iconst (q := 3) (v := 0) dX13_findKey_2 rfl rfl ?_
  obtain ⟨g_1, hf⟩ := hf
  refine z_cVl m_X13_keyOf [.int x1, .int 0] (a0) (q := 6) (rc2 := 0) (rs2 := 0) (st := []) dX13_findKey_3 rfl q2176 oV_X13_keyOf rfl rfl ⟨z_le rfl, z_le rfl⟩ (z_le rfl) (z_rcv_of 11 rfl (z_L11_T g_1) rfl) rfl  rfl hf (fun y_2 h_3 hf => ?_)
  refine z_lstore (q := 8) (i := 4) (ls2 := [some (.ref a0), some (.int x1), some (.int x2), some (.int x3), some (.long y_2), none, none, none, none, none, none, none]) (x := y_2) dX13_findKey_6 (z_lt rfl) rfl rfl ?_
  refine z_aload_n (q := 9) (i := 0) (x := a0) dX13_findKey_8 rfl rfl rfl ?_
  obtain ⟨g_4, hf⟩ := hf
  refine z_get 11 22 (q := 12) (v := .ref (a0 + 16)) rfl (z_lt rfl) (z_L11_T g_4) q1780 dX13_findKey_9 rfl (z_fvR (fun _ _ _ => rfl) (z_L11_P22 g_4)) ?_
  refine z_iload_n (q := 13) (i := 1) (x := x1) dX13_findKey_12 rfl rfl rfl ?_
  obtain ⟨g_5, hf⟩ := hf
  refine z_iald (q := 14) (n := 16560) (z_L11_A22 g_4) g_5 dX13_findKey_13 rfl ?_
  refine z_aload_n (q := 15) (i := 0) (x := a0) dX13_findKey_14 rfl rfl rfl ?_
  refine z_get 11 22 (q := 18) (v := .ref (a0 + 16)) rfl (z_lt rfl) (z_L11_T g_4) q1780 dX13_findKey_15 rfl (z_fvR (fun _ _ _ => rfl) (z_L11_P22 g_4)) ?_
  refine z_iload_n (q := 19) (i := 1) (x := x1) dX13_findKey_18 rfl rfl rfl ?_
  refine z_iconst (q := 20) (v := 1) dX13_findKey_19 rfl rfl ?_
  refine z_iadd (q := 21) dX13_findKey_20 rfl ?_
  obtain ⟨g_6, hf⟩ := hf
  refine z_iald (q := 22) (n := 16560) (z_L11_A22 g_4) g_6 dX13_findKey_21 rfl ?_
  refine z_iadd (q := 23) dX13_findKey_22 rfl ?_
  refine z_bipush (q := 25) (v := 21) dX13_findKey_23 (by decide) rfl ?_
  refine z_icmp_le (q := 28) (tgt := 37) dX13_findKey_25 rfl rfl (fun hc => ?_) (fun hc => ?_)
  · have hf := hf.1 hc
    refine z_lconst (q := 38) (v := 0) dX13_findKey_37 (by decide) rfl ?_
    refine z_lstore (q := 40) (i := 6) (ls2 := [some (.ref a0), some (.int x1), some (.int x2), some (.int x3), some (.long y_2), none, some (.long 0), none, none, none, none, none]) (x := 0) dX13_findKey_38 (z_lt rfl) rfl rfl ?_
    refine z_aload_n (q := 41) (i := 0) (x := a0) dX13_findKey_40 rfl rfl rfl ?_
    refine z_iload_n (q := 42) (i := 1) (x := x1) dX13_findKey_41 rfl rfl rfl ?_
    refine z_iconst (q := 43) (v := 2) dX13_findKey_42 rfl rfl ?_
    refine z_cVl m_X13_keyOf [.int x1, .int 2] (a0) (q := 46) (rc2 := 0) (rs2 := 0) (st := []) dX13_findKey_43 rfl q2176 oV_X13_keyOf rfl rfl ⟨z_le rfl, z_le rfl⟩ (z_le rfl) (z_rcv_of 11 rfl (z_L11_T g_4) rfl) rfl  rfl hf (fun y_7 h_8 hf => ?_)
    refine z_lstore (q := 48) (i := 8) (ls2 := [some (.ref a0), some (.int x1), some (.int x2), some (.int x3), some (.long y_2), none, some (.long 0), none, some (.long y_7), none, none, none]) (x := y_7) dX13_findKey_46 (z_lt rfl) rfl rfl ?_
    refine z_lload (q := 50) (i := 4) (x := y_2) dX13_findKey_48 rfl rfl ?_
    refine z_ldc2 (q := 53) (v := 31) dX13_findKey_50 q2182 rfl ?_
    refine z_lmul (q := 54) dX13_findKey_53 rfl ?_
    refine z_lload (q := 56) (i := 6) (x := 0) dX13_findKey_54 rfl rfl ?_
    refine z_ldc2 (q := 59) (v := 17) dX13_findKey_56 q2183 rfl ?_
    refine z_lmul (q := 60) dX13_findKey_59 rfl ?_
    refine z_ladd (q := 61) dX13_findKey_60 rfl ?_
    refine z_lload (q := 63) (i := 8) (x := y_7) dX13_findKey_61 rfl rfl ?_
    refine z_ldc2 (q := 66) (v := 7) dX13_findKey_63 q2184 rfl ?_
    refine z_lmul (q := 67) dX13_findKey_66 rfl ?_
    refine z_ladd (q := 68) dX13_findKey_67 rfl ?_
    refine z_lload (q := 70) (i := 4) (x := y_2) dX13_findKey_68 rfl rfl ?_
    refine z_bipush (q := 72) (v := 30) dX13_findKey_70 (by decide) rfl ?_
    refine z_lshr (q := 73) dX13_findKey_72 rfl ?_
    refine z_ladd (q := 74) dX13_findKey_73 rfl ?_
    refine z_lload (q := 76) (i := 8) (x := y_7) dX13_findKey_74 rfl rfl ?_
    refine z_bipush (q := 78) (v := 20) dX13_findKey_76 (by decide) rfl ?_
    refine z_lshr (q := 79) dX13_findKey_78 rfl ?_
    refine z_ladd (q := 80) dX13_findKey_79 rfl ?_
    refine z_ldc2 (q := 83) (v := 1023) dX13_findKey_80 q2185 rfl ?_
    refine z_land (q := 84) dX13_findKey_83 rfl ?_
    refine z_l2i (q := 85) dX13_findKey_84 rfl ?_
    refine z_nmI (fun v_9 hv_10 => ?_)
    have hf := hf v_9 hv_10
    refine z_istore (q := 87) (i := 10) (ls2 := [some (.ref a0), some (.int x1), some (.int x2), some (.int x3), some (.long y_2), none, some (.long 0), none, some (.long y_7), none, some (.int v_9), none]) (x := v_9) dX13_findKey_85 (z_lt rfl) rfl rfl ?_
    refine z_aload_n (q := 88) (i := 0) (x := a0) dX13_findKey_87 rfl rfl rfl ?_
    obtain ⟨g_11, hf⟩ := hf
    refine z_get 11 34 (q := 91) (v := .ref (a0 + 25)) rfl (z_lt rfl) (z_L11_T g_11) q1792 dX13_findKey_88 rfl (z_fvR (fun _ _ _ => rfl) (z_L11_P34 g_11)) ?_
    refine z_iload (q := 93) (i := 10) (x := v_9) dX13_findKey_91 rfl rfl ?_
    obtain ⟨g_12, hf⟩ := hf
    refine z_iald (q := 94) (n := 1024) (z_L11_A34 g_11) g_12 dX13_findKey_93 rfl ?_
    refine z_nmI (fun v_13 hv_14 => ?_)
    have hf := hf v_13 hv_14
    refine z_istore (q := 96) (i := 11) (ls2 := [some (.ref a0), some (.int x1), some (.int x2), some (.int x3), some (.long y_2), none, some (.long 0), none, some (.long y_7), none, some (.int v_9), some (.int v_13)]) (x := v_13) dX13_findKey_94 (z_lt rfl) rfl rfl ?_
    refine z_prune [true, false, true, true, true, false, true, false, true, false, true, true] (ls2 := [some (.ref a0), none, some (.int x2), some (.int x3), some (.long y_2), none, some (.long 0), none, some (.long y_7), none, some (.int v_9), some (.int v_13)]) rfl ?_
    exact hf
  · have hf := hf.2 hc
    refine z_aload_n (q := 29) (i := 0) (x := a0) dX13_findKey_28 rfl rfl rfl ?_
    refine z_iload_n (q := 30) (i := 1) (x := x1) dX13_findKey_29 rfl rfl rfl ?_
    refine z_iconst (q := 31) (v := 1) dX13_findKey_30 rfl rfl ?_
    refine z_cVl m_X13_keyOf [.int x1, .int 1] (a0) (q := 34) (rc2 := 0) (rs2 := 0) (st := []) dX13_findKey_31 rfl q2176 oV_X13_keyOf rfl rfl ⟨z_le rfl, z_le rfl⟩ (z_le rfl) (z_rcv_of 11 rfl (z_L11_T g_4) rfl) rfl  rfl hf (fun y_15 h_16 hf => ?_)
    refine z_goto (q := 38) dX13_findKey_34 rfl ?_
    refine z_lstore (q := 40) (i := 6) (ls2 := [some (.ref a0), some (.int x1), some (.int x2), some (.int x3), some (.long y_2), none, some (.long y_15), none, none, none, none, none]) (x := y_15) dX13_findKey_38 (z_lt rfl) rfl rfl ?_
    refine z_aload_n (q := 41) (i := 0) (x := a0) dX13_findKey_40 rfl rfl rfl ?_
    refine z_iload_n (q := 42) (i := 1) (x := x1) dX13_findKey_41 rfl rfl rfl ?_
    refine z_iconst (q := 43) (v := 2) dX13_findKey_42 rfl rfl ?_
    obtain ⟨g_17, hf⟩ := hf
    refine z_cVl m_X13_keyOf [.int x1, .int 2] (a0) (q := 46) (rc2 := 0) (rs2 := 0) (st := []) dX13_findKey_43 rfl q2176 oV_X13_keyOf rfl rfl ⟨z_le rfl, z_le rfl⟩ (z_le rfl) (z_rcv_of 11 rfl (z_L11_T g_17) rfl) rfl  rfl hf (fun y_18 h_19 hf => ?_)
    refine z_lstore (q := 48) (i := 8) (ls2 := [some (.ref a0), some (.int x1), some (.int x2), some (.int x3), some (.long y_2), none, some (.long y_15), none, some (.long y_18), none, none, none]) (x := y_18) dX13_findKey_46 (z_lt rfl) rfl rfl ?_
    refine z_lload (q := 50) (i := 4) (x := y_2) dX13_findKey_48 rfl rfl ?_
    refine z_ldc2 (q := 53) (v := 31) dX13_findKey_50 q2182 rfl ?_
    refine z_lmul (q := 54) dX13_findKey_53 rfl ?_
    refine z_lload (q := 56) (i := 6) (x := y_15) dX13_findKey_54 rfl rfl ?_
    refine z_ldc2 (q := 59) (v := 17) dX13_findKey_56 q2183 rfl ?_
    refine z_lmul (q := 60) dX13_findKey_59 rfl ?_
    refine z_ladd (q := 61) dX13_findKey_60 rfl ?_
    refine z_lload (q := 63) (i := 8) (x := y_18) dX13_findKey_61 rfl rfl ?_
    refine z_ldc2 (q := 66) (v := 7) dX13_findKey_63 q2184 rfl ?_
    refine z_lmul (q := 67) dX13_findKey_66 rfl ?_
    refine z_ladd (q := 68) dX13_findKey_67 rfl ?_
    refine z_lload (q := 70) (i := 4) (x := y_2) dX13_findKey_68 rfl rfl ?_
    refine z_bipush (q := 72) (v := 30) dX13_findKey_70 (by decide) rfl ?_
    refine z_lshr (q := 73) dX13_findKey_72 rfl ?_
    refine z_ladd (q := 74) dX13_findKey_73 rfl ?_
    refine z_lload (q := 76) (i := 8) (x := y_18) dX13_findKey_74 rfl rfl ?_
    refine z_bipush (q := 78) (v := 20) dX13_findKey_76 (by decide) rfl ?_
    refine z_lshr (q := 79) dX13_findKey_78 rfl ?_
    refine z_ladd (q := 80) dX13_findKey_79 rfl ?_
    refine z_ldc2 (q := 83) (v := 1023) dX13_findKey_80 q2185 rfl ?_
    refine z_land (q := 84) dX13_findKey_83 rfl ?_
    refine z_l2i (q := 85) dX13_findKey_84 rfl ?_
    refine z_nmI (fun v_20 hv_21 => ?_)
    have hf := hf v_20 hv_21
    refine z_istore (q := 87) (i := 10) (ls2 := [some (.ref a0), some (.int x1), some (.int x2), some (.int x3), some (.long y_2), none, some (.long y_15), none, some (.long y_18), none, some (.int v_20), none]) (x := v_20) dX13_findKey_85 (z_lt rfl) rfl rfl ?_
    refine z_aload_n (q := 88) (i := 0) (x := a0) dX13_findKey_87 rfl rfl rfl ?_
    obtain ⟨g_22, hf⟩ := hf
    refine z_get 11 34 (q := 91) (v := .ref (a0 + 25)) rfl (z_lt rfl) (z_L11_T g_22) q1792 dX13_findKey_88 rfl (z_fvR (fun _ _ _ => rfl) (z_L11_P34 g_22)) ?_
    refine z_iload (q := 93) (i := 10) (x := v_20) dX13_findKey_91 rfl rfl ?_
    obtain ⟨g_23, hf⟩ := hf
    refine z_iald (q := 94) (n := 1024) (z_L11_A34 g_22) g_23 dX13_findKey_93 rfl ?_
    refine z_nmI (fun v_24 hv_25 => ?_)
    have hf := hf v_24 hv_25
    refine z_istore (q := 96) (i := 11) (ls2 := [some (.ref a0), some (.int x1), some (.int x2), some (.int x3), some (.long y_2), none, some (.long y_15), none, some (.long y_18), none, some (.int v_20), some (.int v_24)]) (x := v_24) dX13_findKey_94 (z_lt rfl) rfl rfl ?_
    refine z_prune [true, false, true, true, true, false, true, false, true, false, true, true] (ls2 := [some (.ref a0), none, some (.int x2), some (.int x3), some (.long y_2), none, some (.long y_15), none, some (.long y_18), none, some (.int v_20), some (.int v_24)]) rfl ?_
    exact hf

theorem b_X13_findKey_96 {l : Launch} {G : z_G} {a0 : Nat} {x2 : Int32} {x3 : Int32} {y4 : Int64} {y6 : Int64} {y8 : Int64} {x10 : Int32} {x11 : Int32} {h : z_H} {Q : z_Q}  (hf : (x11 < 0 → z_L11 h a0 ∧ vp_in (h.I a0 35) 3010 ∧ vp_in (h.I a0 35) 3010 ∧ vp_in (h.I a0 35) 3010 ∧ vp_in (h.I a0 35) 3010 ∧ vp_in (h.I a0 35) 3010 ∧ vp_in x10 1024 ∧ vp_in (h.I a0 35) 3010 ∧ vp_in x10 1024 ∧ Q (some (.int (-1))) ((((((((h.sL (a0 + 19) (Int32.toNatClampNeg (h.I a0 35)) y4).sL (a0 + 20) (Int32.toNatClampNeg (h.I a0 35)) y6).sL (a0 + 21) (Int32.toNatClampNeg (h.I a0 35)) y8).sI (a0 + 22) (Int32.toNatClampNeg (h.I a0 35)) x2).sI (a0 + 23) (Int32.toNatClampNeg (h.I a0 35)) x3).sI (a0 + 24) (Int32.toNatClampNeg (h.I a0 35)) (h.I (a0 + 25) (Int32.toNatClampNeg x10))).sI (a0 + 25) (Int32.toNatClampNeg x10) (h.I a0 35)).sI a0 35 ((h.I a0 35) + 1))) ∧ (¬ x11 < 0 → z_L11 h a0 ∧ vp_in x11 3010 ∧ ((lg_cmp (h.L (a0 + 19) (Int32.toNatClampNeg x11)) y4) = 0 → vp_in x11 3010 ∧ ((lg_cmp (h.L (a0 + 20) (Int32.toNatClampNeg x11)) y6) = 0 → vp_in x11 3010 ∧ ((lg_cmp (h.L (a0 + 21) (Int32.toNatClampNeg x11)) y8) = 0 → Q (some (.int x11)) h) ∧ (¬ (lg_cmp (h.L (a0 + 21) (Int32.toNatClampNeg x11)) y8) = 0 → vp_in x11 3010 ∧ ∀ v_21 : Int32, v_21 = (h.I (a0 + 24) (Int32.toNatClampNeg x11)) → z_V l G m_X13_findKey (z_Fm G m_X13_findKey Q) 0 0 h 96 [some (.ref a0), none, some (.int x2), some (.int x3), some (.long y4), none, some (.long y6), none, some (.long y8), none, some (.int x10), some (.int v_21)] [])) ∧ (¬ (lg_cmp (h.L (a0 + 20) (Int32.toNatClampNeg x11)) y6) = 0 → vp_in x11 3010 ∧ ∀ v_17 : Int32, v_17 = (h.I (a0 + 24) (Int32.toNatClampNeg x11)) → z_V l G m_X13_findKey (z_Fm G m_X13_findKey Q) 0 0 h 96 [some (.ref a0), none, some (.int x2), some (.int x3), some (.long y4), none, some (.long y6), none, some (.long y8), none, some (.int x10), some (.int v_17)] [])) ∧ (¬ (lg_cmp (h.L (a0 + 19) (Int32.toNatClampNeg x11)) y4) = 0 → vp_in x11 3010 ∧ ∀ v_13 : Int32, v_13 = (h.I (a0 + 24) (Int32.toNatClampNeg x11)) → z_V l G m_X13_findKey (z_Fm G m_X13_findKey Q) 0 0 h 96 [some (.ref a0), none, some (.int x2), some (.int x3), some (.long y4), none, some (.long y6), none, some (.long y8), none, some (.int x10), some (.int v_13)] []))) : z_V l G m_X13_findKey (z_Fm G m_X13_findKey Q) 0 0 h 96 [some (.ref a0), none, some (.int x2), some (.int x3), some (.long y4), none, some (.long y6), none, some (.long y8), none, some (.int x10), some (.int x11)] [] := by
  refine z_iload (q := 98) (i := 11) (x := x11) dX13_findKey_96 rfl rfl ?_
  refine z_if_lt (q := 101) (tgt := 155) dX13_findKey_98 rfl rfl (fun hc => ?_) (fun hc => ?_)
  · have hf := hf.1 hc
    refine z_aload_n (q := 156) (i := 0) (x := a0) dX13_findKey_155 rfl rfl rfl ?_
    obtain ⟨g_1, hf⟩ := hf
    refine z_get 11 28 (q := 159) (v := .ref (a0 + 19)) rfl (z_lt rfl) (z_L11_T g_1) q1786 dX13_findKey_156 rfl (z_fvR (fun _ _ _ => rfl) (z_L11_P28 g_1)) ?_
    refine z_aload_n (q := 160) (i := 0) (x := a0) dX13_findKey_159 rfl rfl rfl ?_
    refine z_get 11 35 (q := 163) (v := .int (h.I a0 35)) rfl (z_lt rfl) (z_L11_T g_1) q1793 dX13_findKey_160 rfl rfl ?_
    refine z_lload (q := 165) (i := 4) (x := y4) dX13_findKey_163 rfl rfl ?_
    obtain ⟨g_2, hf⟩ := hf
    refine z_last (q := 166) (n := 3010) (z_L11_A28 g_1) g_2 dX13_findKey_165 rfl ?_
    refine z_aload_n (q := 167) (i := 0) (x := a0) dX13_findKey_166 rfl rfl rfl ?_
    refine z_get 11 29 (q := 170) (v := .ref (a0 + 20)) rfl (z_lt rfl) (z_L11_T g_1) q1787 dX13_findKey_167 rfl (z_fvR (fun _ _ _ => rfl) (z_L11_P29 g_1)) ?_
    refine z_aload_n (q := 171) (i := 0) (x := a0) dX13_findKey_170 rfl rfl rfl ?_
    refine z_get 11 35 (q := 174) (v := .int (h.I a0 35)) rfl (z_lt rfl) (z_L11_T g_1) q1793 dX13_findKey_171 rfl rfl ?_
    refine z_lload (q := 176) (i := 6) (x := y6) dX13_findKey_174 rfl rfl ?_
    obtain ⟨g_3, hf⟩ := hf
    refine z_last (q := 177) (n := 3010) (z_L11_A29 g_1) g_3 dX13_findKey_176 rfl ?_
    refine z_aload_n (q := 178) (i := 0) (x := a0) dX13_findKey_177 rfl rfl rfl ?_
    refine z_get 11 30 (q := 181) (v := .ref (a0 + 21)) rfl (z_lt rfl) (z_L11_T g_1) q1788 dX13_findKey_178 rfl (z_fvR (fun _ _ _ => rfl) (z_L11_P30 g_1)) ?_
    refine z_aload_n (q := 182) (i := 0) (x := a0) dX13_findKey_181 rfl rfl rfl ?_
    refine z_get 11 35 (q := 185) (v := .int (h.I a0 35)) rfl (z_lt rfl) (z_L11_T g_1) q1793 dX13_findKey_182 rfl rfl ?_
    refine z_lload (q := 187) (i := 8) (x := y8) dX13_findKey_185 rfl rfl ?_
    obtain ⟨g_4, hf⟩ := hf
    refine z_last (q := 188) (n := 3010) (z_L11_A30 g_1) g_4 dX13_findKey_187 rfl ?_
    refine z_aload_n (q := 189) (i := 0) (x := a0) dX13_findKey_188 rfl rfl rfl ?_
    refine z_get 11 31 (q := 192) (v := .ref (a0 + 22)) rfl (z_lt rfl) (z_L11_T g_1) q1789 dX13_findKey_189 rfl (z_fvR (fun _ _ _ => rfl) (z_L11_P31 g_1)) ?_
    refine z_aload_n (q := 193) (i := 0) (x := a0) dX13_findKey_192 rfl rfl rfl ?_
    refine z_get 11 35 (q := 196) (v := .int (h.I a0 35)) rfl (z_lt rfl) (z_L11_T g_1) q1793 dX13_findKey_193 rfl rfl ?_
    refine z_iload_n (q := 197) (i := 2) (x := x2) dX13_findKey_196 rfl rfl rfl ?_
    obtain ⟨g_5, hf⟩ := hf
    refine z_iast (q := 198) (n := 3010) (z_L11_A31 g_1) g_5 dX13_findKey_197 rfl ?_
    refine z_aload_n (q := 199) (i := 0) (x := a0) dX13_findKey_198 rfl rfl rfl ?_
    refine z_get 11 32 (q := 202) (v := .ref (a0 + 23)) rfl (z_lt rfl) (z_L11_T g_1) q1790 dX13_findKey_199 rfl (z_fvR (fun _ _ _ => rfl) (z_L11_P32 g_1)) ?_
    refine z_aload_n (q := 203) (i := 0) (x := a0) dX13_findKey_202 rfl rfl rfl ?_
    refine z_get 11 35 (q := 206) (v := .int (h.I a0 35)) rfl (z_lt rfl) (z_L11_T g_1) q1793 dX13_findKey_203 rfl (congrArg Value.int (z_rIa (by omega))) ?_
    refine z_iload_n (q := 207) (i := 3) (x := x3) dX13_findKey_206 rfl rfl rfl ?_
    obtain ⟨g_6, hf⟩ := hf
    refine z_iast (q := 208) (n := 3010) (z_L11_A32 g_1) g_6 dX13_findKey_207 rfl ?_
    refine z_aload_n (q := 209) (i := 0) (x := a0) dX13_findKey_208 rfl rfl rfl ?_
    refine z_get 11 33 (q := 212) (v := .ref (a0 + 24)) rfl (z_lt rfl) (z_L11_T g_1) q1791 dX13_findKey_209 rfl (z_fvR (fun _ _ _ => rfl) (z_L11_P33 g_1)) ?_
    refine z_aload_n (q := 213) (i := 0) (x := a0) dX13_findKey_212 rfl rfl rfl ?_
    refine z_get 11 35 (q := 216) (v := .int (h.I a0 35)) rfl (z_lt rfl) (z_L11_T g_1) q1793 dX13_findKey_213 rfl (congrArg Value.int (Eq.trans (z_rIa (by omega)) (z_rIa (by omega)))) ?_
    refine z_aload_n (q := 217) (i := 0) (x := a0) dX13_findKey_216 rfl rfl rfl ?_
    refine z_get 11 34 (q := 220) (v := .ref (a0 + 25)) rfl (z_lt rfl) (z_L11_T g_1) q1792 dX13_findKey_217 rfl (z_fvR (fun _ _ _ => rfl) (z_L11_P34 g_1)) ?_
    refine z_iload (q := 222) (i := 10) (x := x10) dX13_findKey_220 rfl rfl ?_
    obtain ⟨g_7, hf⟩ := hf
    refine z_iald (q := 223) (n := 1024) (z_L11_A34 g_1) g_7 dX13_findKey_222 rfl ?_
    refine z_topI (Eq.trans (z_rIa (by omega)) (z_rIa (by omega))) ?_
    obtain ⟨g_8, hf⟩ := hf
    refine z_iast (q := 224) (n := 3010) (z_L11_A33 g_1) g_8 dX13_findKey_223 rfl ?_
    refine z_aload_n (q := 225) (i := 0) (x := a0) dX13_findKey_224 rfl rfl rfl ?_
    refine z_get 11 34 (q := 228) (v := .ref (a0 + 25)) rfl (z_lt rfl) (z_L11_T g_1) q1792 dX13_findKey_225 rfl (z_fvR (fun _ _ _ => rfl) (z_L11_P34 g_1)) ?_
    refine z_iload (q := 230) (i := 10) (x := x10) dX13_findKey_228 rfl rfl ?_
    refine z_aload_n (q := 231) (i := 0) (x := a0) dX13_findKey_230 rfl rfl rfl ?_
    refine z_get 11 35 (q := 234) (v := .int (h.I a0 35)) rfl (z_lt rfl) (z_L11_T g_1) q1793 dX13_findKey_231 rfl (congrArg Value.int (Eq.trans (z_rIa (by omega)) (Eq.trans (z_rIa (by omega)) (z_rIa (by omega))))) ?_
    obtain ⟨g_9, hf⟩ := hf
    refine z_iast (q := 235) (n := 1024) (z_L11_A34 g_1) g_9 dX13_findKey_234 rfl ?_
    refine z_aload_n (q := 236) (i := 0) (x := a0) dX13_findKey_235 rfl rfl rfl ?_
    refine z_dup (q := 237) dX13_findKey_236 rfl rfl ?_
    refine z_get 11 35 (q := 240) (v := .int (h.I a0 35)) rfl (z_lt rfl) (z_L11_T g_1) q1793 dX13_findKey_237 rfl (congrArg Value.int (Eq.trans (z_rIa (by omega)) (Eq.trans (z_rIa (by omega)) (Eq.trans (z_rIa (by omega)) (z_rIa (by omega)))))) ?_
    refine z_iconst (q := 241) (v := 1) dX13_findKey_240 rfl rfl ?_
    refine z_iadd (q := 242) dX13_findKey_241 rfl ?_
    refine z_putI 11 35 (q := 245) (x := ((h.I a0 35) + 1)) (v := .int ((h.I a0 35) + 1)) rfl (z_lt rfl) (z_L11_T g_1) q1793 rfl dX13_findKey_242 rfl rfl rfl rfl (fun _ _ _ => rfl) ?_
    refine z_iconst (q := 246) (v := (-1)) dX13_findKey_245 rfl rfl ?_
    exact z_iret dX13_findKey_246 rfl hf
  · have hf := hf.2 hc
    refine z_aload_n (q := 102) (i := 0) (x := a0) dX13_findKey_101 rfl rfl rfl ?_
    obtain ⟨g_10, hf⟩ := hf
    refine z_get 11 28 (q := 105) (v := .ref (a0 + 19)) rfl (z_lt rfl) (z_L11_T g_10) q1786 dX13_findKey_102 rfl (z_fvR (fun _ _ _ => rfl) (z_L11_P28 g_10)) ?_
    refine z_iload (q := 107) (i := 11) (x := x11) dX13_findKey_105 rfl rfl ?_
    obtain ⟨g_11, hf⟩ := hf
    refine z_lald (q := 108) (n := 3010) (z_L11_A28 g_10) g_11 dX13_findKey_107 rfl ?_
    refine z_lload (q := 110) (i := 4) (x := y4) dX13_findKey_108 rfl rfl ?_
    refine z_lcmp (q := 111) dX13_findKey_110 rfl ?_
    refine z_if_ne (q := 114) (tgt := 143) dX13_findKey_111 rfl rfl (fun hc => ?_) (fun hc => ?_)
    · have hf := hf.2 hc
      refine z_aload_n (q := 144) (i := 0) (x := a0) dX13_findKey_143 rfl rfl rfl ?_
      refine z_get 11 33 (q := 147) (v := .ref (a0 + 24)) rfl (z_lt rfl) (z_L11_T g_10) q1791 dX13_findKey_144 rfl (z_fvR (fun _ _ _ => rfl) (z_L11_P33 g_10)) ?_
      refine z_iload (q := 149) (i := 11) (x := x11) dX13_findKey_147 rfl rfl ?_
      obtain ⟨g_12, hf⟩ := hf
      refine z_iald (q := 150) (n := 3010) (z_L11_A33 g_10) g_12 dX13_findKey_149 rfl ?_
      refine z_nmI (fun v_13 hv_14 => ?_)
      have hf := hf v_13 hv_14
      refine z_istore (q := 152) (i := 11) (ls2 := [some (.ref a0), none, some (.int x2), some (.int x3), some (.long y4), none, some (.long y6), none, some (.long y8), none, some (.int x10), some (.int v_13)]) (x := v_13) dX13_findKey_150 (z_lt rfl) rfl rfl ?_
      refine z_goto (q := 96) dX13_findKey_152 rfl ?_
      exact hf
    · have hf := hf.1 hc
      refine z_aload_n (q := 115) (i := 0) (x := a0) dX13_findKey_114 rfl rfl rfl ?_
      refine z_get 11 29 (q := 118) (v := .ref (a0 + 20)) rfl (z_lt rfl) (z_L11_T g_10) q1787 dX13_findKey_115 rfl (z_fvR (fun _ _ _ => rfl) (z_L11_P29 g_10)) ?_
      refine z_iload (q := 120) (i := 11) (x := x11) dX13_findKey_118 rfl rfl ?_
      obtain ⟨g_15, hf⟩ := hf
      refine z_lald (q := 121) (n := 3010) (z_L11_A29 g_10) g_15 dX13_findKey_120 rfl ?_
      refine z_lload (q := 123) (i := 6) (x := y6) dX13_findKey_121 rfl rfl ?_
      refine z_lcmp (q := 124) dX13_findKey_123 rfl ?_
      refine z_if_ne (q := 127) (tgt := 143) dX13_findKey_124 rfl rfl (fun hc => ?_) (fun hc => ?_)
      · have hf := hf.2 hc
        refine z_aload_n (q := 144) (i := 0) (x := a0) dX13_findKey_143 rfl rfl rfl ?_
        refine z_get 11 33 (q := 147) (v := .ref (a0 + 24)) rfl (z_lt rfl) (z_L11_T g_10) q1791 dX13_findKey_144 rfl (z_fvR (fun _ _ _ => rfl) (z_L11_P33 g_10)) ?_
        refine z_iload (q := 149) (i := 11) (x := x11) dX13_findKey_147 rfl rfl ?_
        obtain ⟨g_16, hf⟩ := hf
        refine z_iald (q := 150) (n := 3010) (z_L11_A33 g_10) g_16 dX13_findKey_149 rfl ?_
        refine z_nmI (fun v_17 hv_18 => ?_)
        have hf := hf v_17 hv_18
        refine z_istore (q := 152) (i := 11) (ls2 := [some (.ref a0), none, some (.int x2), some (.int x3), some (.long y4), none, some (.long y6), none, some (.long y8), none, some (.int x10), some (.int v_17)]) (x := v_17) dX13_findKey_150 (z_lt rfl) rfl rfl ?_
        refine z_goto (q := 96) dX13_findKey_152 rfl ?_
        exact hf
      · have hf := hf.1 hc
        refine z_aload_n (q := 128) (i := 0) (x := a0) dX13_findKey_127 rfl rfl rfl ?_
        refine z_get 11 30 (q := 131) (v := .ref (a0 + 21)) rfl (z_lt rfl) (z_L11_T g_10) q1788 dX13_findKey_128 rfl (z_fvR (fun _ _ _ => rfl) (z_L11_P30 g_10)) ?_
        refine z_iload (q := 133) (i := 11) (x := x11) dX13_findKey_131 rfl rfl ?_
        obtain ⟨g_19, hf⟩ := hf
        refine z_lald (q := 134) (n := 3010) (z_L11_A30 g_10) g_19 dX13_findKey_133 rfl ?_
        refine z_lload (q := 136) (i := 8) (x := y8) dX13_findKey_134 rfl rfl ?_
        refine z_lcmp (q := 137) dX13_findKey_136 rfl ?_
        refine z_if_ne (q := 140) (tgt := 143) dX13_findKey_137 rfl rfl (fun hc => ?_) (fun hc => ?_)
        · have hf := hf.2 hc
          refine z_aload_n (q := 144) (i := 0) (x := a0) dX13_findKey_143 rfl rfl rfl ?_
          refine z_get 11 33 (q := 147) (v := .ref (a0 + 24)) rfl (z_lt rfl) (z_L11_T g_10) q1791 dX13_findKey_144 rfl (z_fvR (fun _ _ _ => rfl) (z_L11_P33 g_10)) ?_
          refine z_iload (q := 149) (i := 11) (x := x11) dX13_findKey_147 rfl rfl ?_
          obtain ⟨g_20, hf⟩ := hf
          refine z_iald (q := 150) (n := 3010) (z_L11_A33 g_10) g_20 dX13_findKey_149 rfl ?_
          refine z_nmI (fun v_21 hv_22 => ?_)
          have hf := hf v_21 hv_22
          refine z_istore (q := 152) (i := 11) (ls2 := [some (.ref a0), none, some (.int x2), some (.int x3), some (.long y4), none, some (.long y6), none, some (.long y8), none, some (.int x10), some (.int v_21)]) (x := v_21) dX13_findKey_150 (z_lt rfl) rfl rfl ?_
          refine z_goto (q := 96) dX13_findKey_152 rfl ?_
          exact hf
        · have hf := hf.1 hc
          refine z_iload (q := 142) (i := 11) (x := x11) dX13_findKey_140 rfl rfl ?_
          exact z_iret dX13_findKey_142 rfl hf

theorem u_X13_findOdds {l : Launch} {G : z_G} {a0 : Nat} {h : z_H} {Q : z_Q} (hst : l.stackTraces = false)  (hf : z_L11 h a0 ∧ z_Ct l G m_X13_findHidden [.ref a0] h (z_Qv (fun h_2 => z_L11 h_2 a0 ∧ z_Ct l G m_X13_rowsOf [.ref a0, .ref (a0 + 30), .int (h_2.I a0 48)] h_2 (z_Qi (fun x_4 h_5 => z_L11 h_5 a0 ∧ z_V l G m_X13_findOdds (z_Fm G m_X13_findOdds Q) 0 0 (((h_5.sI a0 51 x_4).sI a0 49 0).sI a0 50 0) 32 [some (.ref a0), some (.int 0), none] []))))) : z_Ct l G m_X13_findOdds [.ref a0] h Q := by
  refine z_Ct.of (ls := [some (.ref a0), none, none]) hst rfl (by show plainName yX13_findOdds.cls = true; decide +kernel) (z_le rfl) rfl ?_
  show z_V l G m_X13_findOdds (z_Fm G m_X13_findOdds Q) 0 0 h 0 [some (.ref a0), none, none] []
  refine z_aload_n (q := 1) (i := 0) (x := a0) dX13_findOdds_0 rfl rfl rfl ?_
  obtain ⟨g_1, hf⟩ := hf
  refine z_cVv m_X13_findHidden [] (a0) (q := 4) (rc2 := 0) (rs2 := 0) (st := []) dX13_findOdds_1 rfl q2250 oV_X13_findHidden rfl rfl ⟨z_le rfl, z_le rfl⟩ (z_le rfl) (z_rcv_of 11 rfl (z_L11_T g_1) rfl) rfl  rfl hf (fun h_2 hf => ?_)
  refine z_aload_n (q := 5) (i := 0) (x := a0) dX13_findOdds_4 rfl rfl rfl ?_
  refine z_aload_n (q := 6) (i := 0) (x := a0) dX13_findOdds_5 rfl rfl rfl ?_
  refine z_aload_n (q := 7) (i := 0) (x := a0) dX13_findOdds_6 rfl rfl rfl ?_
  obtain ⟨g_3, hf⟩ := hf
  refine z_get 11 47 (q := 10) (v := .ref (a0 + 30)) rfl (z_lt rfl) (z_L11_T g_3) q1805 dX13_findOdds_7 rfl (z_fvR (fun _ _ _ => rfl) (z_L11_P47 g_3)) ?_
  refine z_aload_n (q := 11) (i := 0) (x := a0) dX13_findOdds_10 rfl rfl rfl ?_
  refine z_get 11 48 (q := 14) (v := .int (h_2.I a0 48)) rfl (z_lt rfl) (z_L11_T g_3) q1806 dX13_findOdds_11 rfl rfl ?_
  refine z_cVi m_X13_rowsOf [.ref (a0 + 30), .int (h_2.I a0 48)] (a0) (q := 17) (rc2 := 0) (rs2 := 0) (st := [.ref a0]) dX13_findOdds_14 rfl q2198 oV_X13_rowsOf rfl rfl ⟨z_le rfl, z_le rfl⟩ (z_le rfl) (z_rcv_of 11 rfl (z_L11_T g_3) rfl) rfl  rfl hf (fun x_4 h_5 hf => ?_)
  obtain ⟨g_6, hf⟩ := hf
  refine z_putI 11 51 (q := 20) (x := x_4) (v := .int x_4) rfl (z_lt rfl) (z_L11_T g_6) q1809 rfl dX13_findOdds_17 rfl rfl rfl rfl (fun _ _ _ => rfl) ?_
  refine z_aload_n (q := 21) (i := 0) (x := a0) dX13_findOdds_20 rfl rfl rfl ?_
  refine z_iconst (q := 22) (v := 0) dX13_findOdds_21 rfl rfl ?_
  refine z_putI 11 49 (q := 25) (x := 0) (v := .int 0) rfl (z_lt rfl) (z_L11_T g_6) q1807 rfl dX13_findOdds_22 rfl rfl rfl rfl (fun _ _ _ => rfl) ?_
  refine z_aload_n (q := 26) (i := 0) (x := a0) dX13_findOdds_25 rfl rfl rfl ?_
  refine z_iconst (q := 27) (v := 0) dX13_findOdds_26 rfl rfl ?_
  refine z_putI 11 50 (q := 30) (x := 0) (v := .int 0) rfl (z_lt rfl) (z_L11_T g_6) q1808 rfl dX13_findOdds_27 rfl rfl rfl rfl (fun _ _ _ => rfl) ?_
  refine z_iconst (q := 31) (v := 0) dX13_findOdds_30 rfl rfl ?_
  refine z_istore_n (q := 32) (i := 1) (ls2 := [some (.ref a0), some (.int 0), none]) (x := 0) dX13_findOdds_31 rfl (z_lt rfl) rfl rfl ?_
  exact hf

theorem b_X13_findOdds_32 {l : Launch} {G : z_G} {a0 : Nat} {x1 : Int32} {h : z_H} {Q : z_Q}  (hf : z_L11 h a0 ∧ ((h.I a0 51) ≤ x1 → Q (some (.int (if (h.I a0 51) < 0 then 0 else 1))) h) ∧ (¬ (h.I a0 51) ≤ x1 → z_Ct l G m_X13_copies [.ref a0, .int 0, .int 9660, .int 164] h (z_Qv (fun h_2 => z_V l G m_X13_findOdds (z_Fm G m_X13_findOdds Q) 0 0 h_2 53 [some (.ref a0), some (.int x1), some (.int 0)] [])))) : z_V l G m_X13_findOdds (z_Fm G m_X13_findOdds Q) 0 0 h 32 [some (.ref a0), some (.int x1), none] [] := by
  refine z_iload_n (q := 33) (i := 1) (x := x1) dX13_findOdds_32 rfl rfl rfl ?_
  refine z_aload_n (q := 34) (i := 0) (x := a0) dX13_findOdds_33 rfl rfl rfl ?_
  obtain ⟨g_1, hf⟩ := hf
  refine z_get 11 51 (q := 37) (v := .int (h.I a0 51)) rfl (z_lt rfl) (z_L11_T g_1) q1809 dX13_findOdds_34 rfl rfl ?_
  refine z_icmp_ge (q := 40) (tgt := 161) dX13_findOdds_37 rfl rfl (fun hc => ?_) (fun hc => ?_)
  · have hf := hf.1 hc
    refine z_aload_n (q := 162) (i := 0) (x := a0) dX13_findOdds_161 rfl rfl rfl ?_
    refine z_get 11 51 (q := 165) (v := .int (h.I a0 51)) rfl (z_lt rfl) (z_L11_T g_1) q1809 dX13_findOdds_162 rfl rfl ?_
    have hk : z_V l G m_X13_findOdds (z_Fm G m_X13_findOdds Q) 0 0 h 173 [some (.ref a0), some (.int x1), none] [.int (if (h.I a0 51) < 0 then 0 else 1)] := by
      exact z_zret dX13_findOdds_173 rfl (z_nb01 (z_bif z_b0 z_b1)) hf
    refine z_if_lt (q := 168) (tgt := 172) dX13_findOdds_165 rfl rfl (fun hc => ?_) (fun hc => ?_)
    · have hk := (z_ite hk).1 hc
      refine z_iconst (q := 173) (v := 0) dX13_findOdds_172 rfl rfl ?_
      exact hk
    · have hk := (z_ite hk).2 hc
      refine z_iconst (q := 169) (v := 1) dX13_findOdds_168 rfl rfl ?_
      refine z_goto (q := 173) dX13_findOdds_169 rfl ?_
      exact hk
  · have hf := hf.2 hc
    refine z_aload_n (q := 41) (i := 0) (x := a0) dX13_findOdds_40 rfl rfl rfl ?_
    refine z_iconst (q := 42) (v := 0) dX13_findOdds_41 rfl rfl ?_
    refine z_sipush (q := 45) (v := 9660) dX13_findOdds_42 (by decide) rfl ?_
    refine z_sipush (q := 48) (v := 164) dX13_findOdds_45 (by decide) rfl ?_
    refine z_cVv m_X13_copies [.int 0, .int 9660, .int 164] (a0) (q := 51) (rc2 := 0) (rs2 := 0) (st := []) dX13_findOdds_48 rfl q2104 oV_X13_copies rfl rfl ⟨z_le rfl, z_le rfl⟩ (z_le rfl) (z_rcv_of 11 rfl (z_L11_T g_1) rfl) rfl  rfl hf (fun h_2 hf => ?_)
    refine z_iconst (q := 52) (v := 0) dX13_findOdds_51 rfl rfl ?_
    refine z_istore_n (q := 53) (i := 2) (ls2 := [some (.ref a0), some (.int x1), some (.int 0)]) (x := 0) dX13_findOdds_52 rfl (z_lt rfl) rfl rfl ?_
    exact hf

theorem b_X13_findOdds_53 {l : Launch} {G : z_G} {a0 : Nat} {x1 : Int32} {x2 : Int32} {h : z_H} {Q : z_Q}  (hf : z_L11 h a0 ∧ ((h.I a0 48) ≤ x2 → z_Ct l G m_X13_runs [.ref a0, .int 9660, .int (-1)] h (z_Qv (fun h_2 => z_L11 h_2 a0 ∧ z_Ct l G m_X13_goesNext [.ref a0, .ref (a0 + 30), .int (h_2.I a0 48)] ((h_2.sI a0 49 ((h_2.I a0 49) + (if (h_2.I a0 36) = 0 then 1 else 0))).sI a0 50 ((h_2.I a0 50) + (if (h_2.I a0 36) = 1 then 1 else 0))) (z_Qi (fun x_4 h_5 => z_V l G m_X13_findOdds (z_Fm G m_X13_findOdds Q) 0 0 h_5 32 [some (.ref a0), some (.int (x1 + 1)), none] []))))) ∧ (¬ (h.I a0 48) ≤ x2 → vp_in x2 48 ∧ vp_in x2 48 ∧ vp_in (9660 + (h.I (a0 + 29) (Int32.toNatClampNeg x2))) 16560 ∧ z_V l G m_X13_findOdds (z_Fm G m_X13_findOdds Q) 0 0 (h.sI (a0 + 16) (Int32.toNatClampNeg (9660 + (h.I (a0 + 29) (Int32.toNatClampNeg x2)))) (8 + (h.I (a0 + 30) (Int32.toNatClampNeg x2)))) 53 [some (.ref a0), some (.int x1), some (.int (x2 + 1))] [])) : z_V l G m_X13_findOdds (z_Fm G m_X13_findOdds Q) 0 0 h 53 [some (.ref a0), some (.int x1), some (.int x2)] [] := by
  refine z_iload_n (q := 54) (i := 2) (x := x2) dX13_findOdds_53 rfl rfl rfl ?_
  refine z_aload_n (q := 55) (i := 0) (x := a0) dX13_findOdds_54 rfl rfl rfl ?_
  obtain ⟨g_1, hf⟩ := hf
  refine z_get 11 48 (q := 58) (v := .int (h.I a0 48)) rfl (z_lt rfl) (z_L11_T g_1) q1806 dX13_findOdds_55 rfl rfl ?_
  refine z_icmp_ge (q := 61) (tgt := 91) dX13_findOdds_58 rfl rfl (fun hc => ?_) (fun hc => ?_)
  · have hf := hf.1 hc
    refine z_aload_n (q := 92) (i := 0) (x := a0) dX13_findOdds_91 rfl rfl rfl ?_
    refine z_sipush (q := 95) (v := 9660) dX13_findOdds_92 (by decide) rfl ?_
    refine z_iconst (q := 96) (v := (-1)) dX13_findOdds_95 rfl rfl ?_
    refine z_cVv m_X13_runs [.int 9660, .int (-1)] (a0) (q := 99) (rc2 := 0) (rs2 := 0) (st := []) dX13_findOdds_96 rfl q2168 oV_X13_runs rfl rfl ⟨z_le rfl, z_le rfl⟩ (z_le rfl) (z_rcv_of 11 rfl (z_L11_T g_1) rfl) rfl  rfl hf (fun h_2 hf => ?_)
    refine z_aload_n (q := 100) (i := 0) (x := a0) dX13_findOdds_99 rfl rfl rfl ?_
    refine z_dup (q := 101) dX13_findOdds_100 rfl rfl ?_
    obtain ⟨g_3, hf⟩ := hf
    refine z_get 11 49 (q := 104) (v := .int (h_2.I a0 49)) rfl (z_lt rfl) (z_L11_T g_3) q1807 dX13_findOdds_101 rfl rfl ?_
    refine z_aload_n (q := 105) (i := 0) (x := a0) dX13_findOdds_104 rfl rfl rfl ?_
    refine z_get 11 36 (q := 108) (v := .int (h_2.I a0 36)) rfl (z_lt rfl) (z_L11_T g_3) q1794 dX13_findOdds_105 rfl rfl ?_
    have hk : z_V l G m_X13_findOdds (z_Fm G m_X13_findOdds Q) 0 0 h_2 116 [some (.ref a0), some (.int x1), some (.int x2)] [.int (if (h_2.I a0 36) = 0 then 1 else 0), .int (h_2.I a0 49), .ref a0] := by
      refine z_iadd (q := 117) dX13_findOdds_116 rfl ?_
      refine z_putI 11 49 (q := 120) (x := ((h_2.I a0 49) + (if (h_2.I a0 36) = 0 then 1 else 0))) (v := .int ((h_2.I a0 49) + (if (h_2.I a0 36) = 0 then 1 else 0))) rfl (z_lt rfl) (z_L11_T g_3) q1807 rfl dX13_findOdds_117 rfl rfl rfl rfl (fun _ _ _ => rfl) ?_
      refine z_aload_n (q := 121) (i := 0) (x := a0) dX13_findOdds_120 rfl rfl rfl ?_
      refine z_dup (q := 122) dX13_findOdds_121 rfl rfl ?_
      refine z_get 11 50 (q := 125) (v := .int (h_2.I a0 50)) rfl (z_lt rfl) (z_L11_T g_3) q1808 dX13_findOdds_122 rfl (congrArg Value.int (z_rIf (by decide))) ?_
      refine z_aload_n (q := 126) (i := 0) (x := a0) dX13_findOdds_125 rfl rfl rfl ?_
      refine z_get 11 36 (q := 129) (v := .int (h_2.I a0 36)) rfl (z_lt rfl) (z_L11_T g_3) q1794 dX13_findOdds_126 rfl (congrArg Value.int (z_rIf (by decide))) ?_
      refine z_iconst (q := 130) (v := 1) dX13_findOdds_129 rfl rfl ?_
      have hk : z_V l G m_X13_findOdds (z_Fm G m_X13_findOdds Q) 0 0 (h_2.sI a0 49 ((h_2.I a0 49) + (if (h_2.I a0 36) = 0 then 1 else 0))) 138 [some (.ref a0), some (.int x1), some (.int x2)] [.int (if (h_2.I a0 36) = 1 then 1 else 0), .int (h_2.I a0 50), .ref a0] := by
        refine z_iadd (q := 139) dX13_findOdds_138 rfl ?_
        refine z_putI 11 50 (q := 142) (x := ((h_2.I a0 50) + (if (h_2.I a0 36) = 1 then 1 else 0))) (v := .int ((h_2.I a0 50) + (if (h_2.I a0 36) = 1 then 1 else 0))) rfl (z_lt rfl) (z_L11_T g_3) q1808 rfl dX13_findOdds_139 rfl rfl rfl rfl (fun _ _ _ => rfl) ?_
        refine z_aload_n (q := 143) (i := 0) (x := a0) dX13_findOdds_142 rfl rfl rfl ?_
        refine z_aload_n (q := 144) (i := 0) (x := a0) dX13_findOdds_143 rfl rfl rfl ?_
        refine z_get 11 47 (q := 147) (v := .ref (a0 + 30)) rfl (z_lt rfl) (z_L11_T g_3) q1805 dX13_findOdds_144 rfl (z_fvR (fun _ _ _ => rfl) (z_L11_P47 g_3)) ?_
        refine z_aload_n (q := 148) (i := 0) (x := a0) dX13_findOdds_147 rfl rfl rfl ?_
        refine z_get 11 48 (q := 151) (v := .int (h_2.I a0 48)) rfl (z_lt rfl) (z_L11_T g_3) q1806 dX13_findOdds_148 rfl (congrArg Value.int (Eq.trans (z_rIf (by decide)) (z_rIf (by decide)))) ?_
        refine z_cVi m_X13_goesNext [.ref (a0 + 30), .int (h_2.I a0 48)] (a0) (q := 154) (rc2 := 0) (rs2 := 0) (st := []) dX13_findOdds_151 rfl q2207 oV_X13_goesNext rfl rfl ⟨z_le rfl, z_le rfl⟩ (z_le rfl) (z_rcv_of 11 rfl (z_L11_T g_3) rfl) rfl  rfl hf (fun x_4 h_5 hf => ?_)
        refine z_pop (q := 155) dX13_findOdds_154 rfl rfl ?_
        refine z_iinc (q := 158) (i := 1) (x := x1) (v := (x1 + 1)) (ls2 := [some (.ref a0), some (.int (x1 + 1)), some (.int x2)]) dX13_findOdds_155 rfl rfl (z_lt rfl) rfl rfl ?_
        refine z_goto (q := 32) dX13_findOdds_158 rfl ?_
        refine z_prune [true, true, false] (ls2 := [some (.ref a0), some (.int (x1 + 1)), none]) rfl ?_
        exact hf
      refine z_icmp_ne (q := 133) (tgt := 137) dX13_findOdds_130 rfl rfl (fun hc => ?_) (fun hc => ?_)
      · have hk := (z_ite hk).2 hc
        refine z_iconst (q := 138) (v := 0) dX13_findOdds_137 rfl rfl ?_
        exact hk
      · have hk := (z_ite hk).1 hc
        refine z_iconst (q := 134) (v := 1) dX13_findOdds_133 rfl rfl ?_
        refine z_goto (q := 138) dX13_findOdds_134 rfl ?_
        exact hk
    refine z_if_ne (q := 111) (tgt := 115) dX13_findOdds_108 rfl rfl (fun hc => ?_) (fun hc => ?_)
    · have hk := (z_ite hk).2 hc
      refine z_iconst (q := 116) (v := 0) dX13_findOdds_115 rfl rfl ?_
      exact hk
    · have hk := (z_ite hk).1 hc
      refine z_iconst (q := 112) (v := 1) dX13_findOdds_111 rfl rfl ?_
      refine z_goto (q := 116) dX13_findOdds_112 rfl ?_
      exact hk
  · have hf := hf.2 hc
    refine z_aload_n (q := 62) (i := 0) (x := a0) dX13_findOdds_61 rfl rfl rfl ?_
    refine z_get 11 22 (q := 65) (v := .ref (a0 + 16)) rfl (z_lt rfl) (z_L11_T g_1) q1780 dX13_findOdds_62 rfl (z_fvR (fun _ _ _ => rfl) (z_L11_P22 g_1)) ?_
    refine z_sipush (q := 68) (v := 9660) dX13_findOdds_65 (by decide) rfl ?_
    refine z_aload_n (q := 69) (i := 0) (x := a0) dX13_findOdds_68 rfl rfl rfl ?_
    refine z_get 11 46 (q := 72) (v := .ref (a0 + 29)) rfl (z_lt rfl) (z_L11_T g_1) q1804 dX13_findOdds_69 rfl (z_fvR (fun _ _ _ => rfl) (z_L11_P46 g_1)) ?_
    refine z_iload_n (q := 73) (i := 2) (x := x2) dX13_findOdds_72 rfl rfl rfl ?_
    obtain ⟨g_6, hf⟩ := hf
    refine z_iald (q := 74) (n := 48) (z_L11_A46 g_1) g_6 dX13_findOdds_73 rfl ?_
    refine z_iadd (q := 75) dX13_findOdds_74 rfl ?_
    refine z_bipush (q := 77) (v := 8) dX13_findOdds_75 (by decide) rfl ?_
    refine z_aload_n (q := 78) (i := 0) (x := a0) dX13_findOdds_77 rfl rfl rfl ?_
    refine z_get 11 47 (q := 81) (v := .ref (a0 + 30)) rfl (z_lt rfl) (z_L11_T g_1) q1805 dX13_findOdds_78 rfl (z_fvR (fun _ _ _ => rfl) (z_L11_P47 g_1)) ?_
    refine z_iload_n (q := 82) (i := 2) (x := x2) dX13_findOdds_81 rfl rfl rfl ?_
    obtain ⟨g_7, hf⟩ := hf
    refine z_iald (q := 83) (n := 48) (z_L11_A47 g_1) g_7 dX13_findOdds_82 rfl ?_
    refine z_iadd (q := 84) dX13_findOdds_83 rfl ?_
    obtain ⟨g_8, hf⟩ := hf
    refine z_iast (q := 85) (n := 16560) (z_L11_A22 g_1) g_8 dX13_findOdds_84 rfl ?_
    refine z_iinc (q := 88) (i := 2) (x := x2) (v := (x2 + 1)) (ls2 := [some (.ref a0), some (.int x1), some (.int (x2 + 1))]) dX13_findOdds_85 rfl rfl (z_lt rfl) rfl rfl ?_
    refine z_goto (q := 53) dX13_findOdds_88 rfl ?_
    exact hf

theorem u_X13_fitsOpening {l : Launch} {G : z_G} {a0 : Nat} {x1 : Int32} {h : z_H} {Q : z_Q} (hst : l.stackTraces = false)  (hf : z_V l G m_X13_fitsOpening (z_Fm G m_X13_fitsOpening Q) 0 0 h 4 [some (.ref a0), some (.int x1), some (.int 1), some (.int 0), none, none] []) : z_Ct l G m_X13_fitsOpening [.ref a0, .int x1] h Q := by
  refine z_Ct.of (ls := [some (.ref a0), some (.int x1), none, none, none, none]) hst rfl (by show plainName yX13_fitsOpening.cls = true; decide +kernel) (z_le rfl) rfl ?_
  show z_V l G m_X13_fitsOpening (z_Fm G m_X13_fitsOpening Q) 0 0 h 0 [some (.ref a0), some (.int x1), none, none, none, none] []
  refine z_iconst (q := 1) (v := 1) dX13_fitsOpening_0 rfl rfl ?_
  refine z_istore_n (q := 2) (i := 2) (ls2 := [some (.ref a0), some (.int x1), some (.int 1), none, none, none]) (x := 1) dX13_fitsOpening_1 rfl (z_lt rfl) rfl rfl ?_
  refine z_iconst (q := 3) (v := 0) dX13_fitsOpening_2 rfl rfl ?_
  refine z_istore_n (q := 4) (i := 3) (ls2 := [some (.ref a0), some (.int x1), some (.int 1), some (.int 0), none, none]) (x := 0) dX13_fitsOpening_3 rfl (z_lt rfl) rfl rfl ?_
  exact hf

theorem b_X13_fitsOpening_4 {l : Launch} {G : z_G} {a0 : Nat} {x1 : Int32} {x2 : Int32} {x3 : Int32} {h : z_H} {Q : z_Q}  (hf : (2 ≤ x3 → (x2 = 0 ∨ x2 = 1) ∧ Q (some (.int x2)) h) ∧ (¬ 2 ≤ x3 → ∀ v_2 : Int32, v_2 = ((22 + (15 * x1)) + (7 * x3)) → z_L11 h a0 ∧ ((x2 = 0 → True) ∧ (¬ x2 = 0 → vp_in v_2 420 ∧ vp_in (16 + x3) 16560 ∧ True)) ∧ ∀ v_7 : Int32, v_7 = (if x2 = 0 then 0 else (if (h.I (a0 + 16) (Int32.toNatClampNeg (16 + x3))) < (h.I (a0 + 6) (Int32.toNatClampNeg v_2)) then 0 else 1)) → z_V l G m_X13_fitsOpening (z_Fm G m_X13_fitsOpening Q) 0 0 h 55 [some (.ref a0), some (.int x1), some (.int v_7), some (.int x3), some (.int v_2), some (.int 0)] [])) : z_V l G m_X13_fitsOpening (z_Fm G m_X13_fitsOpening Q) 0 0 h 4 [some (.ref a0), some (.int x1), some (.int x2), some (.int x3), none, none] [] := by
  refine z_iload_n (q := 5) (i := 3) (x := x3) dX13_fitsOpening_4 rfl rfl rfl ?_
  refine z_iconst (q := 6) (v := 2) dX13_fitsOpening_5 rfl rfl ?_
  refine z_icmp_ge (q := 9) (tgt := 120) dX13_fitsOpening_6 rfl rfl (fun hc => ?_) (fun hc => ?_)
  · have hf := hf.1 hc
    refine z_iload_n (q := 121) (i := 2) (x := x2) dX13_fitsOpening_120 rfl rfl rfl ?_
    obtain ⟨g_1, hf⟩ := hf
    exact z_zret dX13_fitsOpening_121 rfl (z_nb01 g_1) hf
  · have hf := hf.2 hc
    refine z_bipush (q := 11) (v := 22) dX13_fitsOpening_9 (by decide) rfl ?_
    refine z_bipush (q := 13) (v := 15) dX13_fitsOpening_11 (by decide) rfl ?_
    refine z_iload_n (q := 14) (i := 1) (x := x1) dX13_fitsOpening_13 rfl rfl rfl ?_
    refine z_imul (q := 15) dX13_fitsOpening_14 rfl ?_
    refine z_iadd (q := 16) dX13_fitsOpening_15 rfl ?_
    refine z_bipush (q := 18) (v := 7) dX13_fitsOpening_16 (by decide) rfl ?_
    refine z_iload_n (q := 19) (i := 3) (x := x3) dX13_fitsOpening_18 rfl rfl rfl ?_
    refine z_imul (q := 20) dX13_fitsOpening_19 rfl ?_
    refine z_iadd (q := 21) dX13_fitsOpening_20 rfl ?_
    refine z_nmI (fun v_2 hv_3 => ?_)
    have hf := hf v_2 hv_3
    refine z_istore (q := 23) (i := 4) (ls2 := [some (.ref a0), some (.int x1), some (.int x2), some (.int x3), some (.int v_2), none]) (x := v_2) dX13_fitsOpening_21 (z_lt rfl) rfl rfl ?_
    refine z_iload_n (q := 24) (i := 2) (x := x2) dX13_fitsOpening_23 rfl rfl rfl ?_
    obtain ⟨g_4, hf⟩ := hf
    obtain ⟨hsc, hf⟩ := hf
    have hk : z_V l G m_X13_fitsOpening (z_Fm G m_X13_fitsOpening Q) 0 0 h 51 [some (.ref a0), some (.int x1), some (.int x2), some (.int x3), some (.int v_2), none] [.int (if x2 = 0 then 0 else (if (h.I (a0 + 16) (Int32.toNatClampNeg (16 + x3))) < (h.I (a0 + 6) (Int32.toNatClampNeg v_2)) then 0 else 1))] := by
      refine z_nmI (fun v_7 hv_8 => ?_)
      have hf := hf v_7 hv_8
      refine z_istore_n (q := 52) (i := 2) (ls2 := [some (.ref a0), some (.int x1), some (.int v_7), some (.int x3), some (.int v_2), none]) (x := v_7) dX13_fitsOpening_51 rfl (z_lt rfl) rfl rfl ?_
      refine z_iconst (q := 53) (v := 0) dX13_fitsOpening_52 rfl rfl ?_
      refine z_istore (q := 55) (i := 5) (ls2 := [some (.ref a0), some (.int x1), some (.int v_7), some (.int x3), some (.int v_2), some (.int 0)]) (x := 0) dX13_fitsOpening_53 (z_lt rfl) rfl rfl ?_
      exact hf
    refine z_if_eq (q := 27) (tgt := 50) dX13_fitsOpening_24 rfl rfl (fun hc => ?_) (fun hc => ?_)
    · have hk := (z_ite hk).1 hc
      have hsc := hsc.1 hc
      refine z_iconst (q := 51) (v := 0) dX13_fitsOpening_50 rfl rfl ?_
      exact hk
    · have hk := (z_ite hk).2 hc
      have hsc := hsc.2 hc
      obtain ⟨g_5, hsc⟩ := hsc
      obtain ⟨g_6, hsc⟩ := hsc
      refine z_aload_n (q := 28) (i := 0) (x := a0) dX13_fitsOpening_27 rfl rfl rfl ?_
      refine z_get 11 10 (q := 31) (v := .ref (a0 + 6)) rfl (z_lt rfl) (z_L11_T g_4) q1768 dX13_fitsOpening_28 rfl (z_fvR (fun _ _ _ => rfl) (z_L11_P10 g_4)) ?_
      refine z_iload (q := 33) (i := 4) (x := v_2) dX13_fitsOpening_31 rfl rfl ?_
      refine z_iald (q := 34) (n := 420) (z_L11_A10 g_4) g_5 dX13_fitsOpening_33 rfl ?_
      refine z_aload_n (q := 35) (i := 0) (x := a0) dX13_fitsOpening_34 rfl rfl rfl ?_
      refine z_get 11 22 (q := 38) (v := .ref (a0 + 16)) rfl (z_lt rfl) (z_L11_T g_4) q1780 dX13_fitsOpening_35 rfl (z_fvR (fun _ _ _ => rfl) (z_L11_P22 g_4)) ?_
      refine z_bipush (q := 40) (v := 16) dX13_fitsOpening_38 (by decide) rfl ?_
      refine z_iload_n (q := 41) (i := 3) (x := x3) dX13_fitsOpening_40 rfl rfl rfl ?_
      refine z_iadd (q := 42) dX13_fitsOpening_41 rfl ?_
      refine z_iald (q := 43) (n := 16560) (z_L11_A22 g_4) g_6 dX13_fitsOpening_42 rfl ?_
      refine z_icmp_gt (q := 46) (tgt := 50) dX13_fitsOpening_43 rfl rfl (fun hc => ?_) (fun hc => ?_)
      · have hk := (z_ite hk).1 hc
        refine z_iconst (q := 51) (v := 0) dX13_fitsOpening_50 rfl rfl ?_
        exact hk
      · have hk := (z_ite hk).2 hc
        refine z_iconst (q := 47) (v := 1) dX13_fitsOpening_46 rfl rfl ?_
        refine z_goto (q := 51) dX13_fitsOpening_47 rfl ?_
        exact hk

theorem b_X13_fitsOpening_55 {l : Launch} {G : z_G} {a0 : Nat} {x1 : Int32} {x2 : Int32} {x3 : Int32} {x4 : Int32} {x5 : Int32} {h : z_H} {Q : z_Q}  (hf : z_L11 h a0 ∧ vp_in x4 420 ∧ ((h.I (a0 + 6) (Int32.toNatClampNeg x4)) ≤ x5 → z_V l G m_X13_fitsOpening (z_Fm G m_X13_fitsOpening Q) 0 0 h 4 [some (.ref a0), some (.int x1), some (.int x2), some (.int (x3 + 1)), none, none] []) ∧ (¬ (h.I (a0 + 6) (Int32.toNatClampNeg x4)) ≤ x5 → (x2 = 0 → z_V l G m_X13_fitsOpening (z_Fm G m_X13_fitsOpening Q) 0 0 h 4 [some (.ref a0), some (.int x1), some (.int x2), some (.int (x3 + 1)), none, none] []) ∧ (¬ x2 = 0 → vp_in ((x4 + 1) + x5) 420 ∧ vp_in ((212 + (24 * x3)) + x5) 16560 ∧ ∀ v_5 : Int32, v_5 = (if (h.I (a0 + 6) (Int32.toNatClampNeg ((x4 + 1) + x5))) = (h.I (a0 + 16) (Int32.toNatClampNeg ((212 + (24 * x3)) + x5))) then 1 else 0) → z_V l G m_X13_fitsOpening (z_Fm G m_X13_fitsOpening Q) 0 0 h 55 [some (.ref a0), some (.int x1), some (.int v_5), some (.int x3), some (.int x4), some (.int (x5 + 1))] []))) : z_V l G m_X13_fitsOpening (z_Fm G m_X13_fitsOpening Q) 0 0 h 55 [some (.ref a0), some (.int x1), some (.int x2), some (.int x3), some (.int x4), some (.int x5)] [] := by
  refine z_iload (q := 57) (i := 5) (x := x5) dX13_fitsOpening_55 rfl rfl ?_
  refine z_aload_n (q := 58) (i := 0) (x := a0) dX13_fitsOpening_57 rfl rfl rfl ?_
  obtain ⟨g_1, hf⟩ := hf
  refine z_get 11 10 (q := 61) (v := .ref (a0 + 6)) rfl (z_lt rfl) (z_L11_T g_1) q1768 dX13_fitsOpening_58 rfl (z_fvR (fun _ _ _ => rfl) (z_L11_P10 g_1)) ?_
  refine z_iload (q := 63) (i := 4) (x := x4) dX13_fitsOpening_61 rfl rfl ?_
  obtain ⟨g_2, hf⟩ := hf
  refine z_iald (q := 64) (n := 420) (z_L11_A10 g_1) g_2 dX13_fitsOpening_63 rfl ?_
  refine z_icmp_ge (q := 67) (tgt := 114) dX13_fitsOpening_64 rfl rfl (fun hc => ?_) (fun hc => ?_)
  · have hf := hf.1 hc
    refine z_iinc (q := 117) (i := 3) (x := x3) (v := (x3 + 1)) (ls2 := [some (.ref a0), some (.int x1), some (.int x2), some (.int (x3 + 1)), some (.int x4), some (.int x5)]) dX13_fitsOpening_114 rfl rfl (z_lt rfl) rfl rfl ?_
    refine z_goto (q := 4) dX13_fitsOpening_117 rfl ?_
    refine z_prune [true, true, true, true, false, false] (ls2 := [some (.ref a0), some (.int x1), some (.int x2), some (.int (x3 + 1)), none, none]) rfl ?_
    exact hf
  · have hf := hf.2 hc
    refine z_iload_n (q := 68) (i := 2) (x := x2) dX13_fitsOpening_67 rfl rfl rfl ?_
    refine z_if_eq (q := 71) (tgt := 114) dX13_fitsOpening_68 rfl rfl (fun hc => ?_) (fun hc => ?_)
    · have hf := hf.1 hc
      refine z_iinc (q := 117) (i := 3) (x := x3) (v := (x3 + 1)) (ls2 := [some (.ref a0), some (.int x1), some (.int x2), some (.int (x3 + 1)), some (.int x4), some (.int x5)]) dX13_fitsOpening_114 rfl rfl (z_lt rfl) rfl rfl ?_
      refine z_goto (q := 4) dX13_fitsOpening_117 rfl ?_
      refine z_prune [true, true, true, true, false, false] (ls2 := [some (.ref a0), some (.int x1), some (.int x2), some (.int (x3 + 1)), none, none]) rfl ?_
      exact hf
    · have hf := hf.2 hc
      refine z_aload_n (q := 72) (i := 0) (x := a0) dX13_fitsOpening_71 rfl rfl rfl ?_
      refine z_get 11 10 (q := 75) (v := .ref (a0 + 6)) rfl (z_lt rfl) (z_L11_T g_1) q1768 dX13_fitsOpening_72 rfl (z_fvR (fun _ _ _ => rfl) (z_L11_P10 g_1)) ?_
      refine z_iload (q := 77) (i := 4) (x := x4) dX13_fitsOpening_75 rfl rfl ?_
      refine z_iconst (q := 78) (v := 1) dX13_fitsOpening_77 rfl rfl ?_
      refine z_iadd (q := 79) dX13_fitsOpening_78 rfl ?_
      refine z_iload (q := 81) (i := 5) (x := x5) dX13_fitsOpening_79 rfl rfl ?_
      refine z_iadd (q := 82) dX13_fitsOpening_81 rfl ?_
      obtain ⟨g_3, hf⟩ := hf
      refine z_iald (q := 83) (n := 420) (z_L11_A10 g_1) g_3 dX13_fitsOpening_82 rfl ?_
      refine z_aload_n (q := 84) (i := 0) (x := a0) dX13_fitsOpening_83 rfl rfl rfl ?_
      refine z_get 11 22 (q := 87) (v := .ref (a0 + 16)) rfl (z_lt rfl) (z_L11_T g_1) q1780 dX13_fitsOpening_84 rfl (z_fvR (fun _ _ _ => rfl) (z_L11_P22 g_1)) ?_
      refine z_sipush (q := 90) (v := 212) dX13_fitsOpening_87 (by decide) rfl ?_
      refine z_bipush (q := 92) (v := 24) dX13_fitsOpening_90 (by decide) rfl ?_
      refine z_iload_n (q := 93) (i := 3) (x := x3) dX13_fitsOpening_92 rfl rfl rfl ?_
      refine z_imul (q := 94) dX13_fitsOpening_93 rfl ?_
      refine z_iadd (q := 95) dX13_fitsOpening_94 rfl ?_
      refine z_iload (q := 97) (i := 5) (x := x5) dX13_fitsOpening_95 rfl rfl ?_
      refine z_iadd (q := 98) dX13_fitsOpening_97 rfl ?_
      obtain ⟨g_4, hf⟩ := hf
      refine z_iald (q := 99) (n := 16560) (z_L11_A22 g_1) g_4 dX13_fitsOpening_98 rfl ?_
      have hk : z_V l G m_X13_fitsOpening (z_Fm G m_X13_fitsOpening Q) 0 0 h 107 [some (.ref a0), some (.int x1), some (.int x2), some (.int x3), some (.int x4), some (.int x5)] [.int (if (h.I (a0 + 6) (Int32.toNatClampNeg ((x4 + 1) + x5))) = (h.I (a0 + 16) (Int32.toNatClampNeg ((212 + (24 * x3)) + x5))) then 1 else 0)] := by
        refine z_nmI (fun v_5 hv_6 => ?_)
        have hf := hf v_5 hv_6
        refine z_istore_n (q := 108) (i := 2) (ls2 := [some (.ref a0), some (.int x1), some (.int v_5), some (.int x3), some (.int x4), some (.int x5)]) (x := v_5) dX13_fitsOpening_107 rfl (z_lt rfl) rfl rfl ?_
        refine z_iinc (q := 111) (i := 5) (x := x5) (v := (x5 + 1)) (ls2 := [some (.ref a0), some (.int x1), some (.int v_5), some (.int x3), some (.int x4), some (.int (x5 + 1))]) dX13_fitsOpening_108 rfl rfl (z_lt rfl) rfl rfl ?_
        refine z_goto (q := 55) dX13_fitsOpening_111 rfl ?_
        exact hf
      refine z_icmp_ne (q := 102) (tgt := 106) dX13_fitsOpening_99 rfl rfl (fun hc => ?_) (fun hc => ?_)
      · have hk := (z_ite hk).2 hc
        refine z_iconst (q := 107) (v := 0) dX13_fitsOpening_106 rfl rfl ?_
        exact hk
      · have hk := (z_ite hk).1 hc
        refine z_iconst (q := 103) (v := 1) dX13_fitsOpening_102 rfl rfl ?_
        refine z_goto (q := 107) dX13_fitsOpening_103 rfl ?_
        exact hk

theorem u_X13_games {l : Launch} {G : z_G} {a0 : Nat} {x1 : Int32} {x2 : Int32} {x3 : Int32} {h : z_H} {Q : z_Q} (hst : l.stackTraces = false)  (hf : z_L11 h a0 ∧ z_Ct l G m_X13_within [.int x1, .int 0, .int 9999] (h.sI a0 0 0) (z_Qi (fun x_2 h_3 => (x_2 = 0 → Q (some (.int (-1))) h_3) ∧ (¬ x_2 = 0 → z_Ct l G m_X13_within [.int x2, .int 1, .int 50] h_3 (z_Qi (fun x_4 h_5 => (x_4 = 0 → Q (some (.int (-1))) h_5) ∧ (¬ x_4 = 0 → z_Ct l G m_X13_within [.int x3, .int 0, .int 3] h_5 (z_Qi (fun x_6 h_7 => (x_6 = 0 → Q (some (.int (-1))) h_7) ∧ (¬ x_6 = 0 → z_L11 h_7 a0 ∧ z_Ct l G m_X13_cards [.ref a0, .int 0] h_7 (z_Qi (fun x_9 h_10 => (x_9 = 0 → Q (some (.int (-1))) h_10) ∧ (¬ x_9 = 0 → z_L11 h_10 a0 ∧ z_V l G m_X13_games (z_Fm G m_X13_games Q) 0 0 (h_10.sL a0 55 (Int32.toInt64 x1)) 60 [some (.ref a0), none, some (.int x2), some (.int x3), some (.int 0), some (.int 0), some (.int 0)] []))))))))))))) : z_Ct l G m_X13_games [.ref a0, .int x1, .int x2, .int x3] h Q := by
  refine z_Ct.of (ls := [some (.ref a0), some (.int x1), some (.int x2), some (.int x3), none, none, none]) hst rfl (by show plainName yX13_games.cls = true; decide +kernel) (z_le rfl) rfl ?_
  show z_V l G m_X13_games (z_Fm G m_X13_games Q) 0 0 h 0 [some (.ref a0), some (.int x1), some (.int x2), some (.int x3), none, none, none] []
  refine z_aload_n (q := 1) (i := 0) (x := a0) dX13_games_0 rfl rfl rfl ?_
  refine z_iconst (q := 2) (v := 0) dX13_games_1 rfl rfl ?_
  obtain ⟨g_1, hf⟩ := hf
  refine z_putI 11 0 (q := 5) (x := 0) (v := .int 0) rfl (z_lt rfl) (z_L11_T g_1) q1758 rfl dX13_games_2 rfl rfl rfl rfl (fun _ _ _ => rfl) ?_
  refine z_iload_n (q := 6) (i := 1) (x := x1) dX13_games_5 rfl rfl rfl ?_
  refine z_iconst (q := 7) (v := 0) dX13_games_6 rfl rfl ?_
  refine z_sipush (q := 10) (v := 9999) dX13_games_7 (by decide) rfl ?_
  refine z_cSi m_X13_within [.int x1, .int 0, .int 9999] (q := 13) (rc2 := 0) (rs2 := 0) (st := []) dX13_games_10 rfl q2074 oS_X13_within rfl rfl ⟨z_le rfl, z_le rfl⟩ (z_le rfl) rfl  rfl hf (fun x_2 h_3 hf => ?_)
  refine z_if_eq (q := 16) (tgt := 43) dX13_games_13 rfl rfl (fun hc => ?_) (fun hc => ?_)
  · have hf := hf.1 hc
    refine z_iconst (q := 44) (v := (-1)) dX13_games_43 rfl rfl ?_
    exact z_iret dX13_games_44 rfl hf
  · have hf := hf.2 hc
    refine z_iload_n (q := 17) (i := 2) (x := x2) dX13_games_16 rfl rfl rfl ?_
    refine z_iconst (q := 18) (v := 1) dX13_games_17 rfl rfl ?_
    refine z_bipush (q := 20) (v := 50) dX13_games_18 (by decide) rfl ?_
    refine z_cSi m_X13_within [.int x2, .int 1, .int 50] (q := 23) (rc2 := 0) (rs2 := 0) (st := []) dX13_games_20 rfl q2074 oS_X13_within rfl rfl ⟨z_le rfl, z_le rfl⟩ (z_le rfl) rfl  rfl hf (fun x_4 h_5 hf => ?_)
    refine z_if_eq (q := 26) (tgt := 43) dX13_games_23 rfl rfl (fun hc => ?_) (fun hc => ?_)
    · have hf := hf.1 hc
      refine z_iconst (q := 44) (v := (-1)) dX13_games_43 rfl rfl ?_
      exact z_iret dX13_games_44 rfl hf
    · have hf := hf.2 hc
      refine z_iload_n (q := 27) (i := 3) (x := x3) dX13_games_26 rfl rfl rfl ?_
      refine z_iconst (q := 28) (v := 0) dX13_games_27 rfl rfl ?_
      refine z_iconst (q := 29) (v := 3) dX13_games_28 rfl rfl ?_
      refine z_cSi m_X13_within [.int x3, .int 0, .int 3] (q := 32) (rc2 := 0) (rs2 := 0) (st := []) dX13_games_29 rfl q2074 oS_X13_within rfl rfl ⟨z_le rfl, z_le rfl⟩ (z_le rfl) rfl  rfl hf (fun x_6 h_7 hf => ?_)
      refine z_if_eq (q := 35) (tgt := 43) dX13_games_32 rfl rfl (fun hc => ?_) (fun hc => ?_)
      · have hf := hf.1 hc
        refine z_iconst (q := 44) (v := (-1)) dX13_games_43 rfl rfl ?_
        exact z_iret dX13_games_44 rfl hf
      · have hf := hf.2 hc
        refine z_aload_n (q := 36) (i := 0) (x := a0) dX13_games_35 rfl rfl rfl ?_
        refine z_iconst (q := 37) (v := 0) dX13_games_36 rfl rfl ?_
        obtain ⟨g_8, hf⟩ := hf
        refine z_cVi m_X13_cards [.int 0] (a0) (q := 40) (rc2 := 0) (rs2 := 0) (st := []) dX13_games_37 rfl q1990 oV_X13_cards rfl rfl ⟨z_le rfl, z_le rfl⟩ (z_le rfl) (z_rcv_of 11 rfl (z_L11_T g_8) rfl) rfl  rfl hf (fun x_9 h_10 hf => ?_)
        refine z_if_ne (q := 43) (tgt := 45) dX13_games_40 rfl rfl (fun hc => ?_) (fun hc => ?_)
        · have hf := hf.2 hc
          refine z_aload_n (q := 46) (i := 0) (x := a0) dX13_games_45 rfl rfl rfl ?_
          refine z_iload_n (q := 47) (i := 1) (x := x1) dX13_games_46 rfl rfl rfl ?_
          refine z_i2l (q := 48) dX13_games_47 rfl ?_
          obtain ⟨g_11, hf⟩ := hf
          refine z_putL 11 55 (q := 51) (x := (Int32.toInt64 x1)) (v := .long (Int32.toInt64 x1)) rfl (z_lt rfl) (z_L11_T g_11) q1813 rfl dX13_games_48 rfl rfl rfl rfl (fun _ _ _ => rfl) ?_
          refine z_iconst (q := 52) (v := 0) dX13_games_51 rfl rfl ?_
          refine z_istore (q := 54) (i := 4) (ls2 := [some (.ref a0), some (.int x1), some (.int x2), some (.int x3), some (.int 0), none, none]) (x := 0) dX13_games_52 (z_lt rfl) rfl rfl ?_
          refine z_iconst (q := 55) (v := 0) dX13_games_54 rfl rfl ?_
          refine z_istore (q := 57) (i := 5) (ls2 := [some (.ref a0), some (.int x1), some (.int x2), some (.int x3), some (.int 0), some (.int 0), none]) (x := 0) dX13_games_55 (z_lt rfl) rfl rfl ?_
          refine z_iconst (q := 58) (v := 0) dX13_games_57 rfl rfl ?_
          refine z_istore (q := 60) (i := 6) (ls2 := [some (.ref a0), some (.int x1), some (.int x2), some (.int x3), some (.int 0), some (.int 0), some (.int 0)]) (x := 0) dX13_games_58 (z_lt rfl) rfl rfl ?_
          refine z_prune [true, false, true, true, true, true, true] (ls2 := [some (.ref a0), none, some (.int x2), some (.int x3), some (.int 0), some (.int 0), some (.int 0)]) rfl ?_
          exact hf
        · have hf := hf.1 hc
          refine z_iconst (q := 44) (v := (-1)) dX13_games_43 rfl rfl ?_
          exact z_iret dX13_games_44 rfl hf

theorem b_X13_games_60 {l : Launch} {G : z_G} {a0 : Nat} {x2 : Int32} {x3 : Int32} {x4 : Int32} {x5 : Int32} {x6 : Int32} {h : z_H} {Q : z_Q}  (hf : (x2 ≤ x6 → Q (some (.int (if x3 = 3 then x5 else x4))) h) ∧ (¬ x2 ≤ x6 → z_L11 h a0 ∧ z_Ct l G m_X13_runsDrawn [.ref a0] h (z_Qv (fun h_2 => z_L11 h_2 a0 ∧ ∀ v_4 : Int32, v_4 = (x4 + (if (h_2.I a0 36) = x3 then 1 else 0)) → ∀ v_6 : Int32, v_6 = (if 2 ≤ (h_2.I a0 36) then x5 else (if (h_2.I a0 37) ≤ x5 then x5 else (h_2.I a0 37))) → z_V l G m_X13_games (z_Fm G m_X13_games Q) 0 0 h_2 60 [some (.ref a0), none, some (.int x2), some (.int x3), some (.int v_4), some (.int v_6), some (.int (x6 + 1))] [])))) : z_V l G m_X13_games (z_Fm G m_X13_games Q) 0 0 h 60 [some (.ref a0), none, some (.int x2), some (.int x3), some (.int x4), some (.int x5), some (.int x6)] [] := by
  refine z_iload (q := 62) (i := 6) (x := x6) dX13_games_60 rfl rfl ?_
  refine z_iload_n (q := 63) (i := 2) (x := x2) dX13_games_62 rfl rfl rfl ?_
  refine z_icmp_ge (q := 66) (tgt := 122) dX13_games_63 rfl rfl (fun hc => ?_) (fun hc => ?_)
  · have hf := hf.1 hc
    refine z_iload_n (q := 123) (i := 3) (x := x3) dX13_games_122 rfl rfl rfl ?_
    refine z_iconst (q := 124) (v := 3) dX13_games_123 rfl rfl ?_
    have hk : z_V l G m_X13_games (z_Fm G m_X13_games Q) 0 0 h 134 [some (.ref a0), none, some (.int x2), some (.int x3), some (.int x4), some (.int x5), some (.int x6)] [.int (if x3 = 3 then x5 else x4)] := by
      exact z_iret dX13_games_134 rfl hf
    refine z_icmp_ne (q := 127) (tgt := 132) dX13_games_124 rfl rfl (fun hc => ?_) (fun hc => ?_)
    · have hk := (z_ite hk).2 hc
      refine z_iload (q := 134) (i := 4) (x := x4) dX13_games_132 rfl rfl ?_
      exact hk
    · have hk := (z_ite hk).1 hc
      refine z_iload (q := 129) (i := 5) (x := x5) dX13_games_127 rfl rfl ?_
      refine z_goto (q := 134) dX13_games_129 rfl ?_
      exact hk
  · have hf := hf.2 hc
    refine z_aload_n (q := 67) (i := 0) (x := a0) dX13_games_66 rfl rfl rfl ?_
    obtain ⟨g_1, hf⟩ := hf
    refine z_cVv m_X13_runsDrawn [] (a0) (q := 70) (rc2 := 0) (rs2 := 0) (st := []) dX13_games_67 rfl q2341 oV_X13_runsDrawn rfl rfl ⟨z_le rfl, z_le rfl⟩ (z_le rfl) (z_rcv_of 11 rfl (z_L11_T g_1) rfl) rfl  rfl hf (fun h_2 hf => ?_)
    refine z_iload (q := 72) (i := 4) (x := x4) dX13_games_70 rfl rfl ?_
    refine z_aload_n (q := 73) (i := 0) (x := a0) dX13_games_72 rfl rfl rfl ?_
    obtain ⟨g_3, hf⟩ := hf
    refine z_get 11 36 (q := 76) (v := .int (h_2.I a0 36)) rfl (z_lt rfl) (z_L11_T g_3) q1794 dX13_games_73 rfl rfl ?_
    refine z_iload_n (q := 77) (i := 3) (x := x3) dX13_games_76 rfl rfl rfl ?_
    have hk : z_V l G m_X13_games (z_Fm G m_X13_games Q) 0 0 h_2 85 [some (.ref a0), none, some (.int x2), some (.int x3), some (.int x4), some (.int x5), some (.int x6)] [.int (if (h_2.I a0 36) = x3 then 1 else 0), .int x4] := by
      refine z_iadd (q := 86) dX13_games_85 rfl ?_
      refine z_nmI (fun v_4 hv_5 => ?_)
      have hf := hf v_4 hv_5
      refine z_istore (q := 88) (i := 4) (ls2 := [some (.ref a0), none, some (.int x2), some (.int x3), some (.int v_4), some (.int x5), some (.int x6)]) (x := v_4) dX13_games_86 (z_lt rfl) rfl rfl ?_
      refine z_aload_n (q := 89) (i := 0) (x := a0) dX13_games_88 rfl rfl rfl ?_
      refine z_get 11 36 (q := 92) (v := .int (h_2.I a0 36)) rfl (z_lt rfl) (z_L11_T g_3) q1794 dX13_games_89 rfl rfl ?_
      refine z_iconst (q := 93) (v := 2) dX13_games_92 rfl rfl ?_
      have hk : z_V l G m_X13_games (z_Fm G m_X13_games Q) 0 0 h_2 114 [some (.ref a0), none, some (.int x2), some (.int x3), some (.int v_4), some (.int x5), some (.int x6)] [.int (if 2 ≤ (h_2.I a0 36) then x5 else (if (h_2.I a0 37) ≤ x5 then x5 else (h_2.I a0 37)))] := by
        refine z_nmI (fun v_6 hv_7 => ?_)
        have hf := hf v_6 hv_7
        refine z_istore (q := 116) (i := 5) (ls2 := [some (.ref a0), none, some (.int x2), some (.int x3), some (.int v_4), some (.int v_6), some (.int x6)]) (x := v_6) dX13_games_114 (z_lt rfl) rfl rfl ?_
        refine z_iinc (q := 119) (i := 6) (x := x6) (v := (x6 + 1)) (ls2 := [some (.ref a0), none, some (.int x2), some (.int x3), some (.int v_4), some (.int v_6), some (.int (x6 + 1))]) dX13_games_116 rfl rfl (z_lt rfl) rfl rfl ?_
        refine z_goto (q := 60) dX13_games_119 rfl ?_
        exact hf
      refine z_icmp_ge (q := 96) (tgt := 112) dX13_games_93 rfl rfl (fun hc => ?_) (fun hc => ?_)
      · have hk := (z_ite hk).1 hc
        refine z_iload (q := 114) (i := 5) (x := x5) dX13_games_112 rfl rfl ?_
        exact hk
      · have hk := (z_ite hk).2 hc
        refine z_aload_n (q := 97) (i := 0) (x := a0) dX13_games_96 rfl rfl rfl ?_
        refine z_get 11 37 (q := 100) (v := .int (h_2.I a0 37)) rfl (z_lt rfl) (z_L11_T g_3) q1795 dX13_games_97 rfl rfl ?_
        refine z_iload (q := 102) (i := 5) (x := x5) dX13_games_100 rfl rfl ?_
        refine z_icmp_le (q := 105) (tgt := 112) dX13_games_102 rfl rfl (fun hc => ?_) (fun hc => ?_)
        · have hk := (z_ite hk).1 hc
          refine z_iload (q := 114) (i := 5) (x := x5) dX13_games_112 rfl rfl ?_
          exact hk
        · have hk := (z_ite hk).2 hc
          refine z_aload_n (q := 106) (i := 0) (x := a0) dX13_games_105 rfl rfl rfl ?_
          refine z_get 11 37 (q := 109) (v := .int (h_2.I a0 37)) rfl (z_lt rfl) (z_L11_T g_3) q1795 dX13_games_106 rfl rfl ?_
          refine z_goto (q := 114) dX13_games_109 rfl ?_
          exact hk
    refine z_icmp_ne (q := 80) (tgt := 84) dX13_games_77 rfl rfl (fun hc => ?_) (fun hc => ?_)
    · have hk := (z_ite hk).2 hc
      refine z_iconst (q := 85) (v := 0) dX13_games_84 rfl rfl ?_
      exact hk
    · have hk := (z_ite hk).1 hc
      refine z_iconst (q := 81) (v := 1) dX13_games_80 rfl rfl ?_
      refine z_goto (q := 85) dX13_games_81 rfl ?_
      exact hk

theorem u_X13_goes {l : Launch} {G : z_G} {a0 : Nat} {x1 : Int32} {h : z_H} {Q : z_Q} (hst : l.stackTraces = false)  (hf : z_L11 h a0 ∧ vp_in (x1 + 3) 16560 ∧ ∀ v_3 : Int32, v_3 = (h.I (a0 + 16) (Int32.toNatClampNeg (x1 + 3))) → z_Ct l G m_X13_turns [.ref a0, .int x1] h (z_Qi (fun x_5 h_6 => z_L11 h_6 a0 ∧ z_Ct l G m_X13_paysOf [.ref a0, .int x_5] h_6 (z_Qi (fun x_8 h_9 => (x_8 ≤ 0 → z_L11 h_9 a0 ∧ vp_in (x1 + 4) 16560 ∧ ((h_9.I (a0 + 16) (Int32.toNatClampNeg (x1 + 4))) = 0 → vp_in (x1 + 3) 16560 ∧ Q (some (.int 0)) (h_9.sI (a0 + 16) (Int32.toNatClampNeg (x1 + 3)) (1 - v_3))) ∧ (¬ (h_9.I (a0 + 16) (Int32.toNatClampNeg (x1 + 4))) = 0 → vp_in (x1 + 4) 16560 ∧ vp_in (x1 + 4) 16560 ∧ vp_in (x1 + 4) 16560 ∧ Q (some (.int (if ((h_9.I (a0 + 16) (Int32.toNatClampNeg (x1 + 4))) - 1) = 0 then 1 else 0))) (h_9.sI (a0 + 16) (Int32.toNatClampNeg (x1 + 4)) ((h_9.I (a0 + 16) (Int32.toNatClampNeg (x1 + 4))) - 1)))) ∧ (¬ x_8 ≤ 0 → z_L11 h_9 a0 ∧ vp_in (x1 + 18) 16560 ∧ vp_in (x1 + 4) 16560 ∧ vp_in (x1 + 18) 16560 ∧ vp_in (x1 + 4) 16560 ∧ vp_in (x1 + 5) 16560 ∧ vp_in (x1 + 3) 16560 ∧ Q (some (.int 0)) ((((h_9.sI (a0 + 16) (Int32.toNatClampNeg (x1 + 18)) ((h_9.I (a0 + 16) (Int32.toNatClampNeg (x1 + 18))) + (if (h_9.I (a0 + 16) (Int32.toNatClampNeg (x1 + 4))) ≤ 0 then 0 else 1))).sI (a0 + 16) (Int32.toNatClampNeg (x1 + 4)) x_8).sI (a0 + 16) (Int32.toNatClampNeg (x1 + 5)) v_3).sI (a0 + 16) (Int32.toNatClampNeg (x1 + 3)) (1 - v_3)))))))) : z_Ct l G m_X13_goes [.ref a0, .int x1] h Q := by
  refine z_Ct.of (ls := [some (.ref a0), some (.int x1), none, none]) hst rfl (by show plainName yX13_goes.cls = true; decide +kernel) (z_le rfl) rfl ?_
  show z_V l G m_X13_goes (z_Fm G m_X13_goes Q) 0 0 h 0 [some (.ref a0), some (.int x1), none, none] []
  refine z_aload_n (q := 1) (i := 0) (x := a0) dX13_goes_0 rfl rfl rfl ?_
  obtain ⟨g_1, hf⟩ := hf
  refine z_get 11 22 (q := 4) (v := .ref (a0 + 16)) rfl (z_lt rfl) (z_L11_T g_1) q1780 dX13_goes_1 rfl (z_fvR (fun _ _ _ => rfl) (z_L11_P22 g_1)) ?_
  refine z_iload_n (q := 5) (i := 1) (x := x1) dX13_goes_4 rfl rfl rfl ?_
  refine z_iconst (q := 6) (v := 3) dX13_goes_5 rfl rfl ?_
  refine z_iadd (q := 7) dX13_goes_6 rfl ?_
  obtain ⟨g_2, hf⟩ := hf
  refine z_iald (q := 8) (n := 16560) (z_L11_A22 g_1) g_2 dX13_goes_7 rfl ?_
  refine z_nmI (fun v_3 hv_4 => ?_)
  have hf := hf v_3 hv_4
  refine z_istore_n (q := 9) (i := 2) (ls2 := [some (.ref a0), some (.int x1), some (.int v_3), none]) (x := v_3) dX13_goes_8 rfl (z_lt rfl) rfl rfl ?_
  refine z_aload_n (q := 10) (i := 0) (x := a0) dX13_goes_9 rfl rfl rfl ?_
  refine z_aload_n (q := 11) (i := 0) (x := a0) dX13_goes_10 rfl rfl rfl ?_
  refine z_iload_n (q := 12) (i := 1) (x := x1) dX13_goes_11 rfl rfl rfl ?_
  refine z_cVi m_X13_turns [.int x1] (a0) (q := 15) (rc2 := 0) (rs2 := 0) (st := [.ref a0]) dX13_goes_12 rfl q2120 oV_X13_turns rfl rfl ⟨z_le rfl, z_le rfl⟩ (z_le rfl) (z_rcv_of 11 rfl (z_L11_T g_1) rfl) rfl  rfl hf (fun x_5 h_6 hf => ?_)
  obtain ⟨g_7, hf⟩ := hf
  refine z_cVi m_X13_paysOf [.int x_5] (a0) (q := 18) (rc2 := 0) (rs2 := 0) (st := []) dX13_goes_15 rfl q2124 oV_X13_paysOf rfl rfl ⟨z_le rfl, z_le rfl⟩ (z_le rfl) (z_rcv_of 11 rfl (z_L11_T g_7) rfl) rfl  rfl hf (fun x_8 h_9 hf => ?_)
  refine z_istore_n (q := 19) (i := 3) (ls2 := [some (.ref a0), some (.int x1), some (.int v_3), some (.int x_8)]) (x := x_8) dX13_goes_18 rfl (z_lt rfl) rfl rfl ?_
  refine z_iload_n (q := 20) (i := 3) (x := x_8) dX13_goes_19 rfl rfl rfl ?_
  refine z_if_le (q := 23) (tgt := 82) dX13_goes_20 rfl rfl (fun hc => ?_) (fun hc => ?_)
  · have hf := hf.1 hc
    refine z_aload_n (q := 83) (i := 0) (x := a0) dX13_goes_82 rfl rfl rfl ?_
    obtain ⟨g_10, hf⟩ := hf
    refine z_get 11 22 (q := 86) (v := .ref (a0 + 16)) rfl (z_lt rfl) (z_L11_T g_10) q1780 dX13_goes_83 rfl (z_fvR (fun _ _ _ => rfl) (z_L11_P22 g_10)) ?_
    refine z_iload_n (q := 87) (i := 1) (x := x1) dX13_goes_86 rfl rfl rfl ?_
    refine z_iconst (q := 88) (v := 4) dX13_goes_87 rfl rfl ?_
    refine z_iadd (q := 89) dX13_goes_88 rfl ?_
    obtain ⟨g_11, hf⟩ := hf
    refine z_iald (q := 90) (n := 16560) (z_L11_A22 g_10) g_11 dX13_goes_89 rfl ?_
    refine z_if_ne (q := 93) (tgt := 106) dX13_goes_90 rfl rfl (fun hc => ?_) (fun hc => ?_)
    · have hf := hf.2 hc
      refine z_aload_n (q := 107) (i := 0) (x := a0) dX13_goes_106 rfl rfl rfl ?_
      refine z_get 11 22 (q := 110) (v := .ref (a0 + 16)) rfl (z_lt rfl) (z_L11_T g_10) q1780 dX13_goes_107 rfl (z_fvR (fun _ _ _ => rfl) (z_L11_P22 g_10)) ?_
      refine z_iload_n (q := 111) (i := 1) (x := x1) dX13_goes_110 rfl rfl rfl ?_
      refine z_iconst (q := 112) (v := 4) dX13_goes_111 rfl rfl ?_
      refine z_iadd (q := 113) dX13_goes_112 rfl ?_
      refine z_dup2 (q := 114) dX13_goes_113 rfl rfl rfl ?_
      obtain ⟨g_12, hf⟩ := hf
      refine z_iald (q := 115) (n := 16560) (z_L11_A22 g_10) g_12 dX13_goes_114 rfl ?_
      refine z_iconst (q := 116) (v := 1) dX13_goes_115 rfl rfl ?_
      refine z_isub (q := 117) dX13_goes_116 rfl ?_
      obtain ⟨g_13, hf⟩ := hf
      refine z_iast (q := 118) (n := 16560) (z_L11_A22 g_10) g_13 dX13_goes_117 rfl ?_
      refine z_aload_n (q := 119) (i := 0) (x := a0) dX13_goes_118 rfl rfl rfl ?_
      refine z_get 11 22 (q := 122) (v := .ref (a0 + 16)) rfl (z_lt rfl) (z_L11_T g_10) q1780 dX13_goes_119 rfl (z_fvR (fun _ _ _ => rfl) (z_L11_P22 g_10)) ?_
      refine z_iload_n (q := 123) (i := 1) (x := x1) dX13_goes_122 rfl rfl rfl ?_
      refine z_iconst (q := 124) (v := 4) dX13_goes_123 rfl rfl ?_
      refine z_iadd (q := 125) dX13_goes_124 rfl ?_
      obtain ⟨g_14, hf⟩ := hf
      refine z_iald (q := 126) (n := 16560) (z_L11_A22 g_10) g_14 dX13_goes_125 rfl ?_
      refine z_topI z_rIs ?_
      have hk : z_V l G m_X13_goes (z_Fm G m_X13_goes Q) 0 0 (h_9.sI (a0 + 16) (Int32.toNatClampNeg (x1 + 4)) ((h_9.I (a0 + 16) (Int32.toNatClampNeg (x1 + 4))) - 1)) 134 [some (.ref a0), some (.int x1), some (.int v_3), some (.int x_8)] [.int (if ((h_9.I (a0 + 16) (Int32.toNatClampNeg (x1 + 4))) - 1) = 0 then 1 else 0)] := by
        exact z_zret dX13_goes_134 rfl (z_nb01 (z_bif z_b1 z_b0)) hf
      refine z_if_ne (q := 129) (tgt := 133) dX13_goes_126 rfl rfl (fun hc => ?_) (fun hc => ?_)
      · have hk := (z_ite hk).2 hc
        refine z_iconst (q := 134) (v := 0) dX13_goes_133 rfl rfl ?_
        exact hk
      · have hk := (z_ite hk).1 hc
        refine z_iconst (q := 130) (v := 1) dX13_goes_129 rfl rfl ?_
        refine z_goto (q := 134) dX13_goes_130 rfl ?_
        exact hk
    · have hf := hf.1 hc
      refine z_aload_n (q := 94) (i := 0) (x := a0) dX13_goes_93 rfl rfl rfl ?_
      refine z_get 11 22 (q := 97) (v := .ref (a0 + 16)) rfl (z_lt rfl) (z_L11_T g_10) q1780 dX13_goes_94 rfl (z_fvR (fun _ _ _ => rfl) (z_L11_P22 g_10)) ?_
      refine z_iload_n (q := 98) (i := 1) (x := x1) dX13_goes_97 rfl rfl rfl ?_
      refine z_iconst (q := 99) (v := 3) dX13_goes_98 rfl rfl ?_
      refine z_iadd (q := 100) dX13_goes_99 rfl ?_
      refine z_iconst (q := 101) (v := 1) dX13_goes_100 rfl rfl ?_
      refine z_iload_n (q := 102) (i := 2) (x := v_3) dX13_goes_101 rfl rfl rfl ?_
      refine z_isub (q := 103) dX13_goes_102 rfl ?_
      obtain ⟨g_15, hf⟩ := hf
      refine z_iast (q := 104) (n := 16560) (z_L11_A22 g_10) g_15 dX13_goes_103 rfl ?_
      refine z_iconst (q := 105) (v := 0) dX13_goes_104 rfl rfl ?_
      exact z_zret dX13_goes_105 rfl (z_nb01 z_b0) hf
  · have hf := hf.2 hc
    refine z_aload_n (q := 24) (i := 0) (x := a0) dX13_goes_23 rfl rfl rfl ?_
    obtain ⟨g_16, hf⟩ := hf
    refine z_get 11 22 (q := 27) (v := .ref (a0 + 16)) rfl (z_lt rfl) (z_L11_T g_16) q1780 dX13_goes_24 rfl (z_fvR (fun _ _ _ => rfl) (z_L11_P22 g_16)) ?_
    refine z_iload_n (q := 28) (i := 1) (x := x1) dX13_goes_27 rfl rfl rfl ?_
    refine z_bipush (q := 30) (v := 18) dX13_goes_28 (by decide) rfl ?_
    refine z_iadd (q := 31) dX13_goes_30 rfl ?_
    refine z_dup2 (q := 32) dX13_goes_31 rfl rfl rfl ?_
    obtain ⟨g_17, hf⟩ := hf
    refine z_iald (q := 33) (n := 16560) (z_L11_A22 g_16) g_17 dX13_goes_32 rfl ?_
    refine z_aload_n (q := 34) (i := 0) (x := a0) dX13_goes_33 rfl rfl rfl ?_
    refine z_get 11 22 (q := 37) (v := .ref (a0 + 16)) rfl (z_lt rfl) (z_L11_T g_16) q1780 dX13_goes_34 rfl (z_fvR (fun _ _ _ => rfl) (z_L11_P22 g_16)) ?_
    refine z_iload_n (q := 38) (i := 1) (x := x1) dX13_goes_37 rfl rfl rfl ?_
    refine z_iconst (q := 39) (v := 4) dX13_goes_38 rfl rfl ?_
    refine z_iadd (q := 40) dX13_goes_39 rfl ?_
    obtain ⟨g_18, hf⟩ := hf
    refine z_iald (q := 41) (n := 16560) (z_L11_A22 g_16) g_18 dX13_goes_40 rfl ?_
    have hk : z_V l G m_X13_goes (z_Fm G m_X13_goes Q) 0 0 h_9 49 [some (.ref a0), some (.int x1), some (.int v_3), some (.int x_8)] [.int (if (h_9.I (a0 + 16) (Int32.toNatClampNeg (x1 + 4))) ≤ 0 then 0 else 1), .int (h_9.I (a0 + 16) (Int32.toNatClampNeg (x1 + 18))), .int (x1 + 18), .ref (a0 + 16)] := by
      refine z_iadd (q := 50) dX13_goes_49 rfl ?_
      obtain ⟨g_19, hf⟩ := hf
      refine z_iast (q := 51) (n := 16560) (z_L11_A22 g_16) g_19 dX13_goes_50 rfl ?_
      refine z_aload_n (q := 52) (i := 0) (x := a0) dX13_goes_51 rfl rfl rfl ?_
      refine z_get 11 22 (q := 55) (v := .ref (a0 + 16)) rfl (z_lt rfl) (z_L11_T g_16) q1780 dX13_goes_52 rfl (z_fvR (fun _ _ _ => rfl) (z_L11_P22 g_16)) ?_
      refine z_iload_n (q := 56) (i := 1) (x := x1) dX13_goes_55 rfl rfl rfl ?_
      refine z_iconst (q := 57) (v := 4) dX13_goes_56 rfl rfl ?_
      refine z_iadd (q := 58) dX13_goes_57 rfl ?_
      refine z_iload_n (q := 59) (i := 3) (x := x_8) dX13_goes_58 rfl rfl rfl ?_
      obtain ⟨g_20, hf⟩ := hf
      refine z_iast (q := 60) (n := 16560) (z_L11_A22 g_16) g_20 dX13_goes_59 rfl ?_
      refine z_aload_n (q := 61) (i := 0) (x := a0) dX13_goes_60 rfl rfl rfl ?_
      refine z_get 11 22 (q := 64) (v := .ref (a0 + 16)) rfl (z_lt rfl) (z_L11_T g_16) q1780 dX13_goes_61 rfl (z_fvR (fun _ _ _ => rfl) (z_L11_P22 g_16)) ?_
      refine z_iload_n (q := 65) (i := 1) (x := x1) dX13_goes_64 rfl rfl rfl ?_
      refine z_iconst (q := 66) (v := 5) dX13_goes_65 rfl rfl ?_
      refine z_iadd (q := 67) dX13_goes_66 rfl ?_
      refine z_iload_n (q := 68) (i := 2) (x := v_3) dX13_goes_67 rfl rfl rfl ?_
      obtain ⟨g_21, hf⟩ := hf
      refine z_iast (q := 69) (n := 16560) (z_L11_A22 g_16) g_21 dX13_goes_68 rfl ?_
      refine z_aload_n (q := 70) (i := 0) (x := a0) dX13_goes_69 rfl rfl rfl ?_
      refine z_get 11 22 (q := 73) (v := .ref (a0 + 16)) rfl (z_lt rfl) (z_L11_T g_16) q1780 dX13_goes_70 rfl (z_fvR (fun _ _ _ => rfl) (z_L11_P22 g_16)) ?_
      refine z_iload_n (q := 74) (i := 1) (x := x1) dX13_goes_73 rfl rfl rfl ?_
      refine z_iconst (q := 75) (v := 3) dX13_goes_74 rfl rfl ?_
      refine z_iadd (q := 76) dX13_goes_75 rfl ?_
      refine z_iconst (q := 77) (v := 1) dX13_goes_76 rfl rfl ?_
      refine z_iload_n (q := 78) (i := 2) (x := v_3) dX13_goes_77 rfl rfl rfl ?_
      refine z_isub (q := 79) dX13_goes_78 rfl ?_
      obtain ⟨g_22, hf⟩ := hf
      refine z_iast (q := 80) (n := 16560) (z_L11_A22 g_16) g_22 dX13_goes_79 rfl ?_
      refine z_iconst (q := 81) (v := 0) dX13_goes_80 rfl rfl ?_
      exact z_zret dX13_goes_81 rfl (z_nb01 z_b0) hf
    refine z_if_le (q := 44) (tgt := 48) dX13_goes_41 rfl rfl (fun hc => ?_) (fun hc => ?_)
    · have hk := (z_ite hk).1 hc
      refine z_iconst (q := 49) (v := 0) dX13_goes_48 rfl rfl ?_
      exact hk
    · have hk := (z_ite hk).2 hc
      refine z_iconst (q := 45) (v := 1) dX13_goes_44 rfl rfl ?_
      refine z_goto (q := 49) dX13_goes_45 rfl ?_
      exact hk

theorem u_X13_goesNext {l : Launch} {G : z_G} {a0 : Nat} {a1 : Nat} {x2 : Int32} {h : z_H} {Q : z_Q} (hst : l.stackTraces = false)  (hf : z_V l G m_X13_goesNext (z_Fm G m_X13_goesNext Q) 0 0 h 4 [none, some (.ref a1), some (.int x2), some (.int (x2 - 2)), none, none, none] []) : z_Ct l G m_X13_goesNext [.ref a0, .ref a1, .int x2] h Q := by
  refine z_Ct.of (ls := [some (.ref a0), some (.ref a1), some (.int x2), none, none, none, none]) hst rfl (by show plainName yX13_goesNext.cls = true; decide +kernel) (z_le rfl) rfl ?_
  show z_V l G m_X13_goesNext (z_Fm G m_X13_goesNext Q) 0 0 h 0 [some (.ref a0), some (.ref a1), some (.int x2), none, none, none, none] []
  refine z_iload_n (q := 1) (i := 2) (x := x2) dX13_goesNext_0 rfl rfl rfl ?_
  refine z_iconst (q := 2) (v := 2) dX13_goesNext_1 rfl rfl ?_
  refine z_isub (q := 3) dX13_goesNext_2 rfl ?_
  refine z_istore_n (q := 4) (i := 3) (ls2 := [some (.ref a0), some (.ref a1), some (.int x2), some (.int (x2 - 2)), none, none, none]) (x := (x2 - 2)) dX13_goesNext_3 rfl (z_lt rfl) rfl rfl ?_
  refine z_prune [false, true, true, true, false, false, false] (ls2 := [none, some (.ref a1), some (.int x2), some (.int (x2 - 2)), none, none, none]) rfl ?_
  exact hf

theorem b_X13_goesNext_4 {l : Launch} {G : z_G} {a1 : Nat} {x2 : Int32} {x3 : Int32} {h : z_H} {Q : z_Q}  (hf : (x3 < 0 → (0 ≤ x3 → z_V l G m_X13_goesNext (z_Fm G m_X13_goesNext Q) 0 0 h 36 [none, some (.ref a1), some (.int x2), some (.int x3), some (.int (x2 - 1)), none, none] []) ∧ (¬ 0 ≤ x3 → Q (some (.int 0)) h)) ∧ (¬ x3 < 0 → ∃ n_1, h.T a1 = (1, n_1) ∧ vp_in x3 n_1 ∧ vp_in (x3 + 1) n_1 ∧ ((h.I a1 (Int32.toNatClampNeg x3)) < (h.I a1 (Int32.toNatClampNeg (x3 + 1))) → (0 ≤ x3 → z_V l G m_X13_goesNext (z_Fm G m_X13_goesNext Q) 0 0 h 36 [none, some (.ref a1), some (.int x2), some (.int x3), some (.int (x2 - 1)), none, none] []) ∧ (¬ 0 ≤ x3 → Q (some (.int 0)) h)) ∧ (¬ (h.I a1 (Int32.toNatClampNeg x3)) < (h.I a1 (Int32.toNatClampNeg (x3 + 1))) → z_V l G m_X13_goesNext (z_Fm G m_X13_goesNext Q) 0 0 h 4 [none, some (.ref a1), some (.int x2), some (.int (x3 + (-1))), none, none, none] []))) : z_V l G m_X13_goesNext (z_Fm G m_X13_goesNext Q) 0 0 h 4 [none, some (.ref a1), some (.int x2), some (.int x3), none, none, none] [] := by
  refine z_iload_n (q := 5) (i := 3) (x := x3) dX13_goesNext_4 rfl rfl rfl ?_
  refine z_if_lt (q := 8) (tgt := 25) dX13_goesNext_5 rfl rfl (fun hc => ?_) (fun hc => ?_)
  · have hf := hf.1 hc
    refine z_iload_n (q := 26) (i := 3) (x := x3) dX13_goesNext_25 rfl rfl rfl ?_
    refine z_if_ge (q := 29) (tgt := 31) dX13_goesNext_26 rfl rfl (fun hc => ?_) (fun hc => ?_)
    · have hf := hf.1 hc
      refine z_iload_n (q := 32) (i := 2) (x := x2) dX13_goesNext_31 rfl rfl rfl ?_
      refine z_iconst (q := 33) (v := 1) dX13_goesNext_32 rfl rfl ?_
      refine z_isub (q := 34) dX13_goesNext_33 rfl ?_
      refine z_istore (q := 36) (i := 4) (ls2 := [none, some (.ref a1), some (.int x2), some (.int x3), some (.int (x2 - 1)), none, none]) (x := (x2 - 1)) dX13_goesNext_34 (z_lt rfl) rfl rfl ?_
      exact hf
    · have hf := hf.2 hc
      refine z_iconst (q := 30) (v := 0) dX13_goesNext_29 rfl rfl ?_
      exact z_zret dX13_goesNext_30 rfl (z_nb01 z_b0) hf
  · have hf := hf.2 hc
    refine z_aload_n (q := 9) (i := 1) (x := a1) dX13_goesNext_8 rfl rfl rfl ?_
    refine z_iload_n (q := 10) (i := 3) (x := x3) dX13_goesNext_9 rfl rfl rfl ?_
    obtain ⟨n_1, g_2, hf⟩ := hf
    obtain ⟨g_3, hf⟩ := hf
    refine z_iald (q := 11) (n := n_1) g_2 g_3 dX13_goesNext_10 rfl ?_
    refine z_aload_n (q := 12) (i := 1) (x := a1) dX13_goesNext_11 rfl rfl rfl ?_
    refine z_iload_n (q := 13) (i := 3) (x := x3) dX13_goesNext_12 rfl rfl rfl ?_
    refine z_iconst (q := 14) (v := 1) dX13_goesNext_13 rfl rfl ?_
    refine z_iadd (q := 15) dX13_goesNext_14 rfl ?_
    obtain ⟨g_4, hf⟩ := hf
    refine z_iald (q := 16) (n := n_1) g_2 g_4 dX13_goesNext_15 rfl ?_
    refine z_icmp_lt (q := 19) (tgt := 25) dX13_goesNext_16 rfl rfl (fun hc => ?_) (fun hc => ?_)
    · have hf := hf.1 hc
      refine z_iload_n (q := 26) (i := 3) (x := x3) dX13_goesNext_25 rfl rfl rfl ?_
      refine z_if_ge (q := 29) (tgt := 31) dX13_goesNext_26 rfl rfl (fun hc => ?_) (fun hc => ?_)
      · have hf := hf.1 hc
        refine z_iload_n (q := 32) (i := 2) (x := x2) dX13_goesNext_31 rfl rfl rfl ?_
        refine z_iconst (q := 33) (v := 1) dX13_goesNext_32 rfl rfl ?_
        refine z_isub (q := 34) dX13_goesNext_33 rfl ?_
        refine z_istore (q := 36) (i := 4) (ls2 := [none, some (.ref a1), some (.int x2), some (.int x3), some (.int (x2 - 1)), none, none]) (x := (x2 - 1)) dX13_goesNext_34 (z_lt rfl) rfl rfl ?_
        exact hf
      · have hf := hf.2 hc
        refine z_iconst (q := 30) (v := 0) dX13_goesNext_29 rfl rfl ?_
        exact z_zret dX13_goesNext_30 rfl (z_nb01 z_b0) hf
    · have hf := hf.2 hc
      refine z_iinc (q := 22) (i := 3) (x := x3) (v := (x3 + (-1))) (ls2 := [none, some (.ref a1), some (.int x2), some (.int (x3 + (-1))), none, none, none]) dX13_goesNext_19 rfl rfl (z_lt rfl) rfl rfl ?_
      refine z_goto (q := 4) dX13_goesNext_22 rfl ?_
      exact hf

theorem b_X13_goesNext_36 {l : Launch} {G : z_G} {a1 : Nat} {x2 : Int32} {x3 : Int32} {x4 : Int32} {h : z_H} {Q : z_Q}  (hf : ∃ n_1, h.T a1 = (1, n_1) ∧ vp_in x4 n_1 ∧ vp_in x3 n_1 ∧ ((h.I a1 (Int32.toNatClampNeg x3)) < (h.I a1 (Int32.toNatClampNeg x4)) → z_Ct l G m_X13_swaps [.ref a1, .int x3, .int x4] h (z_Qv (fun h_5 => z_V l G m_X13_goesNext (z_Fm G m_X13_goesNext Q) 0 0 h_5 69 [none, some (.ref a1), none, none, none, some (.int (x3 + 1)), some (.int (x2 - 1))] []))) ∧ (¬ (h.I a1 (Int32.toNatClampNeg x3)) < (h.I a1 (Int32.toNatClampNeg x4)) → z_V l G m_X13_goesNext (z_Fm G m_X13_goesNext Q) 0 0 h 36 [none, some (.ref a1), some (.int x2), some (.int x3), some (.int (x4 + (-1))), none, none] [])) : z_V l G m_X13_goesNext (z_Fm G m_X13_goesNext Q) 0 0 h 36 [none, some (.ref a1), some (.int x2), some (.int x3), some (.int x4), none, none] [] := by
  refine z_aload_n (q := 37) (i := 1) (x := a1) dX13_goesNext_36 rfl rfl rfl ?_
  refine z_iload (q := 39) (i := 4) (x := x4) dX13_goesNext_37 rfl rfl ?_
  obtain ⟨n_1, g_2, hf⟩ := hf
  obtain ⟨g_3, hf⟩ := hf
  refine z_iald (q := 40) (n := n_1) g_2 g_3 dX13_goesNext_39 rfl ?_
  refine z_aload_n (q := 41) (i := 1) (x := a1) dX13_goesNext_40 rfl rfl rfl ?_
  refine z_iload_n (q := 42) (i := 3) (x := x3) dX13_goesNext_41 rfl rfl rfl ?_
  obtain ⟨g_4, hf⟩ := hf
  refine z_iald (q := 43) (n := n_1) g_2 g_4 dX13_goesNext_42 rfl ?_
  refine z_icmp_gt (q := 46) (tgt := 52) dX13_goesNext_43 rfl rfl (fun hc => ?_) (fun hc => ?_)
  · have hf := hf.1 hc
    refine z_aload_n (q := 53) (i := 1) (x := a1) dX13_goesNext_52 rfl rfl rfl ?_
    refine z_iload_n (q := 54) (i := 3) (x := x3) dX13_goesNext_53 rfl rfl rfl ?_
    refine z_iload (q := 56) (i := 4) (x := x4) dX13_goesNext_54 rfl rfl ?_
    refine z_cSv m_X13_swaps [.ref a1, .int x3, .int x4] (q := 59) (rc2 := 0) (rs2 := 0) (st := []) dX13_goesNext_56 rfl q2211 oS_X13_swaps rfl rfl ⟨z_le rfl, z_le rfl⟩ (z_le rfl) rfl  rfl hf (fun h_5 hf => ?_)
    refine z_iload_n (q := 60) (i := 3) (x := x3) dX13_goesNext_59 rfl rfl rfl ?_
    refine z_iconst (q := 61) (v := 1) dX13_goesNext_60 rfl rfl ?_
    refine z_iadd (q := 62) dX13_goesNext_61 rfl ?_
    refine z_istore (q := 64) (i := 5) (ls2 := [none, some (.ref a1), some (.int x2), some (.int x3), some (.int x4), some (.int (x3 + 1)), none]) (x := (x3 + 1)) dX13_goesNext_62 (z_lt rfl) rfl rfl ?_
    refine z_iload_n (q := 65) (i := 2) (x := x2) dX13_goesNext_64 rfl rfl rfl ?_
    refine z_iconst (q := 66) (v := 1) dX13_goesNext_65 rfl rfl ?_
    refine z_isub (q := 67) dX13_goesNext_66 rfl ?_
    refine z_istore (q := 69) (i := 6) (ls2 := [none, some (.ref a1), some (.int x2), some (.int x3), some (.int x4), some (.int (x3 + 1)), some (.int (x2 - 1))]) (x := (x2 - 1)) dX13_goesNext_67 (z_lt rfl) rfl rfl ?_
    refine z_prune [false, true, false, false, false, true, true] (ls2 := [none, some (.ref a1), none, none, none, some (.int (x3 + 1)), some (.int (x2 - 1))]) rfl ?_
    exact hf
  · have hf := hf.2 hc
    refine z_iinc (q := 49) (i := 4) (x := x4) (v := (x4 + (-1))) (ls2 := [none, some (.ref a1), some (.int x2), some (.int x3), some (.int (x4 + (-1))), none, none]) dX13_goesNext_46 rfl rfl (z_lt rfl) rfl rfl ?_
    refine z_goto (q := 36) dX13_goesNext_49 rfl ?_
    exact hf

theorem b_X13_goesNext_69 {l : Launch} {G : z_G} {a1 : Nat} {x5 : Int32} {x6 : Int32} {h : z_H} {Q : z_Q}  (hf : (x6 ≤ x5 → Q (some (.int 1)) h) ∧ (¬ x6 ≤ x5 → z_Ct l G m_X13_swaps [.ref a1, .int x5, .int x6] h (z_Qv (fun h_1 => z_V l G m_X13_goesNext (z_Fm G m_X13_goesNext Q) 0 0 h_1 69 [none, some (.ref a1), none, none, none, some (.int (x5 + 1)), some (.int (x6 + (-1)))] [])))) : z_V l G m_X13_goesNext (z_Fm G m_X13_goesNext Q) 0 0 h 69 [none, some (.ref a1), none, none, none, some (.int x5), some (.int x6)] [] := by
  refine z_iload (q := 71) (i := 5) (x := x5) dX13_goesNext_69 rfl rfl ?_
  refine z_iload (q := 73) (i := 6) (x := x6) dX13_goesNext_71 rfl rfl ?_
  refine z_icmp_ge (q := 76) (tgt := 93) dX13_goesNext_73 rfl rfl (fun hc => ?_) (fun hc => ?_)
  · have hf := hf.1 hc
    refine z_iconst (q := 94) (v := 1) dX13_goesNext_93 rfl rfl ?_
    exact z_zret dX13_goesNext_94 rfl (z_nb01 z_b1) hf
  · have hf := hf.2 hc
    refine z_aload_n (q := 77) (i := 1) (x := a1) dX13_goesNext_76 rfl rfl rfl ?_
    refine z_iload (q := 79) (i := 5) (x := x5) dX13_goesNext_77 rfl rfl ?_
    refine z_iload (q := 81) (i := 6) (x := x6) dX13_goesNext_79 rfl rfl ?_
    refine z_cSv m_X13_swaps [.ref a1, .int x5, .int x6] (q := 84) (rc2 := 0) (rs2 := 0) (st := []) dX13_goesNext_81 rfl q2211 oS_X13_swaps rfl rfl ⟨z_le rfl, z_le rfl⟩ (z_le rfl) rfl  rfl hf (fun h_1 hf => ?_)
    refine z_iinc (q := 87) (i := 5) (x := x5) (v := (x5 + 1)) (ls2 := [none, some (.ref a1), none, none, none, some (.int (x5 + 1)), some (.int x6)]) dX13_goesNext_84 rfl rfl (z_lt rfl) rfl rfl ?_
    refine z_iinc (q := 90) (i := 6) (x := x6) (v := (x6 + (-1))) (ls2 := [none, some (.ref a1), none, none, none, some (.int (x5 + 1)), some (.int (x6 + (-1)))]) dX13_goesNext_87 rfl rfl (z_lt rfl) rfl rfl ?_
    refine z_goto (q := 69) dX13_goesNext_90 rfl ?_
    exact hf

theorem u_X13_goesToHeap {l : Launch} {G : z_G} {a0 : Nat} {x1 : Int32} {h : z_H} {Q : z_Q} (hst : l.stackTraces = false)  (hf : z_V l G m_X13_goesToHeap (z_Fm G m_X13_goesToHeap Q) 0 0 h 2 [some (.ref a0), some (.int x1), some (.int 0)] []) : z_Ct l G m_X13_goesToHeap [.ref a0, .int x1] h Q := by
  refine z_Ct.of (ls := [some (.ref a0), some (.int x1), none]) hst rfl (by show plainName yX13_goesToHeap.cls = true; decide +kernel) (z_le rfl) rfl ?_
  show z_V l G m_X13_goesToHeap (z_Fm G m_X13_goesToHeap Q) 0 0 h 0 [some (.ref a0), some (.int x1), none] []
  refine z_iconst (q := 1) (v := 0) dX13_goesToHeap_0 rfl rfl ?_
  refine z_istore_n (q := 2) (i := 2) (ls2 := [some (.ref a0), some (.int x1), some (.int 0)]) (x := 0) dX13_goesToHeap_1 rfl (z_lt rfl) rfl rfl ?_
  exact hf

theorem b_X13_goesToHeap_2 {l : Launch} {G : z_G} {a0 : Nat} {x1 : Int32} {x2 : Int32} {h : z_H} {Q : z_Q}  (hf : (x2 = 0 → z_L11 h a0 ∧ z_Ct l G m_X13_isWon [.ref a0, .int x1] h (z_Qi (fun x_3 h_4 => (x_3 = 0 → z_L11 h_4 a0 ∧ z_Ct l G m_X13_goes [.ref a0, .int x1] h_4 (z_Qi (fun x_7 h_8 => z_V l G m_X13_goesToHeap (z_Fm G m_X13_goesToHeap Q) 0 0 h_8 2 [some (.ref a0), some (.int x1), some (.int x_7)] []))) ∧ (¬ x_3 = 0 → (x2 = 0 ∨ x2 = 1) ∧ Q (some (.int x2)) h_4)))) ∧ (¬ x2 = 0 → (x2 = 0 ∨ x2 = 1) ∧ Q (some (.int x2)) h)) : z_V l G m_X13_goesToHeap (z_Fm G m_X13_goesToHeap Q) 0 0 h 2 [some (.ref a0), some (.int x1), some (.int x2)] [] := by
  refine z_iload_n (q := 3) (i := 2) (x := x2) dX13_goesToHeap_2 rfl rfl rfl ?_
  refine z_if_ne (q := 6) (tgt := 23) dX13_goesToHeap_3 rfl rfl (fun hc => ?_) (fun hc => ?_)
  · have hf := hf.2 hc
    refine z_iload_n (q := 24) (i := 2) (x := x2) dX13_goesToHeap_23 rfl rfl rfl ?_
    obtain ⟨g_1, hf⟩ := hf
    exact z_zret dX13_goesToHeap_24 rfl (z_nb01 g_1) hf
  · have hf := hf.1 hc
    refine z_aload_n (q := 7) (i := 0) (x := a0) dX13_goesToHeap_6 rfl rfl rfl ?_
    refine z_iload_n (q := 8) (i := 1) (x := x1) dX13_goesToHeap_7 rfl rfl rfl ?_
    obtain ⟨g_2, hf⟩ := hf
    refine z_cVi m_X13_isWon [.int x1] (a0) (q := 11) (rc2 := 0) (rs2 := 0) (st := []) dX13_goesToHeap_8 rfl q2108 oV_X13_isWon rfl rfl ⟨z_le rfl, z_le rfl⟩ (z_le rfl) (z_rcv_of 11 rfl (z_L11_T g_2) rfl) rfl  rfl hf (fun x_3 h_4 hf => ?_)
    refine z_if_ne (q := 14) (tgt := 23) dX13_goesToHeap_11 rfl rfl (fun hc => ?_) (fun hc => ?_)
    · have hf := hf.2 hc
      refine z_iload_n (q := 24) (i := 2) (x := x2) dX13_goesToHeap_23 rfl rfl rfl ?_
      obtain ⟨g_5, hf⟩ := hf
      exact z_zret dX13_goesToHeap_24 rfl (z_nb01 g_5) hf
    · have hf := hf.1 hc
      refine z_aload_n (q := 15) (i := 0) (x := a0) dX13_goesToHeap_14 rfl rfl rfl ?_
      refine z_iload_n (q := 16) (i := 1) (x := x1) dX13_goesToHeap_15 rfl rfl rfl ?_
      obtain ⟨g_6, hf⟩ := hf
      refine z_cVi m_X13_goes [.int x1] (a0) (q := 19) (rc2 := 0) (rs2 := 0) (st := []) dX13_goesToHeap_16 rfl q2116 oV_X13_goes rfl rfl ⟨z_le rfl, z_le rfl⟩ (z_le rfl) (z_rcv_of 11 rfl (z_L11_T g_6) rfl) rfl  rfl hf (fun x_7 h_8 hf => ?_)
      refine z_istore_n (q := 20) (i := 2) (ls2 := [some (.ref a0), some (.int x1), some (.int x_7)]) (x := x_7) dX13_goesToHeap_19 rfl (z_lt rfl) rfl rfl ?_
      refine z_goto (q := 2) dX13_goesToHeap_20 rfl ?_
      exact hf

theorem u_X13_hasSign {l : Launch} {G : z_G} {a0 : Nat} {x1 : Int32} {h : z_H} {Q : z_Q} (hst : l.stackTraces = false)  (hf : z_L11 h a0 ∧ z_Ct l G m_X13_isSign [.ref a0, .int x1] h (z_Qi (fun x_2 h_3 => z_L11 h_3 a0 ∧ (x_2 = 0 ∨ x_2 = 1) ∧ Q (some (.int x_2)) (h_3.sI a0 7 ((h_3.I a0 7) + (if x_2 = 0 then 0 else 1)))))) : z_Ct l G m_X13_hasSign [.ref a0, .int x1] h Q := by
  refine z_Ct.of (ls := [some (.ref a0), some (.int x1), none]) hst rfl (by show plainName yX13_hasSign.cls = true; decide +kernel) (z_le rfl) rfl ?_
  show z_V l G m_X13_hasSign (z_Fm G m_X13_hasSign Q) 0 0 h 0 [some (.ref a0), some (.int x1), none] []
  refine z_aload_n (q := 1) (i := 0) (x := a0) dX13_hasSign_0 rfl rfl rfl ?_
  refine z_iload_n (q := 2) (i := 1) (x := x1) dX13_hasSign_1 rfl rfl rfl ?_
  obtain ⟨g_1, hf⟩ := hf
  refine z_cVi m_X13_isSign [.int x1] (a0) (q := 5) (rc2 := 0) (rs2 := 0) (st := []) dX13_hasSign_2 rfl q2026 oV_X13_isSign rfl rfl ⟨z_le rfl, z_le rfl⟩ (z_le rfl) (z_rcv_of 11 rfl (z_L11_T g_1) rfl) rfl  rfl hf (fun x_2 h_3 hf => ?_)
  refine z_istore_n (q := 6) (i := 2) (ls2 := [some (.ref a0), some (.int x1), some (.int x_2)]) (x := x_2) dX13_hasSign_5 rfl (z_lt rfl) rfl rfl ?_
  refine z_aload_n (q := 7) (i := 0) (x := a0) dX13_hasSign_6 rfl rfl rfl ?_
  refine z_dup (q := 8) dX13_hasSign_7 rfl rfl ?_
  obtain ⟨g_4, hf⟩ := hf
  refine z_get 11 7 (q := 11) (v := .int (h_3.I a0 7)) rfl (z_lt rfl) (z_L11_T g_4) q1765 dX13_hasSign_8 rfl rfl ?_
  refine z_iload_n (q := 12) (i := 2) (x := x_2) dX13_hasSign_11 rfl rfl rfl ?_
  have hk : z_V l G m_X13_hasSign (z_Fm G m_X13_hasSign Q) 0 0 h_3 20 [some (.ref a0), some (.int x1), some (.int x_2)] [.int (if x_2 = 0 then 0 else 1), .int (h_3.I a0 7), .ref a0] := by
    refine z_iadd (q := 21) dX13_hasSign_20 rfl ?_
    refine z_putI 11 7 (q := 24) (x := ((h_3.I a0 7) + (if x_2 = 0 then 0 else 1))) (v := .int ((h_3.I a0 7) + (if x_2 = 0 then 0 else 1))) rfl (z_lt rfl) (z_L11_T g_4) q1765 rfl dX13_hasSign_21 rfl rfl rfl rfl (fun _ _ _ => rfl) ?_
    refine z_iload_n (q := 25) (i := 2) (x := x_2) dX13_hasSign_24 rfl rfl rfl ?_
    obtain ⟨g_5, hf⟩ := hf
    exact z_zret dX13_hasSign_25 rfl (z_nb01 g_5) hf
  refine z_if_eq (q := 15) (tgt := 19) dX13_hasSign_12 rfl rfl (fun hc => ?_) (fun hc => ?_)
  · have hk := (z_ite hk).1 hc
    refine z_iconst (q := 20) (v := 0) dX13_hasSign_19 rfl rfl ?_
    exact hk
  · have hk := (z_ite hk).2 hc
    refine z_iconst (q := 16) (v := 1) dX13_hasSign_15 rfl rfl ?_
    refine z_goto (q := 20) dX13_hasSign_16 rfl ?_
    exact hk

theorem u_X13_hasWord {l : Launch} {G : z_G} {a0 : Nat} {x1 : Int32} {h : z_H} {Q : z_Q} (hst : l.stackTraces = false)  (hf : z_L11 h a0 ∧ z_Ct l G m_X13_isWord [.ref a0, .int x1] h (z_Qi (fun x_2 h_3 => z_L11 h_3 a0 ∧ (x_2 = 0 ∨ x_2 = 1) ∧ Q (some (.int x_2)) (h_3.sI a0 7 ((h_3.I a0 7) + (if x_2 = 0 then 0 else 1)))))) : z_Ct l G m_X13_hasWord [.ref a0, .int x1] h Q := by
  refine z_Ct.of (ls := [some (.ref a0), some (.int x1), none]) hst rfl (by show plainName yX13_hasWord.cls = true; decide +kernel) (z_le rfl) rfl ?_
  show z_V l G m_X13_hasWord (z_Fm G m_X13_hasWord Q) 0 0 h 0 [some (.ref a0), some (.int x1), none] []
  refine z_aload_n (q := 1) (i := 0) (x := a0) dX13_hasWord_0 rfl rfl rfl ?_
  refine z_iload_n (q := 2) (i := 1) (x := x1) dX13_hasWord_1 rfl rfl rfl ?_
  obtain ⟨g_1, hf⟩ := hf
  refine z_cVi m_X13_isWord [.int x1] (a0) (q := 5) (rc2 := 0) (rs2 := 0) (st := []) dX13_hasWord_2 rfl q1954 oV_X13_isWord rfl rfl ⟨z_le rfl, z_le rfl⟩ (z_le rfl) (z_rcv_of 11 rfl (z_L11_T g_1) rfl) rfl  rfl hf (fun x_2 h_3 hf => ?_)
  refine z_istore_n (q := 6) (i := 2) (ls2 := [some (.ref a0), some (.int x1), some (.int x_2)]) (x := x_2) dX13_hasWord_5 rfl (z_lt rfl) rfl rfl ?_
  refine z_aload_n (q := 7) (i := 0) (x := a0) dX13_hasWord_6 rfl rfl rfl ?_
  refine z_dup (q := 8) dX13_hasWord_7 rfl rfl ?_
  obtain ⟨g_4, hf⟩ := hf
  refine z_get 11 7 (q := 11) (v := .int (h_3.I a0 7)) rfl (z_lt rfl) (z_L11_T g_4) q1765 dX13_hasWord_8 rfl rfl ?_
  refine z_iload_n (q := 12) (i := 2) (x := x_2) dX13_hasWord_11 rfl rfl rfl ?_
  have hk : z_V l G m_X13_hasWord (z_Fm G m_X13_hasWord Q) 0 0 h_3 20 [some (.ref a0), some (.int x1), some (.int x_2)] [.int (if x_2 = 0 then 0 else 1), .int (h_3.I a0 7), .ref a0] := by
    refine z_iadd (q := 21) dX13_hasWord_20 rfl ?_
    refine z_putI 11 7 (q := 24) (x := ((h_3.I a0 7) + (if x_2 = 0 then 0 else 1))) (v := .int ((h_3.I a0 7) + (if x_2 = 0 then 0 else 1))) rfl (z_lt rfl) (z_L11_T g_4) q1765 rfl dX13_hasWord_21 rfl rfl rfl rfl (fun _ _ _ => rfl) ?_
    refine z_iload_n (q := 25) (i := 2) (x := x_2) dX13_hasWord_24 rfl rfl rfl ?_
    obtain ⟨g_5, hf⟩ := hf
    exact z_zret dX13_hasWord_25 rfl (z_nb01 g_5) hf
  refine z_if_eq (q := 15) (tgt := 19) dX13_hasWord_12 rfl rfl (fun hc => ?_) (fun hc => ?_)
  · have hk := (z_ite hk).1 hc
    refine z_iconst (q := 20) (v := 0) dX13_hasWord_19 rfl rfl ?_
    exact hk
  · have hk := (z_ite hk).2 hc
    refine z_iconst (q := 16) (v := 1) dX13_hasWord_15 rfl rfl ?_
    refine z_goto (q := 20) dX13_hasWord_16 rfl ?_
    exact hk

theorem u_X13_heap {l : Launch} {G : z_G} {a0 : Nat} {x1 : Int32} {h : z_H} {Q : z_Q} (hst : l.stackTraces = false)  (hf : z_L11 h a0 ∧ ((x1 < 0 → True) ∧ (¬ x1 < 0 → vp_in 2 16560 ∧ (((h.I (a0 + 16) (Int32.toNatClampNeg 2)) ≤ x1 → True) ∧ (¬ (h.I (a0 + 16) (Int32.toNatClampNeg 2)) ≤ x1 → vp_in (116 + x1) 16560 ∧ True)))) ∧ Q (some (.int (if x1 < 0 then (-1) else (if (h.I (a0 + 16) (Int32.toNatClampNeg 2)) ≤ x1 then (-1) else (h.I (a0 + 16) (Int32.toNatClampNeg (116 + x1))))))) (h.sI a0 0 0)) : z_Ct l G m_X13_heap [.ref a0, .int x1] h Q := by
  refine z_Ct.of (ls := [some (.ref a0), some (.int x1)]) hst rfl (by show plainName yX13_heap.cls = true; decide +kernel) (z_le rfl) rfl ?_
  show z_V l G m_X13_heap (z_Fm G m_X13_heap Q) 0 0 h 0 [some (.ref a0), some (.int x1)] []
  refine z_aload_n (q := 1) (i := 0) (x := a0) dX13_heap_0 rfl rfl rfl ?_
  refine z_iconst (q := 2) (v := 0) dX13_heap_1 rfl rfl ?_
  obtain ⟨g_1, hf⟩ := hf
  refine z_putI 11 0 (q := 5) (x := 0) (v := .int 0) rfl (z_lt rfl) (z_L11_T g_1) q1758 rfl dX13_heap_2 rfl rfl rfl rfl (fun _ _ _ => rfl) ?_
  refine z_iload_n (q := 6) (i := 1) (x := x1) dX13_heap_5 rfl rfl rfl ?_
  obtain ⟨hsc, hf⟩ := hf
  have hk : z_V l G m_X13_heap (z_Fm G m_X13_heap Q) 0 0 (h.sI a0 0 0) 32 [some (.ref a0), some (.int x1)] [.int (if x1 < 0 then (-1) else (if (h.I (a0 + 16) (Int32.toNatClampNeg 2)) ≤ x1 then (-1) else (h.I (a0 + 16) (Int32.toNatClampNeg (116 + x1)))))] := by
    exact z_iret dX13_heap_32 rfl hf
  refine z_if_lt (q := 9) (tgt := 31) dX13_heap_6 rfl rfl (fun hc => ?_) (fun hc => ?_)
  · have hk := (z_ite hk).1 hc
    have hsc := hsc.1 hc
    refine z_iconst (q := 32) (v := (-1)) dX13_heap_31 rfl rfl ?_
    exact hk
  · have hk := (z_ite hk).2 hc
    have hsc := hsc.2 hc
    obtain ⟨g_2, hsc⟩ := hsc
    refine z_iload_n (q := 10) (i := 1) (x := x1) dX13_heap_9 rfl rfl rfl ?_
    refine z_aload_n (q := 11) (i := 0) (x := a0) dX13_heap_10 rfl rfl rfl ?_
    refine z_get 11 22 (q := 14) (v := .ref (a0 + 16)) rfl (z_lt rfl) (z_L11_T g_1) q1780 dX13_heap_11 rfl (z_fvR (fun _ _ _ => rfl) (z_L11_P22 g_1)) ?_
    refine z_iconst (q := 15) (v := 2) dX13_heap_14 rfl rfl ?_
    refine z_iald (q := 16) (n := 16560) (z_L11_A22 g_1) g_2 dX13_heap_15 rfl ?_
    refine z_topI (z_rIa (by omega)) ?_
    refine z_icmp_ge (q := 19) (tgt := 31) dX13_heap_16 rfl rfl (fun hc => ?_) (fun hc => ?_)
    · have hk := (z_ite hk).1 hc
      have hsc := hsc.1 hc
      refine z_iconst (q := 32) (v := (-1)) dX13_heap_31 rfl rfl ?_
      exact hk
    · have hk := (z_ite hk).2 hc
      have hsc := hsc.2 hc
      obtain ⟨g_3, hsc⟩ := hsc
      refine z_aload_n (q := 20) (i := 0) (x := a0) dX13_heap_19 rfl rfl rfl ?_
      refine z_get 11 22 (q := 23) (v := .ref (a0 + 16)) rfl (z_lt rfl) (z_L11_T g_1) q1780 dX13_heap_20 rfl (z_fvR (fun _ _ _ => rfl) (z_L11_P22 g_1)) ?_
      refine z_bipush (q := 25) (v := 116) dX13_heap_23 (by decide) rfl ?_
      refine z_iload_n (q := 26) (i := 1) (x := x1) dX13_heap_25 rfl rfl rfl ?_
      refine z_iadd (q := 27) dX13_heap_26 rfl ?_
      refine z_iald (q := 28) (n := 16560) (z_L11_A22 g_1) g_3 dX13_heap_27 rfl ?_
      refine z_topI (z_rIa (by omega)) ?_
      refine z_goto (q := 32) dX13_heap_28 rfl ?_
      exact hk

theorem u_X13_isDigit {l : Launch} {G : z_G} {x0 : Int32} {h : z_H} {Q : z_Q} (hst : l.stackTraces = false)  (hf : Q (some (.int (if x0 < 48 then 0 else (if 57 < x0 then 0 else 1)))) h) : z_Ct l G m_X13_isDigit [.int x0] h Q := by
  refine z_Ct.of (ls := [some (.int x0)]) hst rfl (by show plainName yX13_isDigit.cls = true; decide +kernel) (z_le rfl) rfl ?_
  show z_V l G m_X13_isDigit (z_Fm G m_X13_isDigit Q) 0 0 h 0 [some (.int x0)] []
  refine z_iload_n (q := 1) (i := 0) (x := x0) dX13_isDigit_0 rfl rfl rfl ?_
  refine z_bipush (q := 3) (v := 48) dX13_isDigit_1 (by decide) rfl ?_
  have hk : z_V l G m_X13_isDigit (z_Fm G m_X13_isDigit Q) 0 0 h 17 [some (.int x0)] [.int (if x0 < 48 then 0 else (if 57 < x0 then 0 else 1))] := by
    exact z_zret dX13_isDigit_17 rfl (z_nb01 (z_bif z_b0 (z_bif z_b0 z_b1))) hf
  refine z_icmp_lt (q := 6) (tgt := 16) dX13_isDigit_3 rfl rfl (fun hc => ?_) (fun hc => ?_)
  · have hk := (z_ite hk).1 hc
    refine z_iconst (q := 17) (v := 0) dX13_isDigit_16 rfl rfl ?_
    exact hk
  · have hk := (z_ite hk).2 hc
    refine z_iload_n (q := 7) (i := 0) (x := x0) dX13_isDigit_6 rfl rfl rfl ?_
    refine z_bipush (q := 9) (v := 57) dX13_isDigit_7 (by decide) rfl ?_
    refine z_icmp_gt (q := 12) (tgt := 16) dX13_isDigit_9 rfl rfl (fun hc => ?_) (fun hc => ?_)
    · have hk := (z_ite hk).1 hc
      refine z_iconst (q := 17) (v := 0) dX13_isDigit_16 rfl rfl ?_
      exact hk
    · have hk := (z_ite hk).2 hc
      refine z_iconst (q := 13) (v := 1) dX13_isDigit_12 rfl rfl ?_
      refine z_goto (q := 17) dX13_isDigit_13 rfl ?_
      exact hk

theorem u_X13_isKind {l : Launch} {G : z_G} {a0 : Nat} {x1 : Int32} {h : z_H} {Q : z_Q} (hst : l.stackTraces = false)  (hf : (x1 < 0 → Q (some (.int 0)) h) ∧ (¬ x1 < 0 → z_L11 h a0 ∧ z_Ct l G m_X13_kinds [.ref a0] h (z_Qi (fun x_2 h_3 => Q (some (.int (if x_2 ≤ x1 then 0 else 1))) h_3)))) : z_Ct l G m_X13_isKind [.ref a0, .int x1] h Q := by
  refine z_Ct.of (ls := [some (.ref a0), some (.int x1)]) hst rfl (by show plainName yX13_isKind.cls = true; decide +kernel) (z_le rfl) rfl ?_
  show z_V l G m_X13_isKind (z_Fm G m_X13_isKind Q) 0 0 h 0 [some (.ref a0), some (.int x1)] []
  refine z_iload_n (q := 1) (i := 1) (x := x1) dX13_isKind_0 rfl rfl rfl ?_
  refine z_if_lt (q := 4) (tgt := 16) dX13_isKind_1 rfl rfl (fun hc => ?_) (fun hc => ?_)
  · have hf := hf.1 hc
    refine z_iconst (q := 17) (v := 0) dX13_isKind_16 rfl rfl ?_
    exact z_zret dX13_isKind_17 rfl (z_nb01 z_b0) hf
  · have hf := hf.2 hc
    refine z_iload_n (q := 5) (i := 1) (x := x1) dX13_isKind_4 rfl rfl rfl ?_
    refine z_aload_n (q := 6) (i := 0) (x := a0) dX13_isKind_5 rfl rfl rfl ?_
    obtain ⟨g_1, hf⟩ := hf
    refine z_cVi m_X13_kinds [] (a0) (q := 9) (rc2 := 0) (rs2 := 0) (st := [.int x1]) dX13_isKind_6 rfl q2070 oV_X13_kinds rfl rfl ⟨z_le rfl, z_le rfl⟩ (z_le rfl) (z_rcv_of 11 rfl (z_L11_T g_1) rfl) rfl  rfl hf (fun x_2 h_3 hf => ?_)
    have hk : z_V l G m_X13_isKind (z_Fm G m_X13_isKind Q) 0 0 h_3 17 [some (.ref a0), some (.int x1)] [.int (if x_2 ≤ x1 then 0 else 1)] := by
      exact z_zret dX13_isKind_17 rfl (z_nb01 (z_bif z_b0 z_b1)) hf
    refine z_icmp_ge (q := 12) (tgt := 16) dX13_isKind_9 rfl rfl (fun hc => ?_) (fun hc => ?_)
    · have hk := (z_ite hk).1 hc
      refine z_iconst (q := 17) (v := 0) dX13_isKind_16 rfl rfl ?_
      exact hk
    · have hk := (z_ite hk).2 hc
      refine z_iconst (q := 13) (v := 1) dX13_isKind_12 rfl rfl ?_
      refine z_goto (q := 17) dX13_isKind_13 rfl ?_
      exact hk

theorem u_X13_isLetter {l : Launch} {G : z_G} {x0 : Int32} {h : z_H} {Q : z_Q} (hst : l.stackTraces = false)  (hf : Q (some (.int (if x0 < 97 then 0 else (if 122 < x0 then 0 else 1)))) h) : z_Ct l G m_X13_isLetter [.int x0] h Q := by
  refine z_Ct.of (ls := [some (.int x0)]) hst rfl (by show plainName yX13_isLetter.cls = true; decide +kernel) (z_le rfl) rfl ?_
  show z_V l G m_X13_isLetter (z_Fm G m_X13_isLetter Q) 0 0 h 0 [some (.int x0)] []
  refine z_iload_n (q := 1) (i := 0) (x := x0) dX13_isLetter_0 rfl rfl rfl ?_
  refine z_bipush (q := 3) (v := 97) dX13_isLetter_1 (by decide) rfl ?_
  have hk : z_V l G m_X13_isLetter (z_Fm G m_X13_isLetter Q) 0 0 h 17 [some (.int x0)] [.int (if x0 < 97 then 0 else (if 122 < x0 then 0 else 1))] := by
    exact z_zret dX13_isLetter_17 rfl (z_nb01 (z_bif z_b0 (z_bif z_b0 z_b1))) hf
  refine z_icmp_lt (q := 6) (tgt := 16) dX13_isLetter_3 rfl rfl (fun hc => ?_) (fun hc => ?_)
  · have hk := (z_ite hk).1 hc
    refine z_iconst (q := 17) (v := 0) dX13_isLetter_16 rfl rfl ?_
    exact hk
  · have hk := (z_ite hk).2 hc
    refine z_iload_n (q := 7) (i := 0) (x := x0) dX13_isLetter_6 rfl rfl rfl ?_
    refine z_bipush (q := 9) (v := 122) dX13_isLetter_7 (by decide) rfl ?_
    refine z_icmp_gt (q := 12) (tgt := 16) dX13_isLetter_9 rfl rfl (fun hc => ?_) (fun hc => ?_)
    · have hk := (z_ite hk).1 hc
      refine z_iconst (q := 17) (v := 0) dX13_isLetter_16 rfl rfl ?_
      exact hk
    · have hk := (z_ite hk).2 hc
      refine z_iconst (q := 13) (v := 1) dX13_isLetter_12 rfl rfl ?_
      refine z_goto (q := 17) dX13_isLetter_13 rfl ?_
      exact hk

theorem u_X13_isName {l : Launch} {G : z_G} {a0 : Nat} {h : z_H} {Q : z_Q} (hst : l.stackTraces = false)  (hf : z_L11 h a0 ∧ (((h.I a0 8) = 0 → vp_in (h.I a0 7) 1002 ∧ True) ∧ (¬ (h.I a0 8) = 0 → True)) ∧ ∀ v_3 : Int32, v_3 = (if (h.I a0 8) = 0 then (if (h.I (a0 + 2) (Int32.toNatClampNeg (h.I a0 7))) = 1 then 1 else 0) else 0) → z_V l G m_X13_isName (z_Fm G m_X13_isName Q) 0 0 h 28 [some (.ref a0), some (.int v_3), some (.int 0)] []) : z_Ct l G m_X13_isName [.ref a0] h Q := by
  refine z_Ct.of (ls := [some (.ref a0), none, none]) hst rfl (by show plainName yX13_isName.cls = true; decide +kernel) (z_le rfl) rfl ?_
  show z_V l G m_X13_isName (z_Fm G m_X13_isName Q) 0 0 h 0 [some (.ref a0), none, none] []
  refine z_aload_n (q := 1) (i := 0) (x := a0) dX13_isName_0 rfl rfl rfl ?_
  obtain ⟨g_1, hf⟩ := hf
  refine z_get 11 8 (q := 4) (v := .int (h.I a0 8)) rfl (z_lt rfl) (z_L11_T g_1) q1766 dX13_isName_1 rfl rfl ?_
  obtain ⟨hsc, hf⟩ := hf
  have hk : z_V l G m_X13_isName (z_Fm G m_X13_isName Q) 0 0 h 25 [some (.ref a0), none, none] [.int (if (h.I a0 8) = 0 then (if (h.I (a0 + 2) (Int32.toNatClampNeg (h.I a0 7))) = 1 then 1 else 0) else 0)] := by
    refine z_nmI (fun v_3 hv_4 => ?_)
    have hf := hf v_3 hv_4
    refine z_istore_n (q := 26) (i := 1) (ls2 := [some (.ref a0), some (.int v_3), none]) (x := v_3) dX13_isName_25 rfl (z_lt rfl) rfl rfl ?_
    refine z_iconst (q := 27) (v := 0) dX13_isName_26 rfl rfl ?_
    refine z_istore_n (q := 28) (i := 2) (ls2 := [some (.ref a0), some (.int v_3), some (.int 0)]) (x := 0) dX13_isName_27 rfl (z_lt rfl) rfl rfl ?_
    exact hf
  refine z_if_ne (q := 7) (tgt := 24) dX13_isName_4 rfl rfl (fun hc => ?_) (fun hc => ?_)
  · have hk := (z_ite hk).2 hc
    have hsc := hsc.2 hc
    refine z_iconst (q := 25) (v := 0) dX13_isName_24 rfl rfl ?_
    exact hk
  · have hk := (z_ite hk).1 hc
    have hsc := hsc.1 hc
    obtain ⟨g_2, hsc⟩ := hsc
    refine z_aload_n (q := 8) (i := 0) (x := a0) dX13_isName_7 rfl rfl rfl ?_
    refine z_get 11 4 (q := 11) (v := .ref (a0 + 2)) rfl (z_lt rfl) (z_L11_T g_1) q1762 dX13_isName_8 rfl (z_fvR (fun _ _ _ => rfl) (z_L11_P4 g_1)) ?_
    refine z_aload_n (q := 12) (i := 0) (x := a0) dX13_isName_11 rfl rfl rfl ?_
    refine z_get 11 7 (q := 15) (v := .int (h.I a0 7)) rfl (z_lt rfl) (z_L11_T g_1) q1765 dX13_isName_12 rfl rfl ?_
    refine z_iald (q := 16) (n := 1002) (z_L11_A4 g_1) g_2 dX13_isName_15 rfl ?_
    refine z_iconst (q := 17) (v := 1) dX13_isName_16 rfl rfl ?_
    refine z_icmp_ne (q := 20) (tgt := 24) dX13_isName_17 rfl rfl (fun hc => ?_) (fun hc => ?_)
    · have hk := (z_ite hk).2 hc
      refine z_iconst (q := 25) (v := 0) dX13_isName_24 rfl rfl ?_
      exact hk
    · have hk := (z_ite hk).1 hc
      refine z_iconst (q := 21) (v := 1) dX13_isName_20 rfl rfl ?_
      refine z_goto (q := 25) dX13_isName_21 rfl ?_
      exact hk

theorem b_X13_isName_28 {l : Launch} {G : z_G} {a0 : Nat} {x1 : Int32} {x2 : Int32} {h : z_H} {Q : z_Q}  (hf : (20 ≤ x2 → (x1 = 0 ∨ x1 = 1) ∧ Q (some (.int x1)) h) ∧ (¬ 20 ≤ x2 → z_L11 h a0 ∧ ((x1 = 0 → True) ∧ (¬ x1 = 0 → vp_in (h.I a0 7) 1002 ∧ vp_in x2 24 ∧ True)) ∧ ∀ v_5 : Int32, v_5 = (if x1 = 0 then 0 else (if (lg_cmp (h.L (a0 + 4) (Int32.toNatClampNeg (h.I a0 7))) (h.L (a0 + 5) (Int32.toNatClampNeg x2))) = 0 then 0 else 1)) → z_V l G m_X13_isName (z_Fm G m_X13_isName Q) 0 0 h 28 [some (.ref a0), some (.int v_5), some (.int (x2 + 1))] [])) : z_V l G m_X13_isName (z_Fm G m_X13_isName Q) 0 0 h 28 [some (.ref a0), some (.int x1), some (.int x2)] [] := by
  refine z_iload_n (q := 29) (i := 2) (x := x2) dX13_isName_28 rfl rfl rfl ?_
  refine z_bipush (q := 31) (v := 20) dX13_isName_29 (by decide) rfl ?_
  refine z_icmp_ge (q := 34) (tgt := 69) dX13_isName_31 rfl rfl (fun hc => ?_) (fun hc => ?_)
  · have hf := hf.1 hc
    refine z_iload_n (q := 70) (i := 1) (x := x1) dX13_isName_69 rfl rfl rfl ?_
    obtain ⟨g_1, hf⟩ := hf
    exact z_zret dX13_isName_70 rfl (z_nb01 g_1) hf
  · have hf := hf.2 hc
    refine z_iload_n (q := 35) (i := 1) (x := x1) dX13_isName_34 rfl rfl rfl ?_
    obtain ⟨g_2, hf⟩ := hf
    obtain ⟨hsc, hf⟩ := hf
    have hk : z_V l G m_X13_isName (z_Fm G m_X13_isName Q) 0 0 h 62 [some (.ref a0), some (.int x1), some (.int x2)] [.int (if x1 = 0 then 0 else (if (lg_cmp (h.L (a0 + 4) (Int32.toNatClampNeg (h.I a0 7))) (h.L (a0 + 5) (Int32.toNatClampNeg x2))) = 0 then 0 else 1))] := by
      refine z_nmI (fun v_5 hv_6 => ?_)
      have hf := hf v_5 hv_6
      refine z_istore_n (q := 63) (i := 1) (ls2 := [some (.ref a0), some (.int v_5), some (.int x2)]) (x := v_5) dX13_isName_62 rfl (z_lt rfl) rfl rfl ?_
      refine z_iinc (q := 66) (i := 2) (x := x2) (v := (x2 + 1)) (ls2 := [some (.ref a0), some (.int v_5), some (.int (x2 + 1))]) dX13_isName_63 rfl rfl (z_lt rfl) rfl rfl ?_
      refine z_goto (q := 28) dX13_isName_66 rfl ?_
      exact hf
    refine z_if_eq (q := 38) (tgt := 61) dX13_isName_35 rfl rfl (fun hc => ?_) (fun hc => ?_)
    · have hk := (z_ite hk).1 hc
      have hsc := hsc.1 hc
      refine z_iconst (q := 62) (v := 0) dX13_isName_61 rfl rfl ?_
      exact hk
    · have hk := (z_ite hk).2 hc
      have hsc := hsc.2 hc
      obtain ⟨g_3, hsc⟩ := hsc
      obtain ⟨g_4, hsc⟩ := hsc
      refine z_aload_n (q := 39) (i := 0) (x := a0) dX13_isName_38 rfl rfl rfl ?_
      refine z_get 11 6 (q := 42) (v := .ref (a0 + 4)) rfl (z_lt rfl) (z_L11_T g_2) q1764 dX13_isName_39 rfl (z_fvR (fun _ _ _ => rfl) (z_L11_P6 g_2)) ?_
      refine z_aload_n (q := 43) (i := 0) (x := a0) dX13_isName_42 rfl rfl rfl ?_
      refine z_get 11 7 (q := 46) (v := .int (h.I a0 7)) rfl (z_lt rfl) (z_L11_T g_2) q1765 dX13_isName_43 rfl rfl ?_
      refine z_lald (q := 47) (n := 1002) (z_L11_A6 g_2) g_3 dX13_isName_46 rfl ?_
      refine z_aload_n (q := 48) (i := 0) (x := a0) dX13_isName_47 rfl rfl rfl ?_
      refine z_get 11 9 (q := 51) (v := .ref (a0 + 5)) rfl (z_lt rfl) (z_L11_T g_2) q1767 dX13_isName_48 rfl (z_fvR (fun _ _ _ => rfl) (z_L11_P9 g_2)) ?_
      refine z_iload_n (q := 52) (i := 2) (x := x2) dX13_isName_51 rfl rfl rfl ?_
      refine z_lald (q := 53) (n := 24) (z_L11_A9 g_2) g_4 dX13_isName_52 rfl ?_
      refine z_lcmp (q := 54) dX13_isName_53 rfl ?_
      refine z_if_eq (q := 57) (tgt := 61) dX13_isName_54 rfl rfl (fun hc => ?_) (fun hc => ?_)
      · have hk := (z_ite hk).1 hc
        refine z_iconst (q := 62) (v := 0) dX13_isName_61 rfl rfl ?_
        exact hk
      · have hk := (z_ite hk).2 hc
        refine z_iconst (q := 58) (v := 1) dX13_isName_57 rfl rfl ?_
        refine z_goto (q := 62) dX13_isName_58 rfl ?_
        exact hk

theorem u_X13_isSide {l : Launch} {G : z_G} {x0 : Int32} {h : z_H} {Q : z_Q} (hst : l.stackTraces = false)  (hf : Q (some (.int (if x0 = 0 then 1 else (if x0 = 1 then 1 else 0)))) h) : z_Ct l G m_X13_isSide [.int x0] h Q := by
  refine z_Ct.of (ls := [some (.int x0)]) hst rfl (by show plainName yX13_isSide.cls = true; decide +kernel) (z_le rfl) rfl ?_
  show z_V l G m_X13_isSide (z_Fm G m_X13_isSide Q) 0 0 h 0 [some (.int x0)] []
  refine z_iload_n (q := 1) (i := 0) (x := x0) dX13_isSide_0 rfl rfl rfl ?_
  have hk : z_V l G m_X13_isSide (z_Fm G m_X13_isSide Q) 0 0 h 14 [some (.int x0)] [.int (if x0 = 0 then 1 else (if x0 = 1 then 1 else 0))] := by
    exact z_zret dX13_isSide_14 rfl (z_nb01 (z_bif z_b1 (z_bif z_b1 z_b0))) hf
  refine z_if_eq (q := 4) (tgt := 9) dX13_isSide_1 rfl rfl (fun hc => ?_) (fun hc => ?_)
  · have hk := (z_ite hk).1 hc
    refine z_iconst (q := 10) (v := 1) dX13_isSide_9 rfl rfl ?_
    refine z_goto (q := 14) dX13_isSide_10 rfl ?_
    exact hk
  · have hk := (z_ite hk).2 hc
    refine z_iload_n (q := 5) (i := 0) (x := x0) dX13_isSide_4 rfl rfl rfl ?_
    refine z_iconst (q := 6) (v := 1) dX13_isSide_5 rfl rfl ?_
    refine z_icmp_ne (q := 9) (tgt := 13) dX13_isSide_6 rfl rfl (fun hc => ?_) (fun hc => ?_)
    · have hk := (z_ite hk).2 hc
      refine z_iconst (q := 14) (v := 0) dX13_isSide_13 rfl rfl ?_
      exact hk
    · have hk := (z_ite hk).1 hc
      refine z_iconst (q := 10) (v := 1) dX13_isSide_9 rfl rfl ?_
      refine z_goto (q := 14) dX13_isSide_10 rfl ?_
      exact hk

theorem u_X13_isSign {l : Launch} {G : z_G} {a0 : Nat} {x1 : Int32} {h : z_H} {Q : z_Q} (hst : l.stackTraces = false)  (hf : z_L11 h a0 ∧ (((h.I a0 8) = 0 → vp_in (h.I a0 7) 1002 ∧ (((h.I (a0 + 2) (Int32.toNatClampNeg (h.I a0 7))) = 3 → vp_in (h.I a0 7) 1002 ∧ True) ∧ (¬ (h.I (a0 + 2) (Int32.toNatClampNeg (h.I a0 7))) = 3 → True))) ∧ (¬ (h.I a0 8) = 0 → True)) ∧ Q (some (.int (if (h.I a0 8) = 0 then (if (h.I (a0 + 2) (Int32.toNatClampNeg (h.I a0 7))) = 3 then (if (lg_cmp (h.L (a0 + 4) (Int32.toNatClampNeg (h.I a0 7))) (Int32.toInt64 x1)) = 0 then 1 else 0) else 0) else 0))) h) : z_Ct l G m_X13_isSign [.ref a0, .int x1] h Q := by
  refine z_Ct.of (ls := [some (.ref a0), some (.int x1)]) hst rfl (by show plainName yX13_isSign.cls = true; decide +kernel) (z_le rfl) rfl ?_
  show z_V l G m_X13_isSign (z_Fm G m_X13_isSign Q) 0 0 h 0 [some (.ref a0), some (.int x1)] []
  refine z_aload_n (q := 1) (i := 0) (x := a0) dX13_isSign_0 rfl rfl rfl ?_
  obtain ⟨g_1, hf⟩ := hf
  refine z_get 11 8 (q := 4) (v := .int (h.I a0 8)) rfl (z_lt rfl) (z_L11_T g_1) q1766 dX13_isSign_1 rfl rfl ?_
  obtain ⟨hsc, hf⟩ := hf
  have hk : z_V l G m_X13_isSign (z_Fm G m_X13_isSign Q) 0 0 h 40 [some (.ref a0), some (.int x1)] [.int (if (h.I a0 8) = 0 then (if (h.I (a0 + 2) (Int32.toNatClampNeg (h.I a0 7))) = 3 then (if (lg_cmp (h.L (a0 + 4) (Int32.toNatClampNeg (h.I a0 7))) (Int32.toInt64 x1)) = 0 then 1 else 0) else 0) else 0)] := by
    exact z_zret dX13_isSign_40 rfl (z_nb01 (z_bif (z_bif (z_bif z_b1 z_b0) z_b0) z_b0)) hf
  refine z_if_ne (q := 7) (tgt := 39) dX13_isSign_4 rfl rfl (fun hc => ?_) (fun hc => ?_)
  · have hk := (z_ite hk).2 hc
    have hsc := hsc.2 hc
    refine z_iconst (q := 40) (v := 0) dX13_isSign_39 rfl rfl ?_
    exact hk
  · have hk := (z_ite hk).1 hc
    have hsc := hsc.1 hc
    obtain ⟨g_2, hsc⟩ := hsc
    refine z_aload_n (q := 8) (i := 0) (x := a0) dX13_isSign_7 rfl rfl rfl ?_
    refine z_get 11 4 (q := 11) (v := .ref (a0 + 2)) rfl (z_lt rfl) (z_L11_T g_1) q1762 dX13_isSign_8 rfl (z_fvR (fun _ _ _ => rfl) (z_L11_P4 g_1)) ?_
    refine z_aload_n (q := 12) (i := 0) (x := a0) dX13_isSign_11 rfl rfl rfl ?_
    refine z_get 11 7 (q := 15) (v := .int (h.I a0 7)) rfl (z_lt rfl) (z_L11_T g_1) q1765 dX13_isSign_12 rfl rfl ?_
    refine z_iald (q := 16) (n := 1002) (z_L11_A4 g_1) g_2 dX13_isSign_15 rfl ?_
    refine z_iconst (q := 17) (v := 3) dX13_isSign_16 rfl rfl ?_
    refine z_icmp_ne (q := 20) (tgt := 39) dX13_isSign_17 rfl rfl (fun hc => ?_) (fun hc => ?_)
    · have hk := (z_ite hk).2 hc
      have hsc := hsc.2 hc
      refine z_iconst (q := 40) (v := 0) dX13_isSign_39 rfl rfl ?_
      exact hk
    · have hk := (z_ite hk).1 hc
      have hsc := hsc.1 hc
      obtain ⟨g_3, hsc⟩ := hsc
      refine z_aload_n (q := 21) (i := 0) (x := a0) dX13_isSign_20 rfl rfl rfl ?_
      refine z_get 11 6 (q := 24) (v := .ref (a0 + 4)) rfl (z_lt rfl) (z_L11_T g_1) q1764 dX13_isSign_21 rfl (z_fvR (fun _ _ _ => rfl) (z_L11_P6 g_1)) ?_
      refine z_aload_n (q := 25) (i := 0) (x := a0) dX13_isSign_24 rfl rfl rfl ?_
      refine z_get 11 7 (q := 28) (v := .int (h.I a0 7)) rfl (z_lt rfl) (z_L11_T g_1) q1765 dX13_isSign_25 rfl rfl ?_
      refine z_lald (q := 29) (n := 1002) (z_L11_A6 g_1) g_3 dX13_isSign_28 rfl ?_
      refine z_iload_n (q := 30) (i := 1) (x := x1) dX13_isSign_29 rfl rfl rfl ?_
      refine z_i2l (q := 31) dX13_isSign_30 rfl ?_
      refine z_lcmp (q := 32) dX13_isSign_31 rfl ?_
      refine z_if_ne (q := 35) (tgt := 39) dX13_isSign_32 rfl rfl (fun hc => ?_) (fun hc => ?_)
      · have hk := (z_ite hk).2 hc
        refine z_iconst (q := 40) (v := 0) dX13_isSign_39 rfl rfl ?_
        exact hk
      · have hk := (z_ite hk).1 hc
        refine z_iconst (q := 36) (v := 1) dX13_isSign_35 rfl rfl ?_
        refine z_goto (q := 40) dX13_isSign_36 rfl ?_
        exact hk

theorem u_X13_isSignOf {l : Launch} {G : z_G} {x0 : Int32} {h : z_H} {Q : z_Q} (hst : l.stackTraces = false)  (hf : (x0 = 40 → Q (some (.int 1)) h) ∧ (¬ x0 = 40 → (x0 = 41 → Q (some (.int 1)) h) ∧ (¬ x0 = 41 → (x0 = 59 → Q (some (.int 1)) h) ∧ (¬ x0 = 59 → Q (some (.int (if x0 = 61 then 1 else (if x0 = 60 then 1 else (if x0 = 43 then 1 else (if x0 = 45 then 1 else (if x0 = 42 then 1 else (if x0 = 44 then 1 else 0)))))))) h)))) : z_Ct l G m_X13_isSignOf [.int x0] h Q := by
  refine z_Ct.of (ls := [some (.int x0)]) hst rfl (by show plainName yX13_isSignOf.cls = true; decide +kernel) (z_le rfl) rfl ?_
  show z_V l G m_X13_isSignOf (z_Fm G m_X13_isSignOf Q) 0 0 h 0 [some (.int x0)] []
  refine z_iload_n (q := 1) (i := 0) (x := x0) dX13_isSignOf_0 rfl rfl rfl ?_
  refine z_bipush (q := 3) (v := 40) dX13_isSignOf_1 (by decide) rfl ?_
  refine z_icmp_eq (q := 6) (tgt := 54) dX13_isSignOf_3 rfl rfl (fun hc => ?_) (fun hc => ?_)
  · have hf := hf.1 hc
    refine z_iconst (q := 55) (v := 1) dX13_isSignOf_54 rfl rfl ?_
    refine z_goto (q := 59) dX13_isSignOf_55 rfl ?_
    exact z_zret dX13_isSignOf_59 rfl (z_nb01 z_b1) hf
  · have hf := hf.2 hc
    refine z_iload_n (q := 7) (i := 0) (x := x0) dX13_isSignOf_6 rfl rfl rfl ?_
    refine z_bipush (q := 9) (v := 41) dX13_isSignOf_7 (by decide) rfl ?_
    refine z_icmp_eq (q := 12) (tgt := 54) dX13_isSignOf_9 rfl rfl (fun hc => ?_) (fun hc => ?_)
    · have hf := hf.1 hc
      refine z_iconst (q := 55) (v := 1) dX13_isSignOf_54 rfl rfl ?_
      refine z_goto (q := 59) dX13_isSignOf_55 rfl ?_
      exact z_zret dX13_isSignOf_59 rfl (z_nb01 z_b1) hf
    · have hf := hf.2 hc
      refine z_iload_n (q := 13) (i := 0) (x := x0) dX13_isSignOf_12 rfl rfl rfl ?_
      refine z_bipush (q := 15) (v := 59) dX13_isSignOf_13 (by decide) rfl ?_
      refine z_icmp_eq (q := 18) (tgt := 54) dX13_isSignOf_15 rfl rfl (fun hc => ?_) (fun hc => ?_)
      · have hf := hf.1 hc
        refine z_iconst (q := 55) (v := 1) dX13_isSignOf_54 rfl rfl ?_
        refine z_goto (q := 59) dX13_isSignOf_55 rfl ?_
        exact z_zret dX13_isSignOf_59 rfl (z_nb01 z_b1) hf
      · have hf := hf.2 hc
        refine z_iload_n (q := 19) (i := 0) (x := x0) dX13_isSignOf_18 rfl rfl rfl ?_
        refine z_bipush (q := 21) (v := 61) dX13_isSignOf_19 (by decide) rfl ?_
        have hk : z_V l G m_X13_isSignOf (z_Fm G m_X13_isSignOf Q) 0 0 h 59 [some (.int x0)] [.int (if x0 = 61 then 1 else (if x0 = 60 then 1 else (if x0 = 43 then 1 else (if x0 = 45 then 1 else (if x0 = 42 then 1 else (if x0 = 44 then 1 else 0))))))] := by
          exact z_zret dX13_isSignOf_59 rfl (z_nb01 (z_bif z_b1 (z_bif z_b1 (z_bif z_b1 (z_bif z_b1 (z_bif z_b1 (z_bif z_b1 z_b0))))))) hf
        refine z_icmp_eq (q := 24) (tgt := 54) dX13_isSignOf_21 rfl rfl (fun hc => ?_) (fun hc => ?_)
        · have hk := (z_ite hk).1 hc
          refine z_iconst (q := 55) (v := 1) dX13_isSignOf_54 rfl rfl ?_
          refine z_goto (q := 59) dX13_isSignOf_55 rfl ?_
          exact hk
        · have hk := (z_ite hk).2 hc
          refine z_iload_n (q := 25) (i := 0) (x := x0) dX13_isSignOf_24 rfl rfl rfl ?_
          refine z_bipush (q := 27) (v := 60) dX13_isSignOf_25 (by decide) rfl ?_
          refine z_icmp_eq (q := 30) (tgt := 54) dX13_isSignOf_27 rfl rfl (fun hc => ?_) (fun hc => ?_)
          · have hk := (z_ite hk).1 hc
            refine z_iconst (q := 55) (v := 1) dX13_isSignOf_54 rfl rfl ?_
            refine z_goto (q := 59) dX13_isSignOf_55 rfl ?_
            exact hk
          · have hk := (z_ite hk).2 hc
            refine z_iload_n (q := 31) (i := 0) (x := x0) dX13_isSignOf_30 rfl rfl rfl ?_
            refine z_bipush (q := 33) (v := 43) dX13_isSignOf_31 (by decide) rfl ?_
            refine z_icmp_eq (q := 36) (tgt := 54) dX13_isSignOf_33 rfl rfl (fun hc => ?_) (fun hc => ?_)
            · have hk := (z_ite hk).1 hc
              refine z_iconst (q := 55) (v := 1) dX13_isSignOf_54 rfl rfl ?_
              refine z_goto (q := 59) dX13_isSignOf_55 rfl ?_
              exact hk
            · have hk := (z_ite hk).2 hc
              refine z_iload_n (q := 37) (i := 0) (x := x0) dX13_isSignOf_36 rfl rfl rfl ?_
              refine z_bipush (q := 39) (v := 45) dX13_isSignOf_37 (by decide) rfl ?_
              refine z_icmp_eq (q := 42) (tgt := 54) dX13_isSignOf_39 rfl rfl (fun hc => ?_) (fun hc => ?_)
              · have hk := (z_ite hk).1 hc
                refine z_iconst (q := 55) (v := 1) dX13_isSignOf_54 rfl rfl ?_
                refine z_goto (q := 59) dX13_isSignOf_55 rfl ?_
                exact hk
              · have hk := (z_ite hk).2 hc
                refine z_iload_n (q := 43) (i := 0) (x := x0) dX13_isSignOf_42 rfl rfl rfl ?_
                refine z_bipush (q := 45) (v := 42) dX13_isSignOf_43 (by decide) rfl ?_
                refine z_icmp_eq (q := 48) (tgt := 54) dX13_isSignOf_45 rfl rfl (fun hc => ?_) (fun hc => ?_)
                · have hk := (z_ite hk).1 hc
                  refine z_iconst (q := 55) (v := 1) dX13_isSignOf_54 rfl rfl ?_
                  refine z_goto (q := 59) dX13_isSignOf_55 rfl ?_
                  exact hk
                · have hk := (z_ite hk).2 hc
                  refine z_iload_n (q := 49) (i := 0) (x := x0) dX13_isSignOf_48 rfl rfl rfl ?_
                  refine z_bipush (q := 51) (v := 44) dX13_isSignOf_49 (by decide) rfl ?_
                  refine z_icmp_ne (q := 54) (tgt := 58) dX13_isSignOf_51 rfl rfl (fun hc => ?_) (fun hc => ?_)
                  · have hk := (z_ite hk).2 hc
                    refine z_iconst (q := 59) (v := 0) dX13_isSignOf_58 rfl rfl ?_
                    exact hk
                  · have hk := (z_ite hk).1 hc
                    refine z_iconst (q := 55) (v := 1) dX13_isSignOf_54 rfl rfl ?_
                    refine z_goto (q := 59) dX13_isSignOf_55 rfl ?_
                    exact hk

theorem u_X13_isWon {l : Launch} {G : z_G} {a0 : Nat} {x1 : Int32} {h : z_H} {Q : z_Q} (hst : l.stackTraces = false)  (hf : z_L11 h a0 ∧ vp_in (x1 + 3) 16560 ∧ ∀ v_3 : Int32, v_3 = (h.I (a0 + 16) (Int32.toNatClampNeg (x1 + 3))) → vp_in (x1 + 8) 16560 ∧ (0 ≤ (h.I (a0 + 16) (Int32.toNatClampNeg (x1 + 8))) → z_V l G m_X13_isWon (z_Fm G m_X13_isWon Q) 0 0 h 139 [some (.ref a0), some (.int x1), none, none, none] []) ∧ (¬ 0 ≤ (h.I (a0 + 16) (Int32.toNatClampNeg (x1 + 8))) → vp_in ((x1 + 0) + v_3) 16560 ∧ ((h.I (a0 + 16) (Int32.toNatClampNeg ((x1 + 0) + v_3))) = 0 → vp_in (x1 + 8) 16560 ∧ z_V l G m_X13_isWon (z_Fm G m_X13_isWon Q) 0 0 (h.sI (a0 + 16) (Int32.toNatClampNeg (x1 + 8)) (1 - v_3)) 48 [some (.ref a0), some (.int x1), some (.int v_3), some (.int 0), none] []) ∧ (¬ (h.I (a0 + 16) (Int32.toNatClampNeg ((x1 + 0) + v_3))) = 0 → z_V l G m_X13_isWon (z_Fm G m_X13_isWon Q) 0 0 h 139 [some (.ref a0), some (.int x1), none, none, none] []))) : z_Ct l G m_X13_isWon [.ref a0, .int x1] h Q := by
  refine z_Ct.of (ls := [some (.ref a0), some (.int x1), none, none, none]) hst rfl (by show plainName yX13_isWon.cls = true; decide +kernel) (z_le rfl) rfl ?_
  show z_V l G m_X13_isWon (z_Fm G m_X13_isWon Q) 0 0 h 0 [some (.ref a0), some (.int x1), none, none, none] []
  refine z_aload_n (q := 1) (i := 0) (x := a0) dX13_isWon_0 rfl rfl rfl ?_
  obtain ⟨g_1, hf⟩ := hf
  refine z_get 11 22 (q := 4) (v := .ref (a0 + 16)) rfl (z_lt rfl) (z_L11_T g_1) q1780 dX13_isWon_1 rfl (z_fvR (fun _ _ _ => rfl) (z_L11_P22 g_1)) ?_
  refine z_iload_n (q := 5) (i := 1) (x := x1) dX13_isWon_4 rfl rfl rfl ?_
  refine z_iconst (q := 6) (v := 3) dX13_isWon_5 rfl rfl ?_
  refine z_iadd (q := 7) dX13_isWon_6 rfl ?_
  obtain ⟨g_2, hf⟩ := hf
  refine z_iald (q := 8) (n := 16560) (z_L11_A22 g_1) g_2 dX13_isWon_7 rfl ?_
  refine z_nmI (fun v_3 hv_4 => ?_)
  have hf := hf v_3 hv_4
  refine z_istore_n (q := 9) (i := 2) (ls2 := [some (.ref a0), some (.int x1), some (.int v_3), none, none]) (x := v_3) dX13_isWon_8 rfl (z_lt rfl) rfl rfl ?_
  refine z_aload_n (q := 10) (i := 0) (x := a0) dX13_isWon_9 rfl rfl rfl ?_
  refine z_get 11 22 (q := 13) (v := .ref (a0 + 16)) rfl (z_lt rfl) (z_L11_T g_1) q1780 dX13_isWon_10 rfl (z_fvR (fun _ _ _ => rfl) (z_L11_P22 g_1)) ?_
  refine z_iload_n (q := 14) (i := 1) (x := x1) dX13_isWon_13 rfl rfl rfl ?_
  refine z_bipush (q := 16) (v := 8) dX13_isWon_14 (by decide) rfl ?_
  refine z_iadd (q := 17) dX13_isWon_16 rfl ?_
  obtain ⟨g_5, hf⟩ := hf
  refine z_iald (q := 18) (n := 16560) (z_L11_A22 g_1) g_5 dX13_isWon_17 rfl ?_
  refine z_if_ge (q := 21) (tgt := 139) dX13_isWon_18 rfl rfl (fun hc => ?_) (fun hc => ?_)
  · have hf := hf.1 hc
    refine z_prune [true, true, false, false, false] (ls2 := [some (.ref a0), some (.int x1), none, none, none]) rfl ?_
    exact hf
  · have hf := hf.2 hc
    refine z_aload_n (q := 22) (i := 0) (x := a0) dX13_isWon_21 rfl rfl rfl ?_
    refine z_get 11 22 (q := 25) (v := .ref (a0 + 16)) rfl (z_lt rfl) (z_L11_T g_1) q1780 dX13_isWon_22 rfl (z_fvR (fun _ _ _ => rfl) (z_L11_P22 g_1)) ?_
    refine z_iload_n (q := 26) (i := 1) (x := x1) dX13_isWon_25 rfl rfl rfl ?_
    refine z_iconst (q := 27) (v := 0) dX13_isWon_26 rfl rfl ?_
    refine z_iadd (q := 28) dX13_isWon_27 rfl ?_
    refine z_iload_n (q := 29) (i := 2) (x := v_3) dX13_isWon_28 rfl rfl rfl ?_
    refine z_iadd (q := 30) dX13_isWon_29 rfl ?_
    obtain ⟨g_6, hf⟩ := hf
    refine z_iald (q := 31) (n := 16560) (z_L11_A22 g_1) g_6 dX13_isWon_30 rfl ?_
    refine z_if_ne (q := 34) (tgt := 139) dX13_isWon_31 rfl rfl (fun hc => ?_) (fun hc => ?_)
    · have hf := hf.2 hc
      refine z_prune [true, true, false, false, false] (ls2 := [some (.ref a0), some (.int x1), none, none, none]) rfl ?_
      exact hf
    · have hf := hf.1 hc
      refine z_aload_n (q := 35) (i := 0) (x := a0) dX13_isWon_34 rfl rfl rfl ?_
      refine z_get 11 22 (q := 38) (v := .ref (a0 + 16)) rfl (z_lt rfl) (z_L11_T g_1) q1780 dX13_isWon_35 rfl (z_fvR (fun _ _ _ => rfl) (z_L11_P22 g_1)) ?_
      refine z_iload_n (q := 39) (i := 1) (x := x1) dX13_isWon_38 rfl rfl rfl ?_
      refine z_bipush (q := 41) (v := 8) dX13_isWon_39 (by decide) rfl ?_
      refine z_iadd (q := 42) dX13_isWon_41 rfl ?_
      refine z_iconst (q := 43) (v := 1) dX13_isWon_42 rfl rfl ?_
      refine z_iload_n (q := 44) (i := 2) (x := v_3) dX13_isWon_43 rfl rfl rfl ?_
      refine z_isub (q := 45) dX13_isWon_44 rfl ?_
      obtain ⟨g_7, hf⟩ := hf
      refine z_iast (q := 46) (n := 16560) (z_L11_A22 g_1) g_7 dX13_isWon_45 rfl ?_
      refine z_iconst (q := 47) (v := 0) dX13_isWon_46 rfl rfl ?_
      refine z_istore_n (q := 48) (i := 3) (ls2 := [some (.ref a0), some (.int x1), some (.int v_3), some (.int 0), none]) (x := 0) dX13_isWon_47 rfl (z_lt rfl) rfl rfl ?_
      exact hf

theorem b_X13_isWon_139 {l : Launch} {G : z_G} {a0 : Nat} {x1 : Int32} {h : z_H} {Q : z_Q}  (hf : z_L11 h a0 ∧ vp_in (x1 + 8) 16560 ∧ Q (some (.int (if (h.I (a0 + 16) (Int32.toNatClampNeg (x1 + 8))) < 0 then 0 else 1))) h) : z_V l G m_X13_isWon (z_Fm G m_X13_isWon Q) 0 0 h 139 [some (.ref a0), some (.int x1), none, none, none] [] := by
  refine z_aload_n (q := 140) (i := 0) (x := a0) dX13_isWon_139 rfl rfl rfl ?_
  obtain ⟨g_1, hf⟩ := hf
  refine z_get 11 22 (q := 143) (v := .ref (a0 + 16)) rfl (z_lt rfl) (z_L11_T g_1) q1780 dX13_isWon_140 rfl (z_fvR (fun _ _ _ => rfl) (z_L11_P22 g_1)) ?_
  refine z_iload_n (q := 144) (i := 1) (x := x1) dX13_isWon_143 rfl rfl rfl ?_
  refine z_bipush (q := 146) (v := 8) dX13_isWon_144 (by decide) rfl ?_
  refine z_iadd (q := 147) dX13_isWon_146 rfl ?_
  obtain ⟨g_2, hf⟩ := hf
  refine z_iald (q := 148) (n := 16560) (z_L11_A22 g_1) g_2 dX13_isWon_147 rfl ?_
  have hk : z_V l G m_X13_isWon (z_Fm G m_X13_isWon Q) 0 0 h 156 [some (.ref a0), some (.int x1), none, none, none] [.int (if (h.I (a0 + 16) (Int32.toNatClampNeg (x1 + 8))) < 0 then 0 else 1)] := by
    exact z_zret dX13_isWon_156 rfl (z_nb01 (z_bif z_b0 z_b1)) hf
  refine z_if_lt (q := 151) (tgt := 155) dX13_isWon_148 rfl rfl (fun hc => ?_) (fun hc => ?_)
  · have hk := (z_ite hk).1 hc
    refine z_iconst (q := 156) (v := 0) dX13_isWon_155 rfl rfl ?_
    exact hk
  · have hk := (z_ite hk).2 hc
    refine z_iconst (q := 152) (v := 1) dX13_isWon_151 rfl rfl ?_
    refine z_goto (q := 156) dX13_isWon_152 rfl ?_
    exact hk

theorem b_X13_isWon_48 {l : Launch} {G : z_G} {a0 : Nat} {x1 : Int32} {x2 : Int32} {x3 : Int32} {h : z_H} {Q : z_Q}  (hf : z_L11 h a0 ∧ vp_in (x1 + 10) 16560 ∧ ((h.I (a0 + 16) (Int32.toNatClampNeg (x1 + 10))) ≤ x3 → z_V l G m_X13_isWon (z_Fm G m_X13_isWon Q) 0 0 h 139 [some (.ref a0), some (.int x1), none, none, none] []) ∧ (¬ (h.I (a0 + 16) (Int32.toNatClampNeg (x1 + 10))) ≤ x3 → (x1 = 0 → ∀ v_3 : Int32, v_3 = (420 + (3 * x3)) → vp_in 9 16560 ∧ vp_in v_3 16560 ∧ ((h.I (a0 + 16) (Int32.toNatClampNeg v_3)) = (1 - x2) → vp_in (v_3 + 1) 16560 ∧ vp_in (v_3 + 1) 16560 ∧ vp_in (v_3 + 2) 16560 ∧ vp_in 9 16560 ∧ z_V l G m_X13_isWon (z_Fm G m_X13_isWon Q) 0 0 (h.sI (a0 + 16) (Int32.toNatClampNeg 9) ((h.I (a0 + 16) (Int32.toNatClampNeg 9)) + ((h.I (a0 + 16) (Int32.toNatClampNeg (v_3 + 1))) + (((h.I (a0 + 16) (Int32.toNatClampNeg (v_3 + 1))) * (h.I (a0 + 16) (Int32.toNatClampNeg (v_3 + 2)))) / 10)))) 48 [some (.ref a0), some (.int x1), some (.int x2), some (.int (x3 + 1)), none] []) ∧ (¬ (h.I (a0 + 16) (Int32.toNatClampNeg v_3)) = (1 - x2) → vp_in 9 16560 ∧ z_V l G m_X13_isWon (z_Fm G m_X13_isWon Q) 0 0 (h.sI (a0 + 16) (Int32.toNatClampNeg 9) ((h.I (a0 + 16) (Int32.toNatClampNeg 9)) + 0)) 48 [some (.ref a0), some (.int x1), some (.int x2), some (.int (x3 + 1)), none] [])) ∧ (¬ x1 = 0 → z_V l G m_X13_isWon (z_Fm G m_X13_isWon Q) 0 0 h 139 [some (.ref a0), some (.int x1), none, none, none] []))) : z_V l G m_X13_isWon (z_Fm G m_X13_isWon Q) 0 0 h 48 [some (.ref a0), some (.int x1), some (.int x2), some (.int x3), none] [] := by
  refine z_iload_n (q := 49) (i := 3) (x := x3) dX13_isWon_48 rfl rfl rfl ?_
  refine z_aload_n (q := 50) (i := 0) (x := a0) dX13_isWon_49 rfl rfl rfl ?_
  obtain ⟨g_1, hf⟩ := hf
  refine z_get 11 22 (q := 53) (v := .ref (a0 + 16)) rfl (z_lt rfl) (z_L11_T g_1) q1780 dX13_isWon_50 rfl (z_fvR (fun _ _ _ => rfl) (z_L11_P22 g_1)) ?_
  refine z_iload_n (q := 54) (i := 1) (x := x1) dX13_isWon_53 rfl rfl rfl ?_
  refine z_bipush (q := 56) (v := 10) dX13_isWon_54 (by decide) rfl ?_
  refine z_iadd (q := 57) dX13_isWon_56 rfl ?_
  obtain ⟨g_2, hf⟩ := hf
  refine z_iald (q := 58) (n := 16560) (z_L11_A22 g_1) g_2 dX13_isWon_57 rfl ?_
  refine z_icmp_ge (q := 61) (tgt := 139) dX13_isWon_58 rfl rfl (fun hc => ?_) (fun hc => ?_)
  · have hf := hf.1 hc
    refine z_prune [true, true, false, false, false] (ls2 := [some (.ref a0), some (.int x1), none, none, none]) rfl ?_
    exact hf
  · have hf := hf.2 hc
    refine z_iload_n (q := 62) (i := 1) (x := x1) dX13_isWon_61 rfl rfl rfl ?_
    refine z_if_ne (q := 65) (tgt := 139) dX13_isWon_62 rfl rfl (fun hc => ?_) (fun hc => ?_)
    · have hf := hf.2 hc
      refine z_prune [true, true, false, false, false] (ls2 := [some (.ref a0), some (.int x1), none, none, none]) rfl ?_
      exact hf
    · have hf := hf.1 hc
      refine z_sipush (q := 68) (v := 420) dX13_isWon_65 (by decide) rfl ?_
      refine z_iconst (q := 69) (v := 3) dX13_isWon_68 rfl rfl ?_
      refine z_iload_n (q := 70) (i := 3) (x := x3) dX13_isWon_69 rfl rfl rfl ?_
      refine z_imul (q := 71) dX13_isWon_70 rfl ?_
      refine z_iadd (q := 72) dX13_isWon_71 rfl ?_
      refine z_nmI (fun v_3 hv_4 => ?_)
      have hf := hf v_3 hv_4
      refine z_istore (q := 74) (i := 4) (ls2 := [some (.ref a0), some (.int x1), some (.int x2), some (.int x3), some (.int v_3)]) (x := v_3) dX13_isWon_72 (z_lt rfl) rfl rfl ?_
      refine z_aload_n (q := 75) (i := 0) (x := a0) dX13_isWon_74 rfl rfl rfl ?_
      refine z_get 11 22 (q := 78) (v := .ref (a0 + 16)) rfl (z_lt rfl) (z_L11_T g_1) q1780 dX13_isWon_75 rfl (z_fvR (fun _ _ _ => rfl) (z_L11_P22 g_1)) ?_
      refine z_bipush (q := 80) (v := 9) dX13_isWon_78 (by decide) rfl ?_
      refine z_dup2 (q := 81) dX13_isWon_80 rfl rfl rfl ?_
      obtain ⟨g_5, hf⟩ := hf
      refine z_iald (q := 82) (n := 16560) (z_L11_A22 g_1) g_5 dX13_isWon_81 rfl ?_
      refine z_aload_n (q := 83) (i := 0) (x := a0) dX13_isWon_82 rfl rfl rfl ?_
      refine z_get 11 22 (q := 86) (v := .ref (a0 + 16)) rfl (z_lt rfl) (z_L11_T g_1) q1780 dX13_isWon_83 rfl (z_fvR (fun _ _ _ => rfl) (z_L11_P22 g_1)) ?_
      refine z_iload (q := 88) (i := 4) (x := v_3) dX13_isWon_86 rfl rfl ?_
      obtain ⟨g_6, hf⟩ := hf
      refine z_iald (q := 89) (n := 16560) (z_L11_A22 g_1) g_6 dX13_isWon_88 rfl ?_
      refine z_iconst (q := 90) (v := 1) dX13_isWon_89 rfl rfl ?_
      refine z_iload_n (q := 91) (i := 2) (x := x2) dX13_isWon_90 rfl rfl rfl ?_
      refine z_isub (q := 92) dX13_isWon_91 rfl ?_
      refine z_icmp_ne (q := 95) (tgt := 130) dX13_isWon_92 rfl rfl (fun hc => ?_) (fun hc => ?_)
      · have hf := hf.2 hc
        refine z_iconst (q := 131) (v := 0) dX13_isWon_130 rfl rfl ?_
        refine z_iadd (q := 132) dX13_isWon_131 rfl ?_
        obtain ⟨g_10, hf⟩ := hf
        refine z_iast (q := 133) (n := 16560) (z_L11_A22 g_1) g_10 dX13_isWon_132 rfl ?_
        refine z_iinc (q := 136) (i := 3) (x := x3) (v := (x3 + 1)) (ls2 := [some (.ref a0), some (.int x1), some (.int x2), some (.int (x3 + 1)), some (.int v_3)]) dX13_isWon_133 rfl rfl (z_lt rfl) rfl rfl ?_
        refine z_goto (q := 48) dX13_isWon_136 rfl ?_
        refine z_prune [true, true, true, true, false] (ls2 := [some (.ref a0), some (.int x1), some (.int x2), some (.int (x3 + 1)), none]) rfl ?_
        exact hf
      · have hf := hf.1 hc
        refine z_aload_n (q := 96) (i := 0) (x := a0) dX13_isWon_95 rfl rfl rfl ?_
        refine z_get 11 22 (q := 99) (v := .ref (a0 + 16)) rfl (z_lt rfl) (z_L11_T g_1) q1780 dX13_isWon_96 rfl (z_fvR (fun _ _ _ => rfl) (z_L11_P22 g_1)) ?_
        refine z_iload (q := 101) (i := 4) (x := v_3) dX13_isWon_99 rfl rfl ?_
        refine z_iconst (q := 102) (v := 1) dX13_isWon_101 rfl rfl ?_
        refine z_iadd (q := 103) dX13_isWon_102 rfl ?_
        obtain ⟨g_11, hf⟩ := hf
        refine z_iald (q := 104) (n := 16560) (z_L11_A22 g_1) g_11 dX13_isWon_103 rfl ?_
        refine z_aload_n (q := 105) (i := 0) (x := a0) dX13_isWon_104 rfl rfl rfl ?_
        refine z_get 11 22 (q := 108) (v := .ref (a0 + 16)) rfl (z_lt rfl) (z_L11_T g_1) q1780 dX13_isWon_105 rfl (z_fvR (fun _ _ _ => rfl) (z_L11_P22 g_1)) ?_
        refine z_iload (q := 110) (i := 4) (x := v_3) dX13_isWon_108 rfl rfl ?_
        refine z_iconst (q := 111) (v := 1) dX13_isWon_110 rfl rfl ?_
        refine z_iadd (q := 112) dX13_isWon_111 rfl ?_
        obtain ⟨g_12, hf⟩ := hf
        refine z_iald (q := 113) (n := 16560) (z_L11_A22 g_1) g_12 dX13_isWon_112 rfl ?_
        refine z_aload_n (q := 114) (i := 0) (x := a0) dX13_isWon_113 rfl rfl rfl ?_
        refine z_get 11 22 (q := 117) (v := .ref (a0 + 16)) rfl (z_lt rfl) (z_L11_T g_1) q1780 dX13_isWon_114 rfl (z_fvR (fun _ _ _ => rfl) (z_L11_P22 g_1)) ?_
        refine z_iload (q := 119) (i := 4) (x := v_3) dX13_isWon_117 rfl rfl ?_
        refine z_iconst (q := 120) (v := 2) dX13_isWon_119 rfl rfl ?_
        refine z_iadd (q := 121) dX13_isWon_120 rfl ?_
        obtain ⟨g_13, hf⟩ := hf
        refine z_iald (q := 122) (n := 16560) (z_L11_A22 g_1) g_13 dX13_isWon_121 rfl ?_
        refine z_imul (q := 123) dX13_isWon_122 rfl ?_
        refine z_bipush (q := 125) (v := 10) dX13_isWon_123 (by decide) rfl ?_
        refine z_idiv (q := 126) dX13_isWon_125 (by decide) rfl ?_
        refine z_iadd (q := 127) dX13_isWon_126 rfl ?_
        refine z_goto (q := 131) dX13_isWon_127 rfl ?_
        refine z_iadd (q := 132) dX13_isWon_131 rfl ?_
        obtain ⟨g_14, hf⟩ := hf
        refine z_iast (q := 133) (n := 16560) (z_L11_A22 g_1) g_14 dX13_isWon_132 rfl ?_
        refine z_iinc (q := 136) (i := 3) (x := x3) (v := (x3 + 1)) (ls2 := [some (.ref a0), some (.int x1), some (.int x2), some (.int (x3 + 1)), some (.int v_3)]) dX13_isWon_133 rfl rfl (z_lt rfl) rfl rfl ?_
        refine z_goto (q := 48) dX13_isWon_136 rfl ?_
        refine z_prune [true, true, true, true, false] (ls2 := [some (.ref a0), some (.int x1), some (.int x2), some (.int (x3 + 1)), none]) rfl ?_
        exact hf

theorem u_X13_isWord {l : Launch} {G : z_G} {a0 : Nat} {x1 : Int32} {h : z_H} {Q : z_Q} (hst : l.stackTraces = false)  (hf : z_L11 h a0 ∧ (((h.I a0 8) = 0 → vp_in (h.I a0 7) 1002 ∧ (((h.I (a0 + 2) (Int32.toNatClampNeg (h.I a0 7))) = 1 → vp_in (h.I a0 7) 1002 ∧ vp_in x1 24 ∧ True) ∧ (¬ (h.I (a0 + 2) (Int32.toNatClampNeg (h.I a0 7))) = 1 → True))) ∧ (¬ (h.I a0 8) = 0 → True)) ∧ Q (some (.int (if (h.I a0 8) = 0 then (if (h.I (a0 + 2) (Int32.toNatClampNeg (h.I a0 7))) = 1 then (if (lg_cmp (h.L (a0 + 4) (Int32.toNatClampNeg (h.I a0 7))) (h.L (a0 + 5) (Int32.toNatClampNeg x1))) = 0 then 1 else 0) else 0) else 0))) h) : z_Ct l G m_X13_isWord [.ref a0, .int x1] h Q := by
  refine z_Ct.of (ls := [some (.ref a0), some (.int x1)]) hst rfl (by show plainName yX13_isWord.cls = true; decide +kernel) (z_le rfl) rfl ?_
  show z_V l G m_X13_isWord (z_Fm G m_X13_isWord Q) 0 0 h 0 [some (.ref a0), some (.int x1)] []
  refine z_aload_n (q := 1) (i := 0) (x := a0) dX13_isWord_0 rfl rfl rfl ?_
  obtain ⟨g_1, hf⟩ := hf
  refine z_get 11 8 (q := 4) (v := .int (h.I a0 8)) rfl (z_lt rfl) (z_L11_T g_1) q1766 dX13_isWord_1 rfl rfl ?_
  obtain ⟨hsc, hf⟩ := hf
  have hk : z_V l G m_X13_isWord (z_Fm G m_X13_isWord Q) 0 0 h 44 [some (.ref a0), some (.int x1)] [.int (if (h.I a0 8) = 0 then (if (h.I (a0 + 2) (Int32.toNatClampNeg (h.I a0 7))) = 1 then (if (lg_cmp (h.L (a0 + 4) (Int32.toNatClampNeg (h.I a0 7))) (h.L (a0 + 5) (Int32.toNatClampNeg x1))) = 0 then 1 else 0) else 0) else 0)] := by
    exact z_zret dX13_isWord_44 rfl (z_nb01 (z_bif (z_bif (z_bif z_b1 z_b0) z_b0) z_b0)) hf
  refine z_if_ne (q := 7) (tgt := 43) dX13_isWord_4 rfl rfl (fun hc => ?_) (fun hc => ?_)
  · have hk := (z_ite hk).2 hc
    have hsc := hsc.2 hc
    refine z_iconst (q := 44) (v := 0) dX13_isWord_43 rfl rfl ?_
    exact hk
  · have hk := (z_ite hk).1 hc
    have hsc := hsc.1 hc
    obtain ⟨g_2, hsc⟩ := hsc
    refine z_aload_n (q := 8) (i := 0) (x := a0) dX13_isWord_7 rfl rfl rfl ?_
    refine z_get 11 4 (q := 11) (v := .ref (a0 + 2)) rfl (z_lt rfl) (z_L11_T g_1) q1762 dX13_isWord_8 rfl (z_fvR (fun _ _ _ => rfl) (z_L11_P4 g_1)) ?_
    refine z_aload_n (q := 12) (i := 0) (x := a0) dX13_isWord_11 rfl rfl rfl ?_
    refine z_get 11 7 (q := 15) (v := .int (h.I a0 7)) rfl (z_lt rfl) (z_L11_T g_1) q1765 dX13_isWord_12 rfl rfl ?_
    refine z_iald (q := 16) (n := 1002) (z_L11_A4 g_1) g_2 dX13_isWord_15 rfl ?_
    refine z_iconst (q := 17) (v := 1) dX13_isWord_16 rfl rfl ?_
    refine z_icmp_ne (q := 20) (tgt := 43) dX13_isWord_17 rfl rfl (fun hc => ?_) (fun hc => ?_)
    · have hk := (z_ite hk).2 hc
      have hsc := hsc.2 hc
      refine z_iconst (q := 44) (v := 0) dX13_isWord_43 rfl rfl ?_
      exact hk
    · have hk := (z_ite hk).1 hc
      have hsc := hsc.1 hc
      obtain ⟨g_3, hsc⟩ := hsc
      obtain ⟨g_4, hsc⟩ := hsc
      refine z_aload_n (q := 21) (i := 0) (x := a0) dX13_isWord_20 rfl rfl rfl ?_
      refine z_get 11 6 (q := 24) (v := .ref (a0 + 4)) rfl (z_lt rfl) (z_L11_T g_1) q1764 dX13_isWord_21 rfl (z_fvR (fun _ _ _ => rfl) (z_L11_P6 g_1)) ?_
      refine z_aload_n (q := 25) (i := 0) (x := a0) dX13_isWord_24 rfl rfl rfl ?_
      refine z_get 11 7 (q := 28) (v := .int (h.I a0 7)) rfl (z_lt rfl) (z_L11_T g_1) q1765 dX13_isWord_25 rfl rfl ?_
      refine z_lald (q := 29) (n := 1002) (z_L11_A6 g_1) g_3 dX13_isWord_28 rfl ?_
      refine z_aload_n (q := 30) (i := 0) (x := a0) dX13_isWord_29 rfl rfl rfl ?_
      refine z_get 11 9 (q := 33) (v := .ref (a0 + 5)) rfl (z_lt rfl) (z_L11_T g_1) q1767 dX13_isWord_30 rfl (z_fvR (fun _ _ _ => rfl) (z_L11_P9 g_1)) ?_
      refine z_iload_n (q := 34) (i := 1) (x := x1) dX13_isWord_33 rfl rfl rfl ?_
      refine z_lald (q := 35) (n := 24) (z_L11_A9 g_1) g_4 dX13_isWord_34 rfl ?_
      refine z_lcmp (q := 36) dX13_isWord_35 rfl ?_
      refine z_if_ne (q := 39) (tgt := 43) dX13_isWord_36 rfl rfl (fun hc => ?_) (fun hc => ?_)
      · have hk := (z_ite hk).2 hc
        refine z_iconst (q := 44) (v := 0) dX13_isWord_43 rfl rfl ?_
        exact hk
      · have hk := (z_ite hk).1 hc
        refine z_iconst (q := 40) (v := 1) dX13_isWord_39 rfl rfl ?_
        refine z_goto (q := 44) dX13_isWord_40 rfl ?_
        exact hk

theorem u_X13_keeps {l : Launch} {G : z_G} {a0 : Nat} {h : z_H} {Q : z_Q} (hst : l.stackTraces = false)  (hf : z_L11 h a0 ∧ ((h.I a0 23) = 16 → z_V l G m_X13_keeps (z_Fm G m_X13_keeps Q) 0 0 h 11 [some (.ref a0), some (.int 1)] []) ∧ (¬ (h.I a0 23) = 16 → z_Ct l G m_X13_copies [.ref a0, .int 0, .int (460 * (5 + (h.I a0 23))), .int 460] h (z_Qv (fun h_2 => z_L11 h_2 a0 ∧ Q none (h_2.sI a0 23 ((h_2.I a0 23) + 1)))))) : z_Ct l G m_X13_keeps [.ref a0] h Q := by
  refine z_Ct.of (ls := [some (.ref a0), none]) hst rfl (by show plainName yX13_keeps.cls = true; decide +kernel) (z_le rfl) rfl ?_
  show z_V l G m_X13_keeps (z_Fm G m_X13_keeps Q) 0 0 h 0 [some (.ref a0), none] []
  refine z_aload_n (q := 1) (i := 0) (x := a0) dX13_keeps_0 rfl rfl rfl ?_
  obtain ⟨g_1, hf⟩ := hf
  refine z_get 11 23 (q := 4) (v := .int (h.I a0 23)) rfl (z_lt rfl) (z_L11_T g_1) q1781 dX13_keeps_1 rfl rfl ?_
  refine z_bipush (q := 6) (v := 16) dX13_keeps_4 (by decide) rfl ?_
  refine z_icmp_ne (q := 9) (tgt := 56) dX13_keeps_6 rfl rfl (fun hc => ?_) (fun hc => ?_)
  · have hf := hf.2 hc
    refine z_aload_n (q := 57) (i := 0) (x := a0) dX13_keeps_56 rfl rfl rfl ?_
    refine z_iconst (q := 58) (v := 0) dX13_keeps_57 rfl rfl ?_
    refine z_sipush (q := 61) (v := 460) dX13_keeps_58 (by decide) rfl ?_
    refine z_iconst (q := 62) (v := 5) dX13_keeps_61 rfl rfl ?_
    refine z_aload_n (q := 63) (i := 0) (x := a0) dX13_keeps_62 rfl rfl rfl ?_
    refine z_get 11 23 (q := 66) (v := .int (h.I a0 23)) rfl (z_lt rfl) (z_L11_T g_1) q1781 dX13_keeps_63 rfl rfl ?_
    refine z_iadd (q := 67) dX13_keeps_66 rfl ?_
    refine z_imul (q := 68) dX13_keeps_67 rfl ?_
    refine z_sipush (q := 71) (v := 460) dX13_keeps_68 (by decide) rfl ?_
    refine z_cVv m_X13_copies [.int 0, .int (460 * (5 + (h.I a0 23))), .int 460] (a0) (q := 74) (rc2 := 0) (rs2 := 0) (st := []) dX13_keeps_71 rfl q2104 oV_X13_copies rfl rfl ⟨z_le rfl, z_le rfl⟩ (z_le rfl) (z_rcv_of 11 rfl (z_L11_T g_1) rfl) rfl  rfl hf (fun h_2 hf => ?_)
    refine z_aload_n (q := 75) (i := 0) (x := a0) dX13_keeps_74 rfl rfl rfl ?_
    refine z_dup (q := 76) dX13_keeps_75 rfl rfl ?_
    obtain ⟨g_3, hf⟩ := hf
    refine z_get 11 23 (q := 79) (v := .int (h_2.I a0 23)) rfl (z_lt rfl) (z_L11_T g_3) q1781 dX13_keeps_76 rfl rfl ?_
    refine z_iconst (q := 80) (v := 1) dX13_keeps_79 rfl rfl ?_
    refine z_iadd (q := 81) dX13_keeps_80 rfl ?_
    refine z_putI 11 23 (q := 84) (x := ((h_2.I a0 23) + 1)) (v := .int ((h_2.I a0 23) + 1)) rfl (z_lt rfl) (z_L11_T g_3) q1781 rfl dX13_keeps_81 rfl rfl rfl rfl (fun _ _ _ => rfl) ?_
    exact z_vret dX13_keeps_84 rfl hf
  · have hf := hf.1 hc
    refine z_iconst (q := 10) (v := 1) dX13_keeps_9 rfl rfl ?_
    refine z_istore_n (q := 11) (i := 1) (ls2 := [some (.ref a0), some (.int 1)]) (x := 1) dX13_keeps_10 rfl (z_lt rfl) rfl rfl ?_
    exact hf

theorem b_X13_keeps_11 {l : Launch} {G : z_G} {a0 : Nat} {x1 : Int32} {h : z_H} {Q : z_Q}  (hf : (16 ≤ x1 → z_L11 h a0 ∧ z_Ct l G m_X13_copies [.ref a0, .int 0, .int (460 * (5 + ((h.I a0 23) - 1))), .int 460] (h.sI a0 23 ((h.I a0 23) - 1)) (z_Qv (fun h_2 => z_L11 h_2 a0 ∧ Q none (h_2.sI a0 23 ((h_2.I a0 23) + 1))))) ∧ (¬ 16 ≤ x1 → z_L11 h a0 ∧ z_Ct l G m_X13_copies [.ref a0, .int (460 * (5 + x1)), .int (460 * ((5 + x1) - 1)), .int 460] h (z_Qv (fun h_5 => z_V l G m_X13_keeps (z_Fm G m_X13_keeps Q) 0 0 h_5 11 [some (.ref a0), some (.int (x1 + 1))] [])))) : z_V l G m_X13_keeps (z_Fm G m_X13_keeps Q) 0 0 h 11 [some (.ref a0), some (.int x1)] [] := by
  refine z_iload_n (q := 12) (i := 1) (x := x1) dX13_keeps_11 rfl rfl rfl ?_
  refine z_bipush (q := 14) (v := 16) dX13_keeps_12 (by decide) rfl ?_
  refine z_icmp_ge (q := 17) (tgt := 46) dX13_keeps_14 rfl rfl (fun hc => ?_) (fun hc => ?_)
  · have hf := hf.1 hc
    refine z_aload_n (q := 47) (i := 0) (x := a0) dX13_keeps_46 rfl rfl rfl ?_
    refine z_dup (q := 48) dX13_keeps_47 rfl rfl ?_
    obtain ⟨g_1, hf⟩ := hf
    refine z_get 11 23 (q := 51) (v := .int (h.I a0 23)) rfl (z_lt rfl) (z_L11_T g_1) q1781 dX13_keeps_48 rfl rfl ?_
    refine z_iconst (q := 52) (v := 1) dX13_keeps_51 rfl rfl ?_
    refine z_isub (q := 53) dX13_keeps_52 rfl ?_
    refine z_putI 11 23 (q := 56) (x := ((h.I a0 23) - 1)) (v := .int ((h.I a0 23) - 1)) rfl (z_lt rfl) (z_L11_T g_1) q1781 rfl dX13_keeps_53 rfl rfl rfl rfl (fun _ _ _ => rfl) ?_
    refine z_aload_n (q := 57) (i := 0) (x := a0) dX13_keeps_56 rfl rfl rfl ?_
    refine z_iconst (q := 58) (v := 0) dX13_keeps_57 rfl rfl ?_
    refine z_sipush (q := 61) (v := 460) dX13_keeps_58 (by decide) rfl ?_
    refine z_iconst (q := 62) (v := 5) dX13_keeps_61 rfl rfl ?_
    refine z_aload_n (q := 63) (i := 0) (x := a0) dX13_keeps_62 rfl rfl rfl ?_
    refine z_get 11 23 (q := 66) (v := .int ((h.I a0 23) - 1)) rfl (z_lt rfl) (z_L11_T g_1) q1781 dX13_keeps_63 rfl (congrArg Value.int z_rIs) ?_
    refine z_iadd (q := 67) dX13_keeps_66 rfl ?_
    refine z_imul (q := 68) dX13_keeps_67 rfl ?_
    refine z_sipush (q := 71) (v := 460) dX13_keeps_68 (by decide) rfl ?_
    refine z_cVv m_X13_copies [.int 0, .int (460 * (5 + ((h.I a0 23) - 1))), .int 460] (a0) (q := 74) (rc2 := 0) (rs2 := 0) (st := []) dX13_keeps_71 rfl q2104 oV_X13_copies rfl rfl ⟨z_le rfl, z_le rfl⟩ (z_le rfl) (z_rcv_of 11 rfl (z_L11_T g_1) rfl) rfl  rfl hf (fun h_2 hf => ?_)
    refine z_aload_n (q := 75) (i := 0) (x := a0) dX13_keeps_74 rfl rfl rfl ?_
    refine z_dup (q := 76) dX13_keeps_75 rfl rfl ?_
    obtain ⟨g_3, hf⟩ := hf
    refine z_get 11 23 (q := 79) (v := .int (h_2.I a0 23)) rfl (z_lt rfl) (z_L11_T g_3) q1781 dX13_keeps_76 rfl rfl ?_
    refine z_iconst (q := 80) (v := 1) dX13_keeps_79 rfl rfl ?_
    refine z_iadd (q := 81) dX13_keeps_80 rfl ?_
    refine z_putI 11 23 (q := 84) (x := ((h_2.I a0 23) + 1)) (v := .int ((h_2.I a0 23) + 1)) rfl (z_lt rfl) (z_L11_T g_3) q1781 rfl dX13_keeps_81 rfl rfl rfl rfl (fun _ _ _ => rfl) ?_
    exact z_vret dX13_keeps_84 rfl hf
  · have hf := hf.2 hc
    refine z_aload_n (q := 18) (i := 0) (x := a0) dX13_keeps_17 rfl rfl rfl ?_
    refine z_sipush (q := 21) (v := 460) dX13_keeps_18 (by decide) rfl ?_
    refine z_iconst (q := 22) (v := 5) dX13_keeps_21 rfl rfl ?_
    refine z_iload_n (q := 23) (i := 1) (x := x1) dX13_keeps_22 rfl rfl rfl ?_
    refine z_iadd (q := 24) dX13_keeps_23 rfl ?_
    refine z_imul (q := 25) dX13_keeps_24 rfl ?_
    refine z_sipush (q := 28) (v := 460) dX13_keeps_25 (by decide) rfl ?_
    refine z_iconst (q := 29) (v := 5) dX13_keeps_28 rfl rfl ?_
    refine z_iload_n (q := 30) (i := 1) (x := x1) dX13_keeps_29 rfl rfl rfl ?_
    refine z_iadd (q := 31) dX13_keeps_30 rfl ?_
    refine z_iconst (q := 32) (v := 1) dX13_keeps_31 rfl rfl ?_
    refine z_isub (q := 33) dX13_keeps_32 rfl ?_
    refine z_imul (q := 34) dX13_keeps_33 rfl ?_
    refine z_sipush (q := 37) (v := 460) dX13_keeps_34 (by decide) rfl ?_
    obtain ⟨g_4, hf⟩ := hf
    refine z_cVv m_X13_copies [.int (460 * (5 + x1)), .int (460 * ((5 + x1) - 1)), .int 460] (a0) (q := 40) (rc2 := 0) (rs2 := 0) (st := []) dX13_keeps_37 rfl q2104 oV_X13_copies rfl rfl ⟨z_le rfl, z_le rfl⟩ (z_le rfl) (z_rcv_of 11 rfl (z_L11_T g_4) rfl) rfl  rfl hf (fun h_5 hf => ?_)
    refine z_iinc (q := 43) (i := 1) (x := x1) (v := (x1 + 1)) (ls2 := [some (.ref a0), some (.int (x1 + 1))]) dX13_keeps_40 rfl rfl (z_lt rfl) rfl rfl ?_
    refine z_goto (q := 11) dX13_keeps_43 rfl ?_
    exact hf

theorem u_X13_keyOf {l : Launch} {G : z_G} {a0 : Nat} {x1 : Int32} {x2 : Int32} {h : z_H} {Q : z_Q} (hst : l.stackTraces = false)  (hf : z_L11 h a0 ∧ vp_in x1 16560 ∧ vp_in (x1 + 1) 16560 ∧ ∀ v_4 : Int32, v_4 = ((h.I (a0 + 16) (Int32.toNatClampNeg x1)) + (h.I (a0 + 16) (Int32.toNatClampNeg (x1 + 1)))) → z_V l G m_X13_keyOf (z_Fm G m_X13_keyOf Q) 0 0 h 25 [some (.ref a0), some (.int x1), some (.int x2), some (.long 0), none, some (.int v_4), some (.int (21 * x2)), none] []) : z_Ct l G m_X13_keyOf [.ref a0, .int x1, .int x2] h Q := by
  refine z_Ct.of (ls := [some (.ref a0), some (.int x1), some (.int x2), none, none, none, none, none]) hst rfl (by show plainName yX13_keyOf.cls = true; decide +kernel) (z_le rfl) rfl ?_
  show z_V l G m_X13_keyOf (z_Fm G m_X13_keyOf Q) 0 0 h 0 [some (.ref a0), some (.int x1), some (.int x2), none, none, none, none, none] []
  refine z_lconst (q := 1) (v := 0) dX13_keyOf_0 (by decide) rfl ?_
  refine z_lstore_n (q := 2) (i := 3) (ls2 := [some (.ref a0), some (.int x1), some (.int x2), some (.long 0), none, none, none, none]) (x := 0) dX13_keyOf_1 rfl (z_lt rfl) rfl rfl ?_
  refine z_aload_n (q := 3) (i := 0) (x := a0) dX13_keyOf_2 rfl rfl rfl ?_
  obtain ⟨g_1, hf⟩ := hf
  refine z_get 11 22 (q := 6) (v := .ref (a0 + 16)) rfl (z_lt rfl) (z_L11_T g_1) q1780 dX13_keyOf_3 rfl (z_fvR (fun _ _ _ => rfl) (z_L11_P22 g_1)) ?_
  refine z_iload_n (q := 7) (i := 1) (x := x1) dX13_keyOf_6 rfl rfl rfl ?_
  obtain ⟨g_2, hf⟩ := hf
  refine z_iald (q := 8) (n := 16560) (z_L11_A22 g_1) g_2 dX13_keyOf_7 rfl ?_
  refine z_aload_n (q := 9) (i := 0) (x := a0) dX13_keyOf_8 rfl rfl rfl ?_
  refine z_get 11 22 (q := 12) (v := .ref (a0 + 16)) rfl (z_lt rfl) (z_L11_T g_1) q1780 dX13_keyOf_9 rfl (z_fvR (fun _ _ _ => rfl) (z_L11_P22 g_1)) ?_
  refine z_iload_n (q := 13) (i := 1) (x := x1) dX13_keyOf_12 rfl rfl rfl ?_
  refine z_iconst (q := 14) (v := 1) dX13_keyOf_13 rfl rfl ?_
  refine z_iadd (q := 15) dX13_keyOf_14 rfl ?_
  obtain ⟨g_3, hf⟩ := hf
  refine z_iald (q := 16) (n := 16560) (z_L11_A22 g_1) g_3 dX13_keyOf_15 rfl ?_
  refine z_iadd (q := 17) dX13_keyOf_16 rfl ?_
  refine z_nmI (fun v_4 hv_5 => ?_)
  have hf := hf v_4 hv_5
  refine z_istore (q := 19) (i := 5) (ls2 := [some (.ref a0), some (.int x1), some (.int x2), some (.long 0), none, some (.int v_4), none, none]) (x := v_4) dX13_keyOf_17 (z_lt rfl) rfl rfl ?_
  refine z_bipush (q := 21) (v := 21) dX13_keyOf_19 (by decide) rfl ?_
  refine z_iload_n (q := 22) (i := 2) (x := x2) dX13_keyOf_21 rfl rfl rfl ?_
  refine z_imul (q := 23) dX13_keyOf_22 rfl ?_
  refine z_istore (q := 25) (i := 6) (ls2 := [some (.ref a0), some (.int x1), some (.int x2), some (.long 0), none, some (.int v_4), some (.int (21 * x2)), none]) (x := (21 * x2)) dX13_keyOf_23 (z_lt rfl) rfl rfl ?_
  exact hf

theorem b_X13_keyOf_25 {l : Launch} {G : z_G} {a0 : Nat} {x1 : Int32} {x2 : Int32} {y3 : Int64} {x5 : Int32} {x6 : Int32} {h : z_H} {Q : z_Q}  (hf : ((if x2 = 2 then 48 else ((21 * x2) + 21)) ≤ x6 → (x2 = 2 → z_L11 h a0 ∧ vp_in x1 16560 ∧ vp_in (x1 + 3) 16560 ∧ Q (some (.long (((y3 * 128) + (Int32.toInt64 (2 * (h.I (a0 + 16) (Int32.toNatClampNeg x1))))) + (Int32.toInt64 (h.I (a0 + 16) (Int32.toNatClampNeg (x1 + 3))))))) h) ∧ (¬ x2 = 2 → Q (some (.long y3)) h)) ∧ (¬ (if x2 = 2 then 48 else ((21 * x2) + 21)) ≤ x6 → (x6 < x5 → z_L11 h a0 ∧ vp_in x1 16560 ∧ (((h.I (a0 + 16) (Int32.toNatClampNeg x1)) ≤ x6 → vp_in x1 16560 ∧ True) ∧ (¬ (h.I (a0 + 16) (Int32.toNatClampNeg x1)) ≤ x6 → True)) ∧ vp_in ((x1 + 20) + (if (h.I (a0 + 16) (Int32.toNatClampNeg x1)) ≤ x6 then ((48 + x6) - (h.I (a0 + 16) (Int32.toNatClampNeg x1))) else x6)) 16560 ∧ ∀ v_12 : Int32, v_12 = ((h.I (a0 + 16) (Int32.toNatClampNeg ((x1 + 20) + (if (h.I (a0 + 16) (Int32.toNatClampNeg x1)) ≤ x6 then ((48 + x6) - (h.I (a0 + 16) (Int32.toNatClampNeg x1))) else x6)))) - (h.I (a0 + 16) (Int32.toNatClampNeg ((x1 + 20) + (if (h.I (a0 + 16) (Int32.toNatClampNeg x1)) ≤ x6 then ((48 + x6) - (h.I (a0 + 16) (Int32.toNatClampNeg x1))) else x6)))) / 8 * 8) → ∀ v_14 : Int64, v_14 = ((8 * y3) + (Int32.toInt64 v_12)) → z_V l G m_X13_keyOf (z_Fm G m_X13_keyOf Q) 0 0 h 25 [some (.ref a0), some (.int x1), some (.int x2), some (.long v_14), none, some (.int x5), some (.int (x6 + 1)), none] []) ∧ (¬ x6 < x5 → ∀ v_16 : Int64, v_16 = ((8 * y3) + (Int32.toInt64 0)) → z_V l G m_X13_keyOf (z_Fm G m_X13_keyOf Q) 0 0 h 25 [some (.ref a0), some (.int x1), some (.int x2), some (.long v_16), none, some (.int x5), some (.int (x6 + 1)), none] []))) : z_V l G m_X13_keyOf (z_Fm G m_X13_keyOf Q) 0 0 h 25 [some (.ref a0), some (.int x1), some (.int x2), some (.long y3), none, some (.int x5), some (.int x6), none] [] := by
  refine z_iload (q := 27) (i := 6) (x := x6) dX13_keyOf_25 rfl rfl ?_
  refine z_iload_n (q := 28) (i := 2) (x := x2) dX13_keyOf_27 rfl rfl rfl ?_
  refine z_iconst (q := 29) (v := 2) dX13_keyOf_28 rfl rfl ?_
  have hk : z_V l G m_X13_keyOf (z_Fm G m_X13_keyOf Q) 0 0 h 44 [some (.ref a0), some (.int x1), some (.int x2), some (.long y3), none, some (.int x5), some (.int x6), none] [.int (if x2 = 2 then 48 else ((21 * x2) + 21)), .int x6] := by
    refine z_icmp_ge (q := 47) (tgt := 117) dX13_keyOf_44 rfl rfl (fun hc => ?_) (fun hc => ?_)
    · have hf := hf.1 hc
      refine z_iload_n (q := 118) (i := 2) (x := x2) dX13_keyOf_117 rfl rfl rfl ?_
      refine z_iconst (q := 119) (v := 2) dX13_keyOf_118 rfl rfl ?_
      refine z_icmp_ne (q := 122) (tgt := 150) dX13_keyOf_119 rfl rfl (fun hc => ?_) (fun hc => ?_)
      · have hf := hf.2 hc
        refine z_lload_n (q := 151) (i := 3) (x := y3) dX13_keyOf_150 rfl rfl rfl ?_
        exact z_lret dX13_keyOf_151 rfl hf
      · have hf := hf.1 hc
        refine z_lload_n (q := 123) (i := 3) (x := y3) dX13_keyOf_122 rfl rfl rfl ?_
        refine z_ldc2 (q := 126) (v := 128) dX13_keyOf_123 q2181 rfl ?_
        refine z_lmul (q := 127) dX13_keyOf_126 rfl ?_
        refine z_iconst (q := 128) (v := 2) dX13_keyOf_127 rfl rfl ?_
        refine z_aload_n (q := 129) (i := 0) (x := a0) dX13_keyOf_128 rfl rfl rfl ?_
        obtain ⟨g_1, hf⟩ := hf
        refine z_get 11 22 (q := 132) (v := .ref (a0 + 16)) rfl (z_lt rfl) (z_L11_T g_1) q1780 dX13_keyOf_129 rfl (z_fvR (fun _ _ _ => rfl) (z_L11_P22 g_1)) ?_
        refine z_iload_n (q := 133) (i := 1) (x := x1) dX13_keyOf_132 rfl rfl rfl ?_
        obtain ⟨g_2, hf⟩ := hf
        refine z_iald (q := 134) (n := 16560) (z_L11_A22 g_1) g_2 dX13_keyOf_133 rfl ?_
        refine z_imul (q := 135) dX13_keyOf_134 rfl ?_
        refine z_i2l (q := 136) dX13_keyOf_135 rfl ?_
        refine z_ladd (q := 137) dX13_keyOf_136 rfl ?_
        refine z_aload_n (q := 138) (i := 0) (x := a0) dX13_keyOf_137 rfl rfl rfl ?_
        refine z_get 11 22 (q := 141) (v := .ref (a0 + 16)) rfl (z_lt rfl) (z_L11_T g_1) q1780 dX13_keyOf_138 rfl (z_fvR (fun _ _ _ => rfl) (z_L11_P22 g_1)) ?_
        refine z_iload_n (q := 142) (i := 1) (x := x1) dX13_keyOf_141 rfl rfl rfl ?_
        refine z_iconst (q := 143) (v := 3) dX13_keyOf_142 rfl rfl ?_
        refine z_iadd (q := 144) dX13_keyOf_143 rfl ?_
        obtain ⟨g_3, hf⟩ := hf
        refine z_iald (q := 145) (n := 16560) (z_L11_A22 g_1) g_3 dX13_keyOf_144 rfl ?_
        refine z_i2l (q := 146) dX13_keyOf_145 rfl ?_
        refine z_ladd (q := 147) dX13_keyOf_146 rfl ?_
        refine z_goto (q := 151) dX13_keyOf_147 rfl ?_
        exact z_lret dX13_keyOf_151 rfl hf
    · have hf := hf.2 hc
      refine z_iload (q := 49) (i := 6) (x := x6) dX13_keyOf_47 rfl rfl ?_
      refine z_iload (q := 51) (i := 5) (x := x5) dX13_keyOf_49 rfl rfl ?_
      refine z_icmp_lt (q := 54) (tgt := 58) dX13_keyOf_51 rfl rfl (fun hc => ?_) (fun hc => ?_)
      · have hf := hf.1 hc
        refine z_aload_n (q := 59) (i := 0) (x := a0) dX13_keyOf_58 rfl rfl rfl ?_
        obtain ⟨g_8, hf⟩ := hf
        refine z_get 11 22 (q := 62) (v := .ref (a0 + 16)) rfl (z_lt rfl) (z_L11_T g_8) q1780 dX13_keyOf_59 rfl (z_fvR (fun _ _ _ => rfl) (z_L11_P22 g_8)) ?_
        refine z_iload_n (q := 63) (i := 1) (x := x1) dX13_keyOf_62 rfl rfl rfl ?_
        refine z_bipush (q := 65) (v := 20) dX13_keyOf_63 (by decide) rfl ?_
        refine z_iadd (q := 66) dX13_keyOf_65 rfl ?_
        refine z_iload (q := 68) (i := 6) (x := x6) dX13_keyOf_66 rfl rfl ?_
        refine z_aload_n (q := 69) (i := 0) (x := a0) dX13_keyOf_68 rfl rfl rfl ?_
        refine z_get 11 22 (q := 72) (v := .ref (a0 + 16)) rfl (z_lt rfl) (z_L11_T g_8) q1780 dX13_keyOf_69 rfl (z_fvR (fun _ _ _ => rfl) (z_L11_P22 g_8)) ?_
        refine z_iload_n (q := 73) (i := 1) (x := x1) dX13_keyOf_72 rfl rfl rfl ?_
        obtain ⟨g_9, hf⟩ := hf
        refine z_iald (q := 74) (n := 16560) (z_L11_A22 g_8) g_9 dX13_keyOf_73 rfl ?_
        obtain ⟨hsc, hf⟩ := hf
        have hk : z_V l G m_X13_keyOf (z_Fm G m_X13_keyOf Q) 0 0 h 94 [some (.ref a0), some (.int x1), some (.int x2), some (.long y3), none, some (.int x5), some (.int x6), none] [.int (if (h.I (a0 + 16) (Int32.toNatClampNeg x1)) ≤ x6 then ((48 + x6) - (h.I (a0 + 16) (Int32.toNatClampNeg x1))) else x6), .int (x1 + 20), .ref (a0 + 16)] := by
          refine z_iadd (q := 95) dX13_keyOf_94 rfl ?_
          obtain ⟨g_11, hf⟩ := hf
          refine z_iald (q := 96) (n := 16560) (z_L11_A22 g_8) g_11 dX13_keyOf_95 rfl ?_
          refine z_bipush (q := 98) (v := 8) dX13_keyOf_96 (by decide) rfl ?_
          refine z_irem (q := 99) dX13_keyOf_98 (by decide) rfl ?_
          refine z_nmI (fun v_12 hv_13 => ?_)
          have hf := hf v_12 hv_13
          refine z_istore (q := 101) (i := 7) (ls2 := [some (.ref a0), some (.int x1), some (.int x2), some (.long y3), none, some (.int x5), some (.int x6), some (.int v_12)]) (x := v_12) dX13_keyOf_99 (z_lt rfl) rfl rfl ?_
          refine z_ldc2 (q := 104) (v := 8) dX13_keyOf_101 q2180 rfl ?_
          refine z_lload_n (q := 105) (i := 3) (x := y3) dX13_keyOf_104 rfl rfl rfl ?_
          refine z_lmul (q := 106) dX13_keyOf_105 rfl ?_
          refine z_iload (q := 108) (i := 7) (x := v_12) dX13_keyOf_106 rfl rfl ?_
          refine z_i2l (q := 109) dX13_keyOf_108 rfl ?_
          refine z_ladd (q := 110) dX13_keyOf_109 rfl ?_
          refine z_nmL (fun v_14 hv_15 => ?_)
          have hf := hf v_14 hv_15
          refine z_lstore_n (q := 111) (i := 3) (ls2 := [some (.ref a0), some (.int x1), some (.int x2), some (.long v_14), none, some (.int x5), some (.int x6), some (.int v_12)]) (x := v_14) dX13_keyOf_110 rfl (z_lt rfl) rfl rfl ?_
          refine z_iinc (q := 114) (i := 6) (x := x6) (v := (x6 + 1)) (ls2 := [some (.ref a0), some (.int x1), some (.int x2), some (.long v_14), none, some (.int x5), some (.int (x6 + 1)), some (.int v_12)]) dX13_keyOf_111 rfl rfl (z_lt rfl) rfl rfl ?_
          refine z_goto (q := 25) dX13_keyOf_114 rfl ?_
          refine z_prune [true, true, true, true, false, true, true, false] (ls2 := [some (.ref a0), some (.int x1), some (.int x2), some (.long v_14), none, some (.int x5), some (.int (x6 + 1)), none]) rfl ?_
          exact hf
        refine z_icmp_ge (q := 77) (tgt := 82) dX13_keyOf_74 rfl rfl (fun hc => ?_) (fun hc => ?_)
        · have hk := (z_ite hk).1 hc
          have hsc := hsc.1 hc
          obtain ⟨g_10, hsc⟩ := hsc
          refine z_bipush (q := 84) (v := 48) dX13_keyOf_82 (by decide) rfl ?_
          refine z_iload (q := 86) (i := 6) (x := x6) dX13_keyOf_84 rfl rfl ?_
          refine z_iadd (q := 87) dX13_keyOf_86 rfl ?_
          refine z_aload_n (q := 88) (i := 0) (x := a0) dX13_keyOf_87 rfl rfl rfl ?_
          refine z_get 11 22 (q := 91) (v := .ref (a0 + 16)) rfl (z_lt rfl) (z_L11_T g_8) q1780 dX13_keyOf_88 rfl (z_fvR (fun _ _ _ => rfl) (z_L11_P22 g_8)) ?_
          refine z_iload_n (q := 92) (i := 1) (x := x1) dX13_keyOf_91 rfl rfl rfl ?_
          refine z_iald (q := 93) (n := 16560) (z_L11_A22 g_8) g_10 dX13_keyOf_92 rfl ?_
          refine z_isub (q := 94) dX13_keyOf_93 rfl ?_
          exact hk
        · have hk := (z_ite hk).2 hc
          have hsc := hsc.2 hc
          refine z_iload (q := 79) (i := 6) (x := x6) dX13_keyOf_77 rfl rfl ?_
          refine z_goto (q := 94) dX13_keyOf_79 rfl ?_
          exact hk
      · have hf := hf.2 hc
        refine z_iconst (q := 55) (v := 0) dX13_keyOf_54 rfl rfl ?_
        refine z_goto (q := 99) dX13_keyOf_55 rfl ?_
        refine z_istore (q := 101) (i := 7) (ls2 := [some (.ref a0), some (.int x1), some (.int x2), some (.long y3), none, some (.int x5), some (.int x6), some (.int 0)]) (x := 0) dX13_keyOf_99 (z_lt rfl) rfl rfl ?_
        refine z_ldc2 (q := 104) (v := 8) dX13_keyOf_101 q2180 rfl ?_
        refine z_lload_n (q := 105) (i := 3) (x := y3) dX13_keyOf_104 rfl rfl rfl ?_
        refine z_lmul (q := 106) dX13_keyOf_105 rfl ?_
        refine z_iload (q := 108) (i := 7) (x := 0) dX13_keyOf_106 rfl rfl ?_
        refine z_i2l (q := 109) dX13_keyOf_108 rfl ?_
        refine z_ladd (q := 110) dX13_keyOf_109 rfl ?_
        refine z_nmL (fun v_16 hv_17 => ?_)
        have hf := hf v_16 hv_17
        refine z_lstore_n (q := 111) (i := 3) (ls2 := [some (.ref a0), some (.int x1), some (.int x2), some (.long v_16), none, some (.int x5), some (.int x6), some (.int 0)]) (x := v_16) dX13_keyOf_110 rfl (z_lt rfl) rfl rfl ?_
        refine z_iinc (q := 114) (i := 6) (x := x6) (v := (x6 + 1)) (ls2 := [some (.ref a0), some (.int x1), some (.int x2), some (.long v_16), none, some (.int x5), some (.int (x6 + 1)), some (.int 0)]) dX13_keyOf_111 rfl rfl (z_lt rfl) rfl rfl ?_
        refine z_goto (q := 25) dX13_keyOf_114 rfl ?_
        refine z_prune [true, true, true, true, false, true, true, false] (ls2 := [some (.ref a0), some (.int x1), some (.int x2), some (.long v_16), none, some (.int x5), some (.int (x6 + 1)), none]) rfl ?_
        exact hf
  refine z_icmp_ne (q := 32) (tgt := 37) dX13_keyOf_29 rfl rfl (fun hc => ?_) (fun hc => ?_)
  · have hk := (z_ite hk).2 hc
    refine z_bipush (q := 39) (v := 21) dX13_keyOf_37 (by decide) rfl ?_
    refine z_iload_n (q := 40) (i := 2) (x := x2) dX13_keyOf_39 rfl rfl rfl ?_
    refine z_imul (q := 41) dX13_keyOf_40 rfl ?_
    refine z_bipush (q := 43) (v := 21) dX13_keyOf_41 (by decide) rfl ?_
    refine z_iadd (q := 44) dX13_keyOf_43 rfl ?_
    exact hk
  · have hk := (z_ite hk).1 hc
    refine z_bipush (q := 34) (v := 48) dX13_keyOf_32 (by decide) rfl ?_
    refine z_goto (q := 44) dX13_keyOf_34 rfl ?_
    exact hk

theorem u_X13_kind {l : Launch} {G : z_G} {a0 : Nat} {x1 : Int32} {x2 : Int32} {h : z_H} {Q : z_Q} (hst : l.stackTraces = false)  (hf : z_L11 h a0 ∧ z_Ct l G m_X13_isKind [.ref a0, .int x1] (h.sI a0 0 0) (z_Qi (fun x_2 h_3 => (x_2 = 0 → Q (some (.int (-1))) h_3) ∧ (¬ x_2 = 0 → z_Ct l G m_X13_within [.int x2, .int 0, .int 4] h_3 (z_Qi (fun x_4 h_5 => (x_4 = 0 → Q (some (.int (-1))) h_5) ∧ (¬ x_4 = 0 → (2 ≤ x2 → (x2 = 4 → z_L11 h_5 a0 ∧ vp_in 2 16560 ∧ z_Ct l G m_X13_countOf [.ref a0, .int 116, .int (h_5.I (a0 + 16) (Int32.toNatClampNeg 2)), .int x1] h_5 (z_Qi (fun x_14 h_15 => Q (some (.int x_14)) h_15))) ∧ (¬ x2 = 4 → z_L11 h_5 a0 ∧ vp_in ((0 + x2) - 2) 16560 ∧ z_Ct l G m_X13_countOf [.ref a0, .int (20 + (48 * (x2 - 2))), .int (h_5.I (a0 + 16) (Int32.toNatClampNeg ((0 + x2) - 2))), .int x1] h_5 (z_Qi (fun x_10 h_11 => Q (some (.int x_10)) h_11)))) ∧ (¬ 2 ≤ x2 → z_L11 h_5 a0 ∧ vp_in ((5 + (2 * x1)) + x2) 420 ∧ Q (some (.int (h_5.I (a0 + 6) (Int32.toNatClampNeg ((5 + (2 * x1)) + x2))))) h_5)))))))) : z_Ct l G m_X13_kind [.ref a0, .int x1, .int x2] h Q := by
  refine z_Ct.of (ls := [some (.ref a0), some (.int x1), some (.int x2)]) hst rfl (by show plainName yX13_kind.cls = true; decide +kernel) (z_le rfl) rfl ?_
  show z_V l G m_X13_kind (z_Fm G m_X13_kind Q) 0 0 h 0 [some (.ref a0), some (.int x1), some (.int x2)] []
  refine z_aload_n (q := 1) (i := 0) (x := a0) dX13_kind_0 rfl rfl rfl ?_
  refine z_iconst (q := 2) (v := 0) dX13_kind_1 rfl rfl ?_
  obtain ⟨g_1, hf⟩ := hf
  refine z_putI 11 0 (q := 5) (x := 0) (v := .int 0) rfl (z_lt rfl) (z_L11_T g_1) q1758 rfl dX13_kind_2 rfl rfl rfl rfl (fun _ _ _ => rfl) ?_
  refine z_aload_n (q := 6) (i := 0) (x := a0) dX13_kind_5 rfl rfl rfl ?_
  refine z_iload_n (q := 7) (i := 1) (x := x1) dX13_kind_6 rfl rfl rfl ?_
  refine z_cVi m_X13_isKind [.int x1] (a0) (q := 10) (rc2 := 0) (rs2 := 0) (st := []) dX13_kind_7 rfl q2066 oV_X13_isKind rfl rfl ⟨z_le rfl, z_le rfl⟩ (z_le rfl) (z_rcv_of 11 rfl (z_L11_T g_1) rfl) rfl  rfl hf (fun x_2 h_3 hf => ?_)
  refine z_if_eq (q := 13) (tgt := 22) dX13_kind_10 rfl rfl (fun hc => ?_) (fun hc => ?_)
  · have hf := hf.1 hc
    refine z_iconst (q := 23) (v := (-1)) dX13_kind_22 rfl rfl ?_
    exact z_iret dX13_kind_23 rfl hf
  · have hf := hf.2 hc
    refine z_iload_n (q := 14) (i := 2) (x := x2) dX13_kind_13 rfl rfl rfl ?_
    refine z_iconst (q := 15) (v := 0) dX13_kind_14 rfl rfl ?_
    refine z_iconst (q := 16) (v := 4) dX13_kind_15 rfl rfl ?_
    refine z_cSi m_X13_within [.int x2, .int 0, .int 4] (q := 19) (rc2 := 0) (rs2 := 0) (st := []) dX13_kind_16 rfl q2074 oS_X13_within rfl rfl ⟨z_le rfl, z_le rfl⟩ (z_le rfl) rfl  rfl hf (fun x_4 h_5 hf => ?_)
    refine z_if_ne (q := 22) (tgt := 24) dX13_kind_19 rfl rfl (fun hc => ?_) (fun hc => ?_)
    · have hf := hf.2 hc
      refine z_iload_n (q := 25) (i := 2) (x := x2) dX13_kind_24 rfl rfl rfl ?_
      refine z_iconst (q := 26) (v := 2) dX13_kind_25 rfl rfl ?_
      refine z_icmp_ge (q := 29) (tgt := 42) dX13_kind_26 rfl rfl (fun hc => ?_) (fun hc => ?_)
      · have hf := hf.1 hc
        refine z_iload_n (q := 43) (i := 2) (x := x2) dX13_kind_42 rfl rfl rfl ?_
        refine z_iconst (q := 44) (v := 4) dX13_kind_43 rfl rfl ?_
        refine z_icmp_ne (q := 47) (tgt := 63) dX13_kind_44 rfl rfl (fun hc => ?_) (fun hc => ?_)
        · have hf := hf.2 hc
          refine z_aload_n (q := 64) (i := 0) (x := a0) dX13_kind_63 rfl rfl rfl ?_
          refine z_bipush (q := 66) (v := 20) dX13_kind_64 (by decide) rfl ?_
          refine z_bipush (q := 68) (v := 48) dX13_kind_66 (by decide) rfl ?_
          refine z_iload_n (q := 69) (i := 2) (x := x2) dX13_kind_68 rfl rfl rfl ?_
          refine z_iconst (q := 70) (v := 2) dX13_kind_69 rfl rfl ?_
          refine z_isub (q := 71) dX13_kind_70 rfl ?_
          refine z_imul (q := 72) dX13_kind_71 rfl ?_
          refine z_iadd (q := 73) dX13_kind_72 rfl ?_
          refine z_aload_n (q := 74) (i := 0) (x := a0) dX13_kind_73 rfl rfl rfl ?_
          obtain ⟨g_8, hf⟩ := hf
          refine z_get 11 22 (q := 77) (v := .ref (a0 + 16)) rfl (z_lt rfl) (z_L11_T g_8) q1780 dX13_kind_74 rfl (z_fvR (fun _ _ _ => rfl) (z_L11_P22 g_8)) ?_
          refine z_iconst (q := 78) (v := 0) dX13_kind_77 rfl rfl ?_
          refine z_iload_n (q := 79) (i := 2) (x := x2) dX13_kind_78 rfl rfl rfl ?_
          refine z_iadd (q := 80) dX13_kind_79 rfl ?_
          refine z_iconst (q := 81) (v := 2) dX13_kind_80 rfl rfl ?_
          refine z_isub (q := 82) dX13_kind_81 rfl ?_
          obtain ⟨g_9, hf⟩ := hf
          refine z_iald (q := 83) (n := 16560) (z_L11_A22 g_8) g_9 dX13_kind_82 rfl ?_
          refine z_iload_n (q := 84) (i := 1) (x := x1) dX13_kind_83 rfl rfl rfl ?_
          refine z_cVi m_X13_countOf [.int (20 + (48 * (x2 - 2))), .int (h_5.I (a0 + 16) (Int32.toNatClampNeg ((0 + x2) - 2))), .int x1] (a0) (q := 87) (rc2 := 0) (rs2 := 0) (st := []) dX13_kind_84 rfl q2077 oV_X13_countOf rfl rfl ⟨z_le rfl, z_le rfl⟩ (z_le rfl) (z_rcv_of 11 rfl (z_L11_T g_8) rfl) rfl  rfl hf (fun x_10 h_11 hf => ?_)
          exact z_iret dX13_kind_87 rfl hf
        · have hf := hf.1 hc
          refine z_aload_n (q := 48) (i := 0) (x := a0) dX13_kind_47 rfl rfl rfl ?_
          refine z_bipush (q := 50) (v := 116) dX13_kind_48 (by decide) rfl ?_
          refine z_aload_n (q := 51) (i := 0) (x := a0) dX13_kind_50 rfl rfl rfl ?_
          obtain ⟨g_12, hf⟩ := hf
          refine z_get 11 22 (q := 54) (v := .ref (a0 + 16)) rfl (z_lt rfl) (z_L11_T g_12) q1780 dX13_kind_51 rfl (z_fvR (fun _ _ _ => rfl) (z_L11_P22 g_12)) ?_
          refine z_iconst (q := 55) (v := 2) dX13_kind_54 rfl rfl ?_
          obtain ⟨g_13, hf⟩ := hf
          refine z_iald (q := 56) (n := 16560) (z_L11_A22 g_12) g_13 dX13_kind_55 rfl ?_
          refine z_iload_n (q := 57) (i := 1) (x := x1) dX13_kind_56 rfl rfl rfl ?_
          refine z_cVi m_X13_countOf [.int 116, .int (h_5.I (a0 + 16) (Int32.toNatClampNeg 2)), .int x1] (a0) (q := 60) (rc2 := 0) (rs2 := 0) (st := []) dX13_kind_57 rfl q2077 oV_X13_countOf rfl rfl ⟨z_le rfl, z_le rfl⟩ (z_le rfl) (z_rcv_of 11 rfl (z_L11_T g_12) rfl) rfl  rfl hf (fun x_14 h_15 hf => ?_)
          refine z_goto (q := 87) dX13_kind_60 rfl ?_
          exact z_iret dX13_kind_87 rfl hf
      · have hf := hf.2 hc
        refine z_aload_n (q := 30) (i := 0) (x := a0) dX13_kind_29 rfl rfl rfl ?_
        obtain ⟨g_16, hf⟩ := hf
        refine z_get 11 10 (q := 33) (v := .ref (a0 + 6)) rfl (z_lt rfl) (z_L11_T g_16) q1768 dX13_kind_30 rfl (z_fvR (fun _ _ _ => rfl) (z_L11_P10 g_16)) ?_
        refine z_iconst (q := 34) (v := 5) dX13_kind_33 rfl rfl ?_
        refine z_iconst (q := 35) (v := 2) dX13_kind_34 rfl rfl ?_
        refine z_iload_n (q := 36) (i := 1) (x := x1) dX13_kind_35 rfl rfl rfl ?_
        refine z_imul (q := 37) dX13_kind_36 rfl ?_
        refine z_iadd (q := 38) dX13_kind_37 rfl ?_
        refine z_iload_n (q := 39) (i := 2) (x := x2) dX13_kind_38 rfl rfl rfl ?_
        refine z_iadd (q := 40) dX13_kind_39 rfl ?_
        obtain ⟨g_17, hf⟩ := hf
        refine z_iald (q := 41) (n := 420) (z_L11_A10 g_16) g_17 dX13_kind_40 rfl ?_
        exact z_iret dX13_kind_41 rfl hf
    · have hf := hf.1 hc
      refine z_iconst (q := 23) (v := (-1)) dX13_kind_22 rfl rfl ?_
      exact z_iret dX13_kind_23 rfl hf

theorem u_X13_kinds {l : Launch} {G : z_G} {a0 : Nat} {h : z_H} {Q : z_Q} (hst : l.stackTraces = false)  (hf : z_L11 h a0 ∧ vp_in 0 420 ∧ Q (some (.int (h.I (a0 + 6) (Int32.toNatClampNeg 0)))) h) : z_Ct l G m_X13_kinds [.ref a0] h Q := by
  refine z_Ct.of (ls := [some (.ref a0)]) hst rfl (by show plainName yX13_kinds.cls = true; decide +kernel) (z_le rfl) rfl ?_
  show z_V l G m_X13_kinds (z_Fm G m_X13_kinds Q) 0 0 h 0 [some (.ref a0)] []
  refine z_aload_n (q := 1) (i := 0) (x := a0) dX13_kinds_0 rfl rfl rfl ?_
  obtain ⟨g_1, hf⟩ := hf
  refine z_get 11 10 (q := 4) (v := .ref (a0 + 6)) rfl (z_lt rfl) (z_L11_T g_1) q1768 dX13_kinds_1 rfl (z_fvR (fun _ _ _ => rfl) (z_L11_P10 g_1)) ?_
  refine z_iconst (q := 5) (v := 0) dX13_kinds_4 rfl rfl ?_
  obtain ⟨g_2, hf⟩ := hf
  refine z_iald (q := 6) (n := 420) (z_L11_A10 g_1) g_2 dX13_kinds_5 rfl ?_
  exact z_iret dX13_kinds_6 rfl hf

theorem u_X13_laws {l : Launch} {G : z_G} {a0 : Nat} {x1 : Int32} {x2 : Int32} {x3 : Int32} {h : z_H} {Q : z_Q} (hst : l.stackTraces = false)  (hf : z_L11 h a0 ∧ z_Ct l G m_X13_isKind [.ref a0, .int x1] (h.sI a0 0 0) (z_Qi (fun x_2 h_3 => (x_2 = 0 → Q (some (.int (-1))) h_3) ∧ (¬ x_2 = 0 → z_Ct l G m_X13_within [.int x2, .int 0, .int 6] h_3 (z_Qi (fun x_4 h_5 => (x_4 = 0 → Q (some (.int (-1))) h_5) ∧ (¬ x_4 = 0 → z_Ct l G m_X13_within [.int x3, .int 0, .int 2] h_5 (z_Qi (fun x_6 h_7 => (x_6 = 0 → Q (some (.int (-1))) h_7) ∧ (¬ x_6 = 0 → z_L11 h_7 a0 ∧ z_Ct l G m_X13_counts [.ref a0] h_7 (z_Qi (fun x_9 h_10 => (x_9 = 0 → Q (some (.int (-1))) h_10) ∧ (¬ x_9 = 0 → z_L11 h_10 a0 ∧ z_V l G m_X13_laws (z_Fm G m_X13_laws Q) 0 0 ((h_10.sI a0 25 x1).sI a0 26 x2) 63 [some (.ref a0), none, none, some (.int x3), some (.int 0), some (.int 0), some (.int 0), some (.int 0), none, none] []))))))))))))) : z_Ct l G m_X13_laws [.ref a0, .int x1, .int x2, .int x3] h Q := by
  refine z_Ct.of (ls := [some (.ref a0), some (.int x1), some (.int x2), some (.int x3), none, none, none, none, none, none]) hst rfl (by show plainName yX13_laws.cls = true; decide +kernel) (z_le rfl) rfl ?_
  show z_V l G m_X13_laws (z_Fm G m_X13_laws Q) 0 0 h 0 [some (.ref a0), some (.int x1), some (.int x2), some (.int x3), none, none, none, none, none, none] []
  refine z_aload_n (q := 1) (i := 0) (x := a0) dX13_laws_0 rfl rfl rfl ?_
  refine z_iconst (q := 2) (v := 0) dX13_laws_1 rfl rfl ?_
  obtain ⟨g_1, hf⟩ := hf
  refine z_putI 11 0 (q := 5) (x := 0) (v := .int 0) rfl (z_lt rfl) (z_L11_T g_1) q1758 rfl dX13_laws_2 rfl rfl rfl rfl (fun _ _ _ => rfl) ?_
  refine z_aload_n (q := 6) (i := 0) (x := a0) dX13_laws_5 rfl rfl rfl ?_
  refine z_iload_n (q := 7) (i := 1) (x := x1) dX13_laws_6 rfl rfl rfl ?_
  refine z_cVi m_X13_isKind [.int x1] (a0) (q := 10) (rc2 := 0) (rs2 := 0) (st := []) dX13_laws_7 rfl q2066 oV_X13_isKind rfl rfl ⟨z_le rfl, z_le rfl⟩ (z_le rfl) (z_rcv_of 11 rfl (z_L11_T g_1) rfl) rfl  rfl hf (fun x_2 h_3 hf => ?_)
  refine z_if_eq (q := 13) (tgt := 39) dX13_laws_10 rfl rfl (fun hc => ?_) (fun hc => ?_)
  · have hf := hf.1 hc
    refine z_iconst (q := 40) (v := (-1)) dX13_laws_39 rfl rfl ?_
    exact z_iret dX13_laws_40 rfl hf
  · have hf := hf.2 hc
    refine z_iload_n (q := 14) (i := 2) (x := x2) dX13_laws_13 rfl rfl rfl ?_
    refine z_iconst (q := 15) (v := 0) dX13_laws_14 rfl rfl ?_
    refine z_bipush (q := 17) (v := 6) dX13_laws_15 (by decide) rfl ?_
    refine z_cSi m_X13_within [.int x2, .int 0, .int 6] (q := 20) (rc2 := 0) (rs2 := 0) (st := []) dX13_laws_17 rfl q2074 oS_X13_within rfl rfl ⟨z_le rfl, z_le rfl⟩ (z_le rfl) rfl  rfl hf (fun x_4 h_5 hf => ?_)
    refine z_if_eq (q := 23) (tgt := 39) dX13_laws_20 rfl rfl (fun hc => ?_) (fun hc => ?_)
    · have hf := hf.1 hc
      refine z_iconst (q := 40) (v := (-1)) dX13_laws_39 rfl rfl ?_
      exact z_iret dX13_laws_40 rfl hf
    · have hf := hf.2 hc
      refine z_iload_n (q := 24) (i := 3) (x := x3) dX13_laws_23 rfl rfl rfl ?_
      refine z_iconst (q := 25) (v := 0) dX13_laws_24 rfl rfl ?_
      refine z_iconst (q := 26) (v := 2) dX13_laws_25 rfl rfl ?_
      refine z_cSi m_X13_within [.int x3, .int 0, .int 2] (q := 29) (rc2 := 0) (rs2 := 0) (st := []) dX13_laws_26 rfl q2074 oS_X13_within rfl rfl ⟨z_le rfl, z_le rfl⟩ (z_le rfl) rfl  rfl hf (fun x_6 h_7 hf => ?_)
      refine z_if_eq (q := 32) (tgt := 39) dX13_laws_29 rfl rfl (fun hc => ?_) (fun hc => ?_)
      · have hf := hf.1 hc
        refine z_iconst (q := 40) (v := (-1)) dX13_laws_39 rfl rfl ?_
        exact z_iret dX13_laws_40 rfl hf
      · have hf := hf.2 hc
        refine z_aload_n (q := 33) (i := 0) (x := a0) dX13_laws_32 rfl rfl rfl ?_
        obtain ⟨g_8, hf⟩ := hf
        refine z_cVi m_X13_counts [] (a0) (q := 36) (rc2 := 0) (rs2 := 0) (st := []) dX13_laws_33 rfl q2190 oV_X13_counts rfl rfl ⟨z_le rfl, z_le rfl⟩ (z_le rfl) (z_rcv_of 11 rfl (z_L11_T g_8) rfl) rfl  rfl hf (fun x_9 h_10 hf => ?_)
        refine z_if_ne (q := 39) (tgt := 41) dX13_laws_36 rfl rfl (fun hc => ?_) (fun hc => ?_)
        · have hf := hf.2 hc
          refine z_aload_n (q := 42) (i := 0) (x := a0) dX13_laws_41 rfl rfl rfl ?_
          refine z_iload_n (q := 43) (i := 1) (x := x1) dX13_laws_42 rfl rfl rfl ?_
          obtain ⟨g_11, hf⟩ := hf
          refine z_putI 11 25 (q := 46) (x := x1) (v := .int x1) rfl (z_lt rfl) (z_L11_T g_11) q1783 rfl dX13_laws_43 rfl rfl rfl rfl (fun _ _ _ => rfl) ?_
          refine z_aload_n (q := 47) (i := 0) (x := a0) dX13_laws_46 rfl rfl rfl ?_
          refine z_iload_n (q := 48) (i := 2) (x := x2) dX13_laws_47 rfl rfl rfl ?_
          refine z_putI 11 26 (q := 51) (x := x2) (v := .int x2) rfl (z_lt rfl) (z_L11_T g_11) q1784 rfl dX13_laws_48 rfl rfl rfl rfl (fun _ _ _ => rfl) ?_
          refine z_iconst (q := 52) (v := 0) dX13_laws_51 rfl rfl ?_
          refine z_istore (q := 54) (i := 4) (ls2 := [some (.ref a0), some (.int x1), some (.int x2), some (.int x3), some (.int 0), none, none, none, none, none]) (x := 0) dX13_laws_52 (z_lt rfl) rfl rfl ?_
          refine z_iconst (q := 55) (v := 0) dX13_laws_54 rfl rfl ?_
          refine z_istore (q := 57) (i := 5) (ls2 := [some (.ref a0), some (.int x1), some (.int x2), some (.int x3), some (.int 0), some (.int 0), none, none, none, none]) (x := 0) dX13_laws_55 (z_lt rfl) rfl rfl ?_
          refine z_iconst (q := 58) (v := 0) dX13_laws_57 rfl rfl ?_
          refine z_istore (q := 60) (i := 6) (ls2 := [some (.ref a0), some (.int x1), some (.int x2), some (.int x3), some (.int 0), some (.int 0), some (.int 0), none, none, none]) (x := 0) dX13_laws_58 (z_lt rfl) rfl rfl ?_
          refine z_iconst (q := 61) (v := 0) dX13_laws_60 rfl rfl ?_
          refine z_istore (q := 63) (i := 7) (ls2 := [some (.ref a0), some (.int x1), some (.int x2), some (.int x3), some (.int 0), some (.int 0), some (.int 0), some (.int 0), none, none]) (x := 0) dX13_laws_61 (z_lt rfl) rfl rfl ?_
          refine z_prune [true, false, false, true, true, true, true, true, false, false] (ls2 := [some (.ref a0), none, none, some (.int x3), some (.int 0), some (.int 0), some (.int 0), some (.int 0), none, none]) rfl ?_
          exact hf
        · have hf := hf.1 hc
          refine z_iconst (q := 40) (v := (-1)) dX13_laws_39 rfl rfl ?_
          exact z_iret dX13_laws_40 rfl hf

theorem b_X13_laws_63 {l : Launch} {G : z_G} {a0 : Nat} {x3 : Int32} {x4 : Int32} {x5 : Int32} {x6 : Int32} {x7 : Int32} {h : z_H} {Q : z_Q}  (hf : z_L11 h a0 ∧ ((h.I a0 44) ≤ x7 → z_V l G m_X13_laws (z_Fm G m_X13_laws Q) 0 0 (h.sI a0 25 (-1)) 187 [none, none, none, some (.int x3), some (.int x4), some (.int x5), some (.int x6), some (.int x4), some (.int x5), none] []) ∧ (¬ (h.I a0 44) ≤ x7 → vp_in 2 420 ∧ z_Ct l G m_X13_dealsTrial [.ref a0, .ref (a0 + 26), .int (h.I a0 41), .int (h.I (a0 + 6) (Int32.toNatClampNeg 2))] h (z_Qv (fun h_3 => z_L11 h_3 a0 ∧ z_Ct l G m_X13_runs [.ref a0, .int 9660, .int (-1)] h_3 (z_Qv (fun h_5 => z_L11 h_5 a0 ∧ ∀ v_7 : Int32, v_7 = (x4 + (if 2 ≤ (h_5.I a0 36) then 0 else (h_5.I a0 37))) → ∀ v_9 : Int32, v_9 = (x5 + (if 2 ≤ (h_5.I a0 36) then 0 else 1)) → ∀ v_11 : Int32, v_11 = (x6 + (if (h_5.I a0 36) = 2 then 1 else 0)) → z_Ct l G m_X13_goesNext [.ref a0, .ref (a0 + 26), .int (h_5.I a0 41)] h_5 (z_Qi (fun x_13 h_14 => z_V l G m_X13_laws (z_Fm G m_X13_laws Q) 0 0 h_14 63 [some (.ref a0), none, none, some (.int x3), some (.int v_7), some (.int v_9), some (.int v_11), some (.int (x7 + 1)), none, none] [])))))))) : z_V l G m_X13_laws (z_Fm G m_X13_laws Q) 0 0 h 63 [some (.ref a0), none, none, some (.int x3), some (.int x4), some (.int x5), some (.int x6), some (.int x7), none, none] [] := by
  refine z_iload (q := 65) (i := 7) (x := x7) dX13_laws_63 rfl rfl ?_
  refine z_aload_n (q := 66) (i := 0) (x := a0) dX13_laws_65 rfl rfl rfl ?_
  obtain ⟨g_1, hf⟩ := hf
  refine z_get 11 44 (q := 69) (v := .int (h.I a0 44)) rfl (z_lt rfl) (z_L11_T g_1) q1802 dX13_laws_66 rfl rfl ?_
  refine z_icmp_ge (q := 72) (tgt := 174) dX13_laws_69 rfl rfl (fun hc => ?_) (fun hc => ?_)
  · have hf := hf.1 hc
    refine z_aload_n (q := 175) (i := 0) (x := a0) dX13_laws_174 rfl rfl rfl ?_
    refine z_iconst (q := 176) (v := (-1)) dX13_laws_175 rfl rfl ?_
    refine z_putI 11 25 (q := 179) (x := (-1)) (v := .int (-1)) rfl (z_lt rfl) (z_L11_T g_1) q1783 rfl dX13_laws_176 rfl rfl rfl rfl (fun _ _ _ => rfl) ?_
    refine z_iload (q := 181) (i := 4) (x := x4) dX13_laws_179 rfl rfl ?_
    refine z_istore (q := 183) (i := 7) (ls2 := [some (.ref a0), none, none, some (.int x3), some (.int x4), some (.int x5), some (.int x6), some (.int x4), none, none]) (x := x4) dX13_laws_181 (z_lt rfl) rfl rfl ?_
    refine z_iload (q := 185) (i := 5) (x := x5) dX13_laws_183 rfl rfl ?_
    refine z_istore (q := 187) (i := 8) (ls2 := [some (.ref a0), none, none, some (.int x3), some (.int x4), some (.int x5), some (.int x6), some (.int x4), some (.int x5), none]) (x := x5) dX13_laws_185 (z_lt rfl) rfl rfl ?_
    refine z_prune [false, false, false, true, true, true, true, true, true, false] (ls2 := [none, none, none, some (.int x3), some (.int x4), some (.int x5), some (.int x6), some (.int x4), some (.int x5), none]) rfl ?_
    exact hf
  · have hf := hf.2 hc
    refine z_aload_n (q := 73) (i := 0) (x := a0) dX13_laws_72 rfl rfl rfl ?_
    refine z_aload_n (q := 74) (i := 0) (x := a0) dX13_laws_73 rfl rfl rfl ?_
    refine z_get 11 40 (q := 77) (v := .ref (a0 + 26)) rfl (z_lt rfl) (z_L11_T g_1) q1798 dX13_laws_74 rfl (z_fvR (fun _ _ _ => rfl) (z_L11_P40 g_1)) ?_
    refine z_aload_n (q := 78) (i := 0) (x := a0) dX13_laws_77 rfl rfl rfl ?_
    refine z_get 11 41 (q := 81) (v := .int (h.I a0 41)) rfl (z_lt rfl) (z_L11_T g_1) q1799 dX13_laws_78 rfl rfl ?_
    refine z_aload_n (q := 82) (i := 0) (x := a0) dX13_laws_81 rfl rfl rfl ?_
    refine z_get 11 10 (q := 85) (v := .ref (a0 + 6)) rfl (z_lt rfl) (z_L11_T g_1) q1768 dX13_laws_82 rfl (z_fvR (fun _ _ _ => rfl) (z_L11_P10 g_1)) ?_
    refine z_iconst (q := 86) (v := 2) dX13_laws_85 rfl rfl ?_
    obtain ⟨g_2, hf⟩ := hf
    refine z_iald (q := 87) (n := 420) (z_L11_A10 g_1) g_2 dX13_laws_86 rfl ?_
    refine z_cVv m_X13_dealsTrial [.ref (a0 + 26), .int (h.I a0 41), .int (h.I (a0 + 6) (Int32.toNatClampNeg 2))] (a0) (q := 90) (rc2 := 0) (rs2 := 0) (st := []) dX13_laws_87 rfl q2203 oV_X13_dealsTrial rfl rfl ⟨z_le rfl, z_le rfl⟩ (z_le rfl) (z_rcv_of 11 rfl (z_L11_T g_1) rfl) rfl  rfl hf (fun h_3 hf => ?_)
    refine z_aload_n (q := 91) (i := 0) (x := a0) dX13_laws_90 rfl rfl rfl ?_
    refine z_sipush (q := 94) (v := 9660) dX13_laws_91 (by decide) rfl ?_
    refine z_iconst (q := 95) (v := (-1)) dX13_laws_94 rfl rfl ?_
    obtain ⟨g_4, hf⟩ := hf
    refine z_cVv m_X13_runs [.int 9660, .int (-1)] (a0) (q := 98) (rc2 := 0) (rs2 := 0) (st := []) dX13_laws_95 rfl q2168 oV_X13_runs rfl rfl ⟨z_le rfl, z_le rfl⟩ (z_le rfl) (z_rcv_of 11 rfl (z_L11_T g_4) rfl) rfl  rfl hf (fun h_5 hf => ?_)
    refine z_iload (q := 100) (i := 4) (x := x4) dX13_laws_98 rfl rfl ?_
    refine z_aload_n (q := 101) (i := 0) (x := a0) dX13_laws_100 rfl rfl rfl ?_
    obtain ⟨g_6, hf⟩ := hf
    refine z_get 11 36 (q := 104) (v := .int (h_5.I a0 36)) rfl (z_lt rfl) (z_L11_T g_6) q1794 dX13_laws_101 rfl rfl ?_
    refine z_iconst (q := 105) (v := 2) dX13_laws_104 rfl rfl ?_
    have hk : z_V l G m_X13_laws (z_Fm G m_X13_laws Q) 0 0 h_5 116 [some (.ref a0), none, none, some (.int x3), some (.int x4), some (.int x5), some (.int x6), some (.int x7), none, none] [.int (if 2 ≤ (h_5.I a0 36) then 0 else (h_5.I a0 37)), .int x4] := by
      refine z_iadd (q := 117) dX13_laws_116 rfl ?_
      refine z_nmI (fun v_7 hv_8 => ?_)
      have hf := hf v_7 hv_8
      refine z_istore (q := 119) (i := 4) (ls2 := [some (.ref a0), none, none, some (.int x3), some (.int v_7), some (.int x5), some (.int x6), some (.int x7), none, none]) (x := v_7) dX13_laws_117 (z_lt rfl) rfl rfl ?_
      refine z_iload (q := 121) (i := 5) (x := x5) dX13_laws_119 rfl rfl ?_
      refine z_aload_n (q := 122) (i := 0) (x := a0) dX13_laws_121 rfl rfl rfl ?_
      refine z_get 11 36 (q := 125) (v := .int (h_5.I a0 36)) rfl (z_lt rfl) (z_L11_T g_6) q1794 dX13_laws_122 rfl rfl ?_
      refine z_iconst (q := 126) (v := 2) dX13_laws_125 rfl rfl ?_
      have hk : z_V l G m_X13_laws (z_Fm G m_X13_laws Q) 0 0 h_5 134 [some (.ref a0), none, none, some (.int x3), some (.int v_7), some (.int x5), some (.int x6), some (.int x7), none, none] [.int (if 2 ≤ (h_5.I a0 36) then 0 else 1), .int x5] := by
        refine z_iadd (q := 135) dX13_laws_134 rfl ?_
        refine z_nmI (fun v_9 hv_10 => ?_)
        have hf := hf v_9 hv_10
        refine z_istore (q := 137) (i := 5) (ls2 := [some (.ref a0), none, none, some (.int x3), some (.int v_7), some (.int v_9), some (.int x6), some (.int x7), none, none]) (x := v_9) dX13_laws_135 (z_lt rfl) rfl rfl ?_
        refine z_iload (q := 139) (i := 6) (x := x6) dX13_laws_137 rfl rfl ?_
        refine z_aload_n (q := 140) (i := 0) (x := a0) dX13_laws_139 rfl rfl rfl ?_
        refine z_get 11 36 (q := 143) (v := .int (h_5.I a0 36)) rfl (z_lt rfl) (z_L11_T g_6) q1794 dX13_laws_140 rfl rfl ?_
        refine z_iconst (q := 144) (v := 2) dX13_laws_143 rfl rfl ?_
        have hk : z_V l G m_X13_laws (z_Fm G m_X13_laws Q) 0 0 h_5 152 [some (.ref a0), none, none, some (.int x3), some (.int v_7), some (.int v_9), some (.int x6), some (.int x7), none, none] [.int (if (h_5.I a0 36) = 2 then 1 else 0), .int x6] := by
          refine z_iadd (q := 153) dX13_laws_152 rfl ?_
          refine z_nmI (fun v_11 hv_12 => ?_)
          have hf := hf v_11 hv_12
          refine z_istore (q := 155) (i := 6) (ls2 := [some (.ref a0), none, none, some (.int x3), some (.int v_7), some (.int v_9), some (.int v_11), some (.int x7), none, none]) (x := v_11) dX13_laws_153 (z_lt rfl) rfl rfl ?_
          refine z_aload_n (q := 156) (i := 0) (x := a0) dX13_laws_155 rfl rfl rfl ?_
          refine z_aload_n (q := 157) (i := 0) (x := a0) dX13_laws_156 rfl rfl rfl ?_
          refine z_get 11 40 (q := 160) (v := .ref (a0 + 26)) rfl (z_lt rfl) (z_L11_T g_6) q1798 dX13_laws_157 rfl (z_fvR (fun _ _ _ => rfl) (z_L11_P40 g_6)) ?_
          refine z_aload_n (q := 161) (i := 0) (x := a0) dX13_laws_160 rfl rfl rfl ?_
          refine z_get 11 41 (q := 164) (v := .int (h_5.I a0 41)) rfl (z_lt rfl) (z_L11_T g_6) q1799 dX13_laws_161 rfl rfl ?_
          refine z_cVi m_X13_goesNext [.ref (a0 + 26), .int (h_5.I a0 41)] (a0) (q := 167) (rc2 := 0) (rs2 := 0) (st := []) dX13_laws_164 rfl q2207 oV_X13_goesNext rfl rfl ⟨z_le rfl, z_le rfl⟩ (z_le rfl) (z_rcv_of 11 rfl (z_L11_T g_6) rfl) rfl  rfl hf (fun x_13 h_14 hf => ?_)
          refine z_pop (q := 168) dX13_laws_167 rfl rfl ?_
          refine z_iinc (q := 171) (i := 7) (x := x7) (v := (x7 + 1)) (ls2 := [some (.ref a0), none, none, some (.int x3), some (.int v_7), some (.int v_9), some (.int v_11), some (.int (x7 + 1)), none, none]) dX13_laws_168 rfl rfl (z_lt rfl) rfl rfl ?_
          refine z_goto (q := 63) dX13_laws_171 rfl ?_
          exact hf
        refine z_icmp_ne (q := 147) (tgt := 151) dX13_laws_144 rfl rfl (fun hc => ?_) (fun hc => ?_)
        · have hk := (z_ite hk).2 hc
          refine z_iconst (q := 152) (v := 0) dX13_laws_151 rfl rfl ?_
          exact hk
        · have hk := (z_ite hk).1 hc
          refine z_iconst (q := 148) (v := 1) dX13_laws_147 rfl rfl ?_
          refine z_goto (q := 152) dX13_laws_148 rfl ?_
          exact hk
      refine z_icmp_ge (q := 129) (tgt := 133) dX13_laws_126 rfl rfl (fun hc => ?_) (fun hc => ?_)
      · have hk := (z_ite hk).1 hc
        refine z_iconst (q := 134) (v := 0) dX13_laws_133 rfl rfl ?_
        exact hk
      · have hk := (z_ite hk).2 hc
        refine z_iconst (q := 130) (v := 1) dX13_laws_129 rfl rfl ?_
        refine z_goto (q := 134) dX13_laws_130 rfl ?_
        exact hk
    refine z_icmp_ge (q := 108) (tgt := 115) dX13_laws_105 rfl rfl (fun hc => ?_) (fun hc => ?_)
    · have hk := (z_ite hk).1 hc
      refine z_iconst (q := 116) (v := 0) dX13_laws_115 rfl rfl ?_
      exact hk
    · have hk := (z_ite hk).2 hc
      refine z_aload_n (q := 109) (i := 0) (x := a0) dX13_laws_108 rfl rfl rfl ?_
      refine z_get 11 37 (q := 112) (v := .int (h_5.I a0 37)) rfl (z_lt rfl) (z_L11_T g_6) q1795 dX13_laws_109 rfl rfl ?_
      refine z_goto (q := 116) dX13_laws_112 rfl ?_
      exact hk

theorem b_X13_laws_187 {l : Launch} {G : z_G} {x3 : Int32} {x4 : Int32} {x5 : Int32} {x6 : Int32} {x7 : Int32} {x8 : Int32} {h : z_H} {Q : z_Q}  (hf : (x8 = 0 → (x3 = 2 → Q (some (.int x6)) h) ∧ (¬ x3 = 2 → (x5 = 0 → Q (some (.int x3)) h) ∧ (¬ x5 = 0 → (x3 = 0 → ¬ x7 = 0 ∧ Q (some (.int (x4 / x7))) h) ∧ (¬ x3 = 0 → ¬ x7 = 0 ∧ Q (some (.int (x5 / x7))) h)))) ∧ (¬ x8 = 0 → ¬ x8 = 0 ∧ ∀ v_4 : Int32, v_4 = (x7 - x7 / x8 * x8) → z_V l G m_X13_laws (z_Fm G m_X13_laws Q) 0 0 h 187 [none, none, none, some (.int x3), some (.int x4), some (.int x5), some (.int x6), some (.int x8), some (.int v_4), none] [])) : z_V l G m_X13_laws (z_Fm G m_X13_laws Q) 0 0 h 187 [none, none, none, some (.int x3), some (.int x4), some (.int x5), some (.int x6), some (.int x7), some (.int x8), none] [] := by
  refine z_iload (q := 189) (i := 8) (x := x8) dX13_laws_187 rfl rfl ?_
  refine z_if_eq (q := 192) (tgt := 210) dX13_laws_189 rfl rfl (fun hc => ?_) (fun hc => ?_)
  · have hf := hf.1 hc
    refine z_iload_n (q := 211) (i := 3) (x := x3) dX13_laws_210 rfl rfl rfl ?_
    refine z_iconst (q := 212) (v := 2) dX13_laws_211 rfl rfl ?_
    refine z_icmp_ne (q := 215) (tgt := 220) dX13_laws_212 rfl rfl (fun hc => ?_) (fun hc => ?_)
    · have hf := hf.2 hc
      refine z_iload (q := 222) (i := 5) (x := x5) dX13_laws_220 rfl rfl ?_
      refine z_if_ne (q := 225) (tgt := 229) dX13_laws_222 rfl rfl (fun hc => ?_) (fun hc => ?_)
      · have hf := hf.2 hc
        refine z_iload_n (q := 230) (i := 3) (x := x3) dX13_laws_229 rfl rfl rfl ?_
        refine z_if_ne (q := 233) (tgt := 241) dX13_laws_230 rfl rfl (fun hc => ?_) (fun hc => ?_)
        · have hf := hf.2 hc
          refine z_iload (q := 243) (i := 5) (x := x5) dX13_laws_241 rfl rfl ?_
          refine z_iload (q := 245) (i := 7) (x := x7) dX13_laws_243 rfl rfl ?_
          obtain ⟨g_1, hf⟩ := hf
          refine z_idiv (q := 246) dX13_laws_245 g_1 rfl ?_
          exact z_iret dX13_laws_246 rfl hf
        · have hf := hf.1 hc
          refine z_iload (q := 235) (i := 4) (x := x4) dX13_laws_233 rfl rfl ?_
          refine z_iload (q := 237) (i := 7) (x := x7) dX13_laws_235 rfl rfl ?_
          obtain ⟨g_2, hf⟩ := hf
          refine z_idiv (q := 238) dX13_laws_237 g_2 rfl ?_
          refine z_goto (q := 246) dX13_laws_238 rfl ?_
          exact z_iret dX13_laws_246 rfl hf
      · have hf := hf.1 hc
        refine z_iload_n (q := 226) (i := 3) (x := x3) dX13_laws_225 rfl rfl rfl ?_
        refine z_goto (q := 246) dX13_laws_226 rfl ?_
        exact z_iret dX13_laws_246 rfl hf
    · have hf := hf.1 hc
      refine z_iload (q := 217) (i := 6) (x := x6) dX13_laws_215 rfl rfl ?_
      refine z_goto (q := 246) dX13_laws_217 rfl ?_
      exact z_iret dX13_laws_246 rfl hf
  · have hf := hf.2 hc
    refine z_iload (q := 194) (i := 7) (x := x7) dX13_laws_192 rfl rfl ?_
    refine z_iload (q := 196) (i := 8) (x := x8) dX13_laws_194 rfl rfl ?_
    obtain ⟨g_3, hf⟩ := hf
    refine z_irem (q := 197) dX13_laws_196 g_3 rfl ?_
    refine z_nmI (fun v_4 hv_5 => ?_)
    have hf := hf v_4 hv_5
    refine z_istore (q := 199) (i := 9) (ls2 := [none, none, none, some (.int x3), some (.int x4), some (.int x5), some (.int x6), some (.int x7), some (.int x8), some (.int v_4)]) (x := v_4) dX13_laws_197 (z_lt rfl) rfl rfl ?_
    refine z_iload (q := 201) (i := 8) (x := x8) dX13_laws_199 rfl rfl ?_
    refine z_istore (q := 203) (i := 7) (ls2 := [none, none, none, some (.int x3), some (.int x4), some (.int x5), some (.int x6), some (.int x8), some (.int x8), some (.int v_4)]) (x := x8) dX13_laws_201 (z_lt rfl) rfl rfl ?_
    refine z_iload (q := 205) (i := 9) (x := v_4) dX13_laws_203 rfl rfl ?_
    refine z_istore (q := 207) (i := 8) (ls2 := [none, none, none, some (.int x3), some (.int x4), some (.int x5), some (.int x6), some (.int x8), some (.int v_4), some (.int v_4)]) (x := v_4) dX13_laws_205 (z_lt rfl) rfl rfl ?_
    refine z_goto (q := 187) dX13_laws_207 rfl ?_
    refine z_prune [false, false, false, true, true, true, true, true, true, false] (ls2 := [none, none, none, some (.int x3), some (.int x4), some (.int x5), some (.int x6), some (.int x8), some (.int v_4), none]) rfl ?_
    exact hf

