set_option maxRecDepth 100000
set_option maxHeartbeats 4000000
theorem u_X10_cards {l : Launch} {G : z_G} {a0 : Nat} {h : z_H} {Q : z_Q} (hst : l.stackTraces = false)  (hf : z_V l G m_X10_cards (z_Fm G m_X10_cards Q) 0 0 h 4 [some (.ref a0), some (.int 0), some (.int 0)] []) : z_Ct l G m_X10_cards [.ref a0] h Q := by
  refine z_Ct.of (ls := [some (.ref a0), none, none]) hst rfl (by show plainName yX10_cards.cls = true; decide +kernel) (z_le rfl) rfl ?_
  show z_V l G m_X10_cards (z_Fm G m_X10_cards Q) 0 0 h 0 [some (.ref a0), none, none] []
  refine z_iconst (q := 1) (v := 0) dX10_cards_0 rfl rfl ?_
  refine z_istore_n (q := 2) (i := 1) (ls2 := [some (.ref a0), some (.int 0), none]) (x := 0) dX10_cards_1 rfl (z_lt rfl) rfl rfl ?_
  refine z_iconst (q := 3) (v := 0) dX10_cards_2 rfl rfl ?_
  refine z_istore_n (q := 4) (i := 2) (ls2 := [some (.ref a0), some (.int 0), some (.int 0)]) (x := 0) dX10_cards_3 rfl (z_lt rfl) rfl rfl ?_
  exact hf

theorem b_X10_cards_4 {l : Launch} {G : z_G} {a0 : Nat} {x1 : Int32} {x2 : Int32} {h : z_H} {Q : z_Q}  (hf : (8 ≤ x2 → Q (some (.int x1)) h) ∧ (¬ 8 ≤ x2 → z_L8 h a0 ∧ vp_in x2 8 ∧ z_Ct l G m_J5_max [.int 0, .int (h.I (a0 + 4) (Int32.toNatClampNeg x2))] h (z_Qi (fun x_3 h_4 => z_V l G m_X10_cards (z_Fm G m_X10_cards Q) 0 0 h_4 4 [some (.ref a0), some (.int (x1 + x_3)), some (.int (x2 + 1))] [])))) : z_V l G m_X10_cards (z_Fm G m_X10_cards Q) 0 0 h 4 [some (.ref a0), some (.int x1), some (.int x2)] [] := by
  refine z_iload_n (q := 5) (i := 2) (x := x2) dX10_cards_4 rfl rfl rfl ?_
  refine z_bipush (q := 7) (v := 8) dX10_cards_5 (by decide) rfl ?_
  refine z_icmp_ge (q := 10) (tgt := 29) dX10_cards_7 rfl rfl (fun hc => ?_) (fun hc => ?_)
  · have hf := hf.1 hc
    refine z_iload_n (q := 30) (i := 1) (x := x1) dX10_cards_29 rfl rfl rfl ?_
    exact z_iret dX10_cards_30 rfl hf
  · have hf := hf.2 hc
    refine z_iload_n (q := 11) (i := 1) (x := x1) dX10_cards_10 rfl rfl rfl ?_
    refine z_iconst (q := 12) (v := 0) dX10_cards_11 rfl rfl ?_
    refine z_aload_n (q := 13) (i := 0) (x := a0) dX10_cards_12 rfl rfl rfl ?_
    obtain ⟨g_1, hf⟩ := hf
    refine z_get 8 2 (q := 16) (v := .ref (a0 + 4)) rfl (z_lt rfl) (z_L8_T g_1) q336 dX10_cards_13 rfl (z_fvR (fun _ _ _ => rfl) (z_L8_P2 g_1)) ?_
    refine z_iload_n (q := 17) (i := 2) (x := x2) dX10_cards_16 rfl rfl rfl ?_
    obtain ⟨g_2, hf⟩ := hf
    refine z_iald (q := 18) (n := 8) (z_L8_A2 g_1) g_2 dX10_cards_17 rfl ?_
    refine z_cSi m_J5_max [.int 0, .int (h.I (a0 + 4) (Int32.toNatClampNeg x2))] (q := 21) (rc2 := 0) (rs2 := 0) (st := [.int x1]) dX10_cards_18 rfl q1169 oS_J5_max rfl rfl ⟨z_le rfl, z_le rfl⟩ (z_le rfl) rfl  rfl hf (fun x_3 h_4 hf => ?_)
    refine z_iadd (q := 22) dX10_cards_21 rfl ?_
    refine z_istore_n (q := 23) (i := 1) (ls2 := [some (.ref a0), some (.int (x1 + x_3)), some (.int x2)]) (x := (x1 + x_3)) dX10_cards_22 rfl (z_lt rfl) rfl rfl ?_
    refine z_iinc (q := 26) (i := 2) (x := x2) (v := (x2 + 1)) (ls2 := [some (.ref a0), some (.int (x1 + x_3)), some (.int (x2 + 1))]) dX10_cards_23 rfl rfl (z_lt rfl) rfl rfl ?_
    refine z_goto (q := 4) dX10_cards_26 rfl ?_
    exact hf

theorem u_X10_ends {l : Launch} {G : z_G} {a0 : Nat} {h : z_H} {Q : z_Q} (hst : l.stackTraces = false)  (hf : z_V l G m_X10_ends (z_Fm G m_X10_ends Q) 0 0 h 2 [some (.ref a0), some (.int 0)] []) : z_Ct l G m_X10_ends [.ref a0] h Q := by
  refine z_Ct.of (ls := [some (.ref a0), none]) hst rfl (by show plainName yX10_ends.cls = true; decide +kernel) (z_le rfl) rfl ?_
  show z_V l G m_X10_ends (z_Fm G m_X10_ends Q) 0 0 h 0 [some (.ref a0), none] []
  refine z_iconst (q := 1) (v := 0) dX10_ends_0 rfl rfl ?_
  refine z_istore_n (q := 2) (i := 1) (ls2 := [some (.ref a0), some (.int 0)]) (x := 0) dX10_ends_1 rfl (z_lt rfl) rfl rfl ?_
  exact hf

theorem b_X10_ends_2 {l : Launch} {G : z_G} {a0 : Nat} {x1 : Int32} {h : z_H} {Q : z_Q}  (hf : (8 ≤ x1 → Q none h) ∧ (¬ 8 ≤ x1 → z_L8 h a0 ∧ vp_in x1 8 ∧ z_Ct l G m_J5_max [.int 0, .int (h.I (a0 + 4) (Int32.toNatClampNeg x1))] h (z_Qi (fun x_3 h_4 => ∃ n_5, h_4.T (a0 + 4) = (1, n_5) ∧ vp_in x1 n_5 ∧ z_V l G m_X10_ends (z_Fm G m_X10_ends Q) 0 0 (h_4.sI (a0 + 4) (Int32.toNatClampNeg x1) x_3) 2 [some (.ref a0), some (.int (x1 + 1))] [])))) : z_V l G m_X10_ends (z_Fm G m_X10_ends Q) 0 0 h 2 [some (.ref a0), some (.int x1)] [] := by
  refine z_iload_n (q := 3) (i := 1) (x := x1) dX10_ends_2 rfl rfl rfl ?_
  refine z_bipush (q := 5) (v := 8) dX10_ends_3 (by decide) rfl ?_
  refine z_icmp_ge (q := 8) (tgt := 30) dX10_ends_5 rfl rfl (fun hc => ?_) (fun hc => ?_)
  · have hf := hf.1 hc
    exact z_vret dX10_ends_30 rfl hf
  · have hf := hf.2 hc
    refine z_aload_n (q := 9) (i := 0) (x := a0) dX10_ends_8 rfl rfl rfl ?_
    obtain ⟨g_1, hf⟩ := hf
    refine z_get 8 2 (q := 12) (v := .ref (a0 + 4)) rfl (z_lt rfl) (z_L8_T g_1) q336 dX10_ends_9 rfl (z_fvR (fun _ _ _ => rfl) (z_L8_P2 g_1)) ?_
    refine z_iload_n (q := 13) (i := 1) (x := x1) dX10_ends_12 rfl rfl rfl ?_
    refine z_iconst (q := 14) (v := 0) dX10_ends_13 rfl rfl ?_
    refine z_aload_n (q := 15) (i := 0) (x := a0) dX10_ends_14 rfl rfl rfl ?_
    refine z_get 8 2 (q := 18) (v := .ref (a0 + 4)) rfl (z_lt rfl) (z_L8_T g_1) q336 dX10_ends_15 rfl (z_fvR (fun _ _ _ => rfl) (z_L8_P2 g_1)) ?_
    refine z_iload_n (q := 19) (i := 1) (x := x1) dX10_ends_18 rfl rfl rfl ?_
    obtain ⟨g_2, hf⟩ := hf
    refine z_iald (q := 20) (n := 8) (z_L8_A2 g_1) g_2 dX10_ends_19 rfl ?_
    refine z_cSi m_J5_max [.int 0, .int (h.I (a0 + 4) (Int32.toNatClampNeg x1))] (q := 23) (rc2 := 0) (rs2 := 0) (st := [.int x1, .ref (a0 + 4)]) dX10_ends_20 rfl q1169 oS_J5_max rfl rfl ⟨z_le rfl, z_le rfl⟩ (z_le rfl) rfl  rfl hf (fun x_3 h_4 hf => ?_)
    obtain ⟨n_5, g_6, hf⟩ := hf
    obtain ⟨g_7, hf⟩ := hf
    refine z_iast (q := 24) (n := n_5) g_6 g_7 dX10_ends_23 rfl ?_
    refine z_iinc (q := 27) (i := 1) (x := x1) (v := (x1 + 1)) (ls2 := [some (.ref a0), some (.int (x1 + 1))]) dX10_ends_24 rfl rfl (z_lt rfl) rfl rfl ?_
    refine z_goto (q := 2) dX10_ends_27 rfl ?_
    exact hf

theorem u_X10_first {l : Launch} {G : z_G} {a0 : Nat} {h : z_H} {Q : z_Q} (hst : l.stackTraces = false)  (hf : z_L8 h a0 ∧ z_Ct l G m_J5_max [.int 0, .int (h.I a0 4)] h (z_Qi (fun x_2 h_3 => Q (some (.int x_2)) h_3))) : z_Ct l G m_X10_first [.ref a0] h Q := by
  refine z_Ct.of (ls := [some (.ref a0)]) hst rfl (by show plainName yX10_first.cls = true; decide +kernel) (z_le rfl) rfl ?_
  show z_V l G m_X10_first (z_Fm G m_X10_first Q) 0 0 h 0 [some (.ref a0)] []
  refine z_iconst (q := 1) (v := 0) dX10_first_0 rfl rfl ?_
  refine z_aload_n (q := 2) (i := 0) (x := a0) dX10_first_1 rfl rfl rfl ?_
  obtain ⟨g_1, hf⟩ := hf
  refine z_get 8 4 (q := 5) (v := .int (h.I a0 4)) rfl (z_lt rfl) (z_L8_T g_1) q341 dX10_first_2 rfl rfl ?_
  refine z_cSi m_J5_max [.int 0, .int (h.I a0 4)] (q := 8) (rc2 := 0) (rs2 := 0) (st := []) dX10_first_5 rfl q1169 oS_J5_max rfl rfl ⟨z_le rfl, z_le rfl⟩ (z_le rfl) rfl  rfl hf (fun x_2 h_3 hf => ?_)
  exact z_iret dX10_first_8 rfl hf

theorem u_X10_init {l : Launch} {G : z_G} {a0 : Nat} {h : z_H} {Q : z_Q} (hst : l.stackTraces = false) (hlt : a0 < h.n)  (hf : z_Ct l G m_J2_init [.ref (h.n), .int 4] (h.nw (31, 0)) (z_Qv (fun h_1 => (h_1.T a0).1 = 18 ∧ (((h_1.sP a0 0 (some (h.n))).nw (1, 8)).T a0).1 = 18 ∧ (((((h_1.sP a0 0 (some (h.n))).nw (1, 8)).sP a0 1 (some (h_1.n))).nw (1, 8)).T a0).1 = 18 ∧ Q none ((((((((h_1.sP a0 0 (some (h.n))).nw (1, 8)).sP a0 1 (some (h_1.n))).nw (1, 8)).sP a0 2 (some (h_1.n + 1))).sI a0 3 (-1)).sI a0 4 (-1)).sI a0 5 (-1))))) : z_Ct l G m_X10_init [.ref a0] h Q := by
  refine z_Ct.of (ls := [some (.ref a0)]) hst rfl (by show plainName yX10_init.cls = true; decide +kernel) (z_le rfl) rfl ?_
  show z_V l G m_X10_init (z_Fm G m_X10_init Q) 4 23 h 0 [some (.ref a0)] []
  refine z_aload_n (q := 1) (i := 0) (x := a0) dX10_init_0 rfl rfl rfl ?_
  refine z_objInit (q := 4) dX10_init_1 rfl q301 q170 q171 ⟨z_le rfl, z_le rfl⟩ (z_le rfl) ?_
  refine z_aload_n (q := 5) (i := 0) (x := a0) dX10_init_4 rfl rfl rfl ?_
  refine z_new 21 (q := 8) (rc2 := 3) (rs2 := 20) rfl q302 q303 q134 dX10_init_5 rfl rfl rfl ?_
  refine z_dup (q := 9) dX10_init_8 rfl rfl ?_
  refine z_iconst (q := 10) (v := 4) dX10_init_9 rfl rfl ?_
  refine z_cIv m_J2_init [.int 4] ((h.n)) (q := 13) (rc2 := 2) (rs2 := 16) (st := [.ref (h.n), .ref a0]) dX10_init_10 rfl q304 oI_J2_init rfl rfl ⟨z_le rfl, z_le rfl⟩ (z_le rfl) rfl  rfl hf (fun h_1 hf => ?_)
  obtain ⟨g_2, hf⟩ := hf
  refine z_putP_F 8 0 (q := 16) (x := some (h.n)) (v := .ref (h.n)) rfl (z_lt rfl) g_2 q330 rfl rfl rfl dX10_init_13 rfl rfl rfl rfl (fun _ _ _ => rfl) ?_
  refine z_aload_n (q := 17) (i := 0) (x := a0) dX10_init_16 rfl rfl rfl ?_
  refine z_bipush (q := 19) (v := 8) dX10_init_17 (by decide) rfl ?_
  refine z_newa 1 (q := 21) (N := 8) (rc2 := 1) (rs2 := 8) (z_lt rfl) (z_lt rfl) rfl q295 (by decide) rfl (z_le rfl) dX10_init_19 rfl rfl rfl ?_
  obtain ⟨g_3, hf⟩ := hf
  refine z_putP_F 8 1 (q := 24) (x := some (h_1.n)) (v := .ref (h_1.n)) rfl (z_lt rfl) g_3 q333 rfl rfl rfl dX10_init_21 rfl rfl rfl rfl (fun _ _ _ => rfl) ?_
  refine z_aload_n (q := 25) (i := 0) (x := a0) dX10_init_24 rfl rfl rfl ?_
  refine z_bipush (q := 27) (v := 8) dX10_init_25 (by decide) rfl ?_
  refine z_newa 1 (q := 29) (N := 8) (rc2 := 0) (rs2 := 0) (z_lt rfl) (z_lt rfl) rfl q295 (by decide) rfl (z_le rfl) dX10_init_27 rfl rfl rfl ?_
  obtain ⟨g_4, hf⟩ := hf
  refine z_putP_F 8 2 (q := 32) (x := some (h_1.n + 1)) (v := .ref (h_1.n + 1)) rfl (z_lt rfl) g_4 q336 rfl rfl rfl dX10_init_29 rfl rfl rfl rfl (fun _ _ _ => rfl) ?_
  refine z_aload_n (q := 33) (i := 0) (x := a0) dX10_init_32 rfl rfl rfl ?_
  refine z_iconst (q := 34) (v := (-1)) dX10_init_33 rfl rfl ?_
  refine z_putI 8 3 (q := 37) (x := (-1)) (v := .int (-1)) rfl (z_lt rfl) g_4 q339 rfl dX10_init_34 rfl rfl rfl rfl (fun _ _ _ => rfl) ?_
  refine z_aload_n (q := 38) (i := 0) (x := a0) dX10_init_37 rfl rfl rfl ?_
  refine z_iconst (q := 39) (v := (-1)) dX10_init_38 rfl rfl ?_
  refine z_putI 8 4 (q := 42) (x := (-1)) (v := .int (-1)) rfl (z_lt rfl) g_4 q341 rfl dX10_init_39 rfl rfl rfl rfl (fun _ _ _ => rfl) ?_
  refine z_aload_n (q := 43) (i := 0) (x := a0) dX10_init_42 rfl rfl rfl ?_
  refine z_iconst (q := 44) (v := (-1)) dX10_init_43 rfl rfl ?_
  refine z_putI 8 5 (q := 47) (x := (-1)) (v := .int (-1)) rfl (z_lt rfl) g_4 q343 rfl dX10_init_44 rfl rfl rfl rfl (fun _ _ _ => rfl) ?_
  exact z_vret dX10_init_47 rfl hf

theorem u_X10_kind {l : Launch} {G : z_G} {a0 : Nat} {a1 : Nat} {h : z_H} {Q : z_Q} (hst : l.stackTraces = false)  (hf : z_V l G m_X10_kind (z_Fm G m_X10_kind Q) 0 0 h 2 [some (.ref a0), some (.ref a1), some (.int 0)] []) : z_Ct l G m_X10_kind [.ref a0, .ref a1] h Q := by
  refine z_Ct.of (ls := [some (.ref a0), some (.ref a1), none]) hst rfl (by show plainName yX10_kind.cls = true; decide +kernel) (z_le rfl) rfl ?_
  show z_V l G m_X10_kind (z_Fm G m_X10_kind Q) 0 0 h 0 [some (.ref a0), some (.ref a1), none] []
  refine z_iconst (q := 1) (v := 0) dX10_kind_0 rfl rfl ?_
  refine z_istore_n (q := 2) (i := 2) (ls2 := [some (.ref a0), some (.ref a1), some (.int 0)]) (x := 0) dX10_kind_1 rfl (z_lt rfl) rfl rfl ?_
  exact hf

theorem b_X10_kind_2 {l : Launch} {G : z_G} {a0 : Nat} {a1 : Nat} {x2 : Int32} {h : z_H} {Q : z_Q}  (hf : z_L8 h a0 ∧ z_Ct l G m_J2_size [.ref (a0 + 1)] h (z_Qi (fun x_2 h_3 => (x_2 ≤ x2 → Q (some (.int (-1))) h_3) ∧ (¬ x_2 ≤ x2 → z_L8 h_3 a0 ∧ z_Ct l G m_J2_get [.ref (a0 + 1), .int x2] h_3 (z_Qr (fun b_5 h_6 => (h_6.T b_5).1 = 32 ∧ z_Ct l G m_J3_equals [.ref b_5, .ref a1] h_6 (z_Qi (fun x_8 h_9 => (x_8 = 0 → z_V l G m_X10_kind (z_Fm G m_X10_kind Q) 0 0 h_9 2 [some (.ref a0), some (.ref a1), some (.int (x2 + 1))] []) ∧ (¬ x_8 = 0 → Q (some (.int x2)) h_9))))))))) : z_V l G m_X10_kind (z_Fm G m_X10_kind Q) 0 0 h 2 [some (.ref a0), some (.ref a1), some (.int x2)] [] := by
  refine z_iload_n (q := 3) (i := 2) (x := x2) dX10_kind_2 rfl rfl rfl ?_
  refine z_aload_n (q := 4) (i := 0) (x := a0) dX10_kind_3 rfl rfl rfl ?_
  obtain ⟨g_1, hf⟩ := hf
  refine z_get 8 0 (q := 7) (v := .ref (a0 + 1)) rfl (z_lt rfl) (z_L8_T g_1) q330 dX10_kind_4 rfl (z_fvR (fun _ _ _ => rfl) (z_L8_P0 g_1)) ?_
  refine z_cVi m_J2_size [] ((a0 + 1)) (q := 10) (rc2 := 0) (rs2 := 0) (st := [.int x2]) dX10_kind_7 rfl q1069 oV_J2_size rfl rfl ⟨z_le rfl, z_le rfl⟩ (z_le rfl) (z_rcv_of 21 rfl (z_L8_N0 g_1) rfl) rfl  rfl hf (fun x_2 h_3 hf => ?_)
  refine z_icmp_ge (q := 13) (tgt := 39) dX10_kind_10 rfl rfl (fun hc => ?_) (fun hc => ?_)
  · have hf := hf.1 hc
    refine z_iconst (q := 40) (v := (-1)) dX10_kind_39 rfl rfl ?_
    exact z_iret dX10_kind_40 rfl hf
  · have hf := hf.2 hc
    refine z_aload_n (q := 14) (i := 0) (x := a0) dX10_kind_13 rfl rfl rfl ?_
    obtain ⟨g_4, hf⟩ := hf
    refine z_get 8 0 (q := 17) (v := .ref (a0 + 1)) rfl (z_lt rfl) (z_L8_T g_4) q330 dX10_kind_14 rfl (z_fvR (fun _ _ _ => rfl) (z_L8_P0 g_4)) ?_
    refine z_iload_n (q := 18) (i := 2) (x := x2) dX10_kind_17 rfl rfl rfl ?_
    refine z_cVr m_J2_get [.int x2] ((a0 + 1)) (q := 21) (rc2 := 0) (rs2 := 0) (st := []) dX10_kind_18 rfl q1070 oV_J2_get rfl rfl ⟨z_le rfl, z_le rfl⟩ (z_le rfl) (z_rcv_of 21 rfl (z_L8_N0 g_4) rfl) rfl  rfl hf (fun b_5 h_6 hf => ?_)
    obtain ⟨g_7, hf⟩ := hf
    refine z_cast (C0 := "java/lang/String") (nm := "java/lang/String") (z_rcv_of 22 rfl g_7 rfl) (Or.inl rfl) q1082 dX10_kind_21 rfl ?_
    refine z_aload_n (q := 25) (i := 1) (x := a1) dX10_kind_24 rfl rfl rfl ?_
    refine z_cVi m_J3_equals [.ref a1] (b_5) (q := 28) (rc2 := 0) (rs2 := 0) (st := []) dX10_kind_25 rfl q1083 oV_J3_equals rfl rfl ⟨z_le rfl, z_le rfl⟩ (z_le rfl) (z_rcv_of 22 rfl g_7 rfl) rfl  rfl hf (fun x_8 h_9 hf => ?_)
    refine z_if_eq (q := 31) (tgt := 33) dX10_kind_28 rfl rfl (fun hc => ?_) (fun hc => ?_)
    · have hf := hf.1 hc
      refine z_iinc (q := 36) (i := 2) (x := x2) (v := (x2 + 1)) (ls2 := [some (.ref a0), some (.ref a1), some (.int (x2 + 1))]) dX10_kind_33 rfl rfl (z_lt rfl) rfl rfl ?_
      refine z_goto (q := 2) dX10_kind_36 rfl ?_
      exact hf
    · have hf := hf.2 hc
      refine z_iload_n (q := 32) (i := 2) (x := x2) dX10_kind_31 rfl rfl rfl ?_
      exact z_iret dX10_kind_32 rfl hf

theorem u_X10_limit {l : Launch} {G : z_G} {a0 : Nat} {h : z_H} {Q : z_Q} (hst : l.stackTraces = false)  (hf : z_L8 h a0 ∧ Q (some (.int (if 0 ≤ (h.I a0 5) then (h.I a0 5) else 1000))) h) : z_Ct l G m_X10_limit [.ref a0] h Q := by
  refine z_Ct.of (ls := [some (.ref a0)]) hst rfl (by show plainName yX10_limit.cls = true; decide +kernel) (z_le rfl) rfl ?_
  show z_V l G m_X10_limit (z_Fm G m_X10_limit Q) 0 0 h 0 [some (.ref a0)] []
  refine z_aload_n (q := 1) (i := 0) (x := a0) dX10_limit_0 rfl rfl rfl ?_
  obtain ⟨g_1, hf⟩ := hf
  refine z_get 8 5 (q := 4) (v := .int (h.I a0 5)) rfl (z_lt rfl) (z_L8_T g_1) q343 dX10_limit_1 rfl rfl ?_
  have hk : z_V l G m_X10_limit (z_Fm G m_X10_limit Q) 0 0 h 17 [some (.ref a0)] [.int (if 0 ≤ (h.I a0 5) then (h.I a0 5) else 1000)] := by
    exact z_iret dX10_limit_17 rfl hf
  refine z_if_ge (q := 7) (tgt := 13) dX10_limit_4 rfl rfl (fun hc => ?_) (fun hc => ?_)
  · have hk := (z_ite hk).1 hc
    refine z_aload_n (q := 14) (i := 0) (x := a0) dX10_limit_13 rfl rfl rfl ?_
    refine z_get 8 5 (q := 17) (v := .int (h.I a0 5)) rfl (z_lt rfl) (z_L8_T g_1) q343 dX10_limit_14 rfl rfl ?_
    exact hk
  · have hk := (z_ite hk).2 hc
    refine z_sipush (q := 10) (v := 1000) dX10_limit_7 (by decide) rfl ?_
    refine z_goto (q := 17) dX10_limit_10 rfl ?_
    exact hk

theorem u_X10_order {l : Launch} {G : z_G} {a0 : Nat} {h : z_H} {Q : z_Q} (hst : l.stackTraces = false)  (hf : z_L8 h a0 ∧ z_Ct l G m_J5_max [.int 0, .int (h.I a0 3)] h (z_Qi (fun x_2 h_3 => Q (some (.int x_2)) h_3))) : z_Ct l G m_X10_order [.ref a0] h Q := by
  refine z_Ct.of (ls := [some (.ref a0)]) hst rfl (by show plainName yX10_order.cls = true; decide +kernel) (z_le rfl) rfl ?_
  show z_V l G m_X10_order (z_Fm G m_X10_order Q) 0 0 h 0 [some (.ref a0)] []
  refine z_iconst (q := 1) (v := 0) dX10_order_0 rfl rfl ?_
  refine z_aload_n (q := 2) (i := 0) (x := a0) dX10_order_1 rfl rfl rfl ?_
  obtain ⟨g_1, hf⟩ := hf
  refine z_get 8 3 (q := 5) (v := .int (h.I a0 3)) rfl (z_lt rfl) (z_L8_T g_1) q339 dX10_order_2 rfl rfl ?_
  refine z_cSi m_J5_max [.int 0, .int (h.I a0 3)] (q := 8) (rc2 := 0) (rs2 := 0) (st := []) dX10_order_5 rfl q1169 oS_J5_max rfl rfl ⟨z_le rfl, z_le rfl⟩ (z_le rfl) rfl  rfl hf (fun x_2 h_3 hf => ?_)
  exact z_iret dX10_order_8 rfl hf

theorem u_X11_be {l : Launch} {G : z_G} {a0 : Nat} {a1 : Nat} {h : z_H} {Q : z_Q} (hst : l.stackTraces = false) (hd0 : a0 + 13 ≤ a1 ∨ a1 + 13 ≤ a0) (hf : z_L9 h a1 ∧ z_L9 h a0 ∧ z_V l G m_X11_be (z_Fm G m_X11_be Q) 0 0 (((h.sI a0 6 (h.I a1 6)).sI a0 7 (h.I a1 7)).sI a0 8 (h.I a1 8)) 26 [some (.ref a0), some (.ref a1), some (.int 0)] []) : z_Ct l G m_X11_be [.ref a0, .ref a1] h Q := by
  refine z_Ct.of (ls := [some (.ref a0), some (.ref a1), none]) hst rfl (by show plainName yX11_be.cls = true; decide +kernel) (z_le rfl) rfl ?_
  show z_V l G m_X11_be (z_Fm G m_X11_be Q) 0 0 h 0 [some (.ref a0), some (.ref a1), none] []
  refine z_aload_n (q := 1) (i := 0) (x := a0) dX11_be_0 rfl rfl rfl ?_
  refine z_aload_n (q := 2) (i := 1) (x := a1) dX11_be_1 rfl rfl rfl ?_
  obtain ⟨g_1, hf⟩ := hf
  refine z_get 9 6 (q := 5) (v := .int (h.I a1 6)) rfl (z_lt rfl) (z_L9_T g_1) q385 dX11_be_2 rfl rfl ?_
  obtain ⟨g_2, hf⟩ := hf
  refine z_putI 9 6 (q := 8) (x := (h.I a1 6)) (v := .int (h.I a1 6)) rfl (z_lt rfl) (z_L9_T g_2) q385 rfl dX11_be_5 rfl rfl rfl rfl (fun _ _ _ => rfl) ?_
  refine z_aload_n (q := 9) (i := 0) (x := a0) dX11_be_8 rfl rfl rfl ?_
  refine z_aload_n (q := 10) (i := 1) (x := a1) dX11_be_9 rfl rfl rfl ?_
  refine z_get 9 7 (q := 13) (v := .int (h.I a1 7)) rfl (z_lt rfl) (z_L9_T g_1) q388 dX11_be_10 rfl (congrArg Value.int (z_rIa (by omega))) ?_
  refine z_putI 9 7 (q := 16) (x := (h.I a1 7)) (v := .int (h.I a1 7)) rfl (z_lt rfl) (z_L9_T g_2) q388 rfl dX11_be_13 rfl rfl rfl rfl (fun _ _ _ => rfl) ?_
  refine z_aload_n (q := 17) (i := 0) (x := a0) dX11_be_16 rfl rfl rfl ?_
  refine z_aload_n (q := 18) (i := 1) (x := a1) dX11_be_17 rfl rfl rfl ?_
  refine z_get 9 8 (q := 21) (v := .int (h.I a1 8)) rfl (z_lt rfl) (z_L9_T g_1) q391 dX11_be_18 rfl (congrArg Value.int (Eq.trans (z_rIa (by omega)) (z_rIa (by omega)))) ?_
  refine z_putI 9 8 (q := 24) (x := (h.I a1 8)) (v := .int (h.I a1 8)) rfl (z_lt rfl) (z_L9_T g_2) q391 rfl dX11_be_21 rfl rfl rfl rfl (fun _ _ _ => rfl) ?_
  refine z_iconst (q := 25) (v := 0) dX11_be_24 rfl rfl ?_
  refine z_istore_n (q := 26) (i := 2) (ls2 := [some (.ref a0), some (.ref a1), some (.int 0)]) (x := 0) dX11_be_25 rfl (z_lt rfl) rfl rfl ?_
  exact hf

theorem b_X11_be_26 {l : Launch} {G : z_G} {a0 : Nat} {a1 : Nat} {x2 : Int32} {h : z_H} {Q : z_Q} (hd0 : a0 + 13 ≤ a1 ∨ a1 + 13 ≤ a0) (hf : z_L9 h a0 ∧ ((h.I a0 6) ≤ x2 → z_V l G m_X11_be (z_Fm G m_X11_be Q) 0 0 h 54 [some (.ref a0), some (.ref a1), some (.int 0)] []) ∧ (¬ (h.I a0 6) ≤ x2 → z_L9 h a1 ∧ vp_in x2 48 ∧ vp_in x2 48 ∧ z_V l G m_X11_be (z_Fm G m_X11_be Q) 0 0 (h.sI (a0 + 1) (Int32.toNatClampNeg x2) (h.I (a1 + 1) (Int32.toNatClampNeg x2))) 26 [some (.ref a0), some (.ref a1), some (.int (x2 + 1))] [])) : z_V l G m_X11_be (z_Fm G m_X11_be Q) 0 0 h 26 [some (.ref a0), some (.ref a1), some (.int x2)] [] := by
  refine z_iload_n (q := 27) (i := 2) (x := x2) dX11_be_26 rfl rfl rfl ?_
  refine z_aload_n (q := 28) (i := 0) (x := a0) dX11_be_27 rfl rfl rfl ?_
  obtain ⟨g_1, hf⟩ := hf
  refine z_get 9 6 (q := 31) (v := .int (h.I a0 6)) rfl (z_lt rfl) (z_L9_T g_1) q385 dX11_be_28 rfl rfl ?_
  refine z_icmp_ge (q := 34) (tgt := 52) dX11_be_31 rfl rfl (fun hc => ?_) (fun hc => ?_)
  · have hf := hf.1 hc
    refine z_iconst (q := 53) (v := 0) dX11_be_52 rfl rfl ?_
    refine z_istore_n (q := 54) (i := 2) (ls2 := [some (.ref a0), some (.ref a1), some (.int 0)]) (x := 0) dX11_be_53 rfl (z_lt rfl) rfl rfl ?_
    exact hf
  · have hf := hf.2 hc
    refine z_aload_n (q := 35) (i := 0) (x := a0) dX11_be_34 rfl rfl rfl ?_
    refine z_get 9 0 (q := 38) (v := .ref (a0 + 1)) rfl (z_lt rfl) (z_L9_T g_1) q372 dX11_be_35 rfl (z_fvR (fun _ _ _ => rfl) (z_L9_P0 g_1)) ?_
    refine z_iload_n (q := 39) (i := 2) (x := x2) dX11_be_38 rfl rfl rfl ?_
    refine z_aload_n (q := 40) (i := 1) (x := a1) dX11_be_39 rfl rfl rfl ?_
    obtain ⟨g_2, hf⟩ := hf
    refine z_get 9 0 (q := 43) (v := .ref (a1 + 1)) rfl (z_lt rfl) (z_L9_T g_2) q372 dX11_be_40 rfl (z_fvR (fun _ _ _ => rfl) (z_L9_P0 g_2)) ?_
    refine z_iload_n (q := 44) (i := 2) (x := x2) dX11_be_43 rfl rfl rfl ?_
    obtain ⟨g_3, hf⟩ := hf
    refine z_iald (q := 45) (n := 48) (z_L9_A0 g_2) g_3 dX11_be_44 rfl ?_
    obtain ⟨g_4, hf⟩ := hf
    refine z_iast (q := 46) (n := 48) (z_L9_A0 g_1) g_4 dX11_be_45 rfl ?_
    refine z_iinc (q := 49) (i := 2) (x := x2) (v := (x2 + 1)) (ls2 := [some (.ref a0), some (.ref a1), some (.int (x2 + 1))]) dX11_be_46 rfl rfl (z_lt rfl) rfl rfl ?_
    refine z_goto (q := 26) dX11_be_49 rfl ?_
    exact hf

theorem b_X11_be_54 {l : Launch} {G : z_G} {a0 : Nat} {a1 : Nat} {x2 : Int32} {h : z_H} {Q : z_Q} (hd0 : a0 + 13 ≤ a1 ∨ a1 + 13 ≤ a0) (hf : z_L9 h a0 ∧ ((h.I a0 7) ≤ x2 → z_V l G m_X11_be (z_Fm G m_X11_be Q) 0 0 h 82 [some (.ref a0), some (.ref a1), some (.int 0)] []) ∧ (¬ (h.I a0 7) ≤ x2 → z_L9 h a1 ∧ vp_in x2 48 ∧ vp_in x2 48 ∧ z_V l G m_X11_be (z_Fm G m_X11_be Q) 0 0 (h.sI (a0 + 2) (Int32.toNatClampNeg x2) (h.I (a1 + 2) (Int32.toNatClampNeg x2))) 54 [some (.ref a0), some (.ref a1), some (.int (x2 + 1))] [])) : z_V l G m_X11_be (z_Fm G m_X11_be Q) 0 0 h 54 [some (.ref a0), some (.ref a1), some (.int x2)] [] := by
  refine z_iload_n (q := 55) (i := 2) (x := x2) dX11_be_54 rfl rfl rfl ?_
  refine z_aload_n (q := 56) (i := 0) (x := a0) dX11_be_55 rfl rfl rfl ?_
  obtain ⟨g_1, hf⟩ := hf
  refine z_get 9 7 (q := 59) (v := .int (h.I a0 7)) rfl (z_lt rfl) (z_L9_T g_1) q388 dX11_be_56 rfl rfl ?_
  refine z_icmp_ge (q := 62) (tgt := 80) dX11_be_59 rfl rfl (fun hc => ?_) (fun hc => ?_)
  · have hf := hf.1 hc
    refine z_iconst (q := 81) (v := 0) dX11_be_80 rfl rfl ?_
    refine z_istore_n (q := 82) (i := 2) (ls2 := [some (.ref a0), some (.ref a1), some (.int 0)]) (x := 0) dX11_be_81 rfl (z_lt rfl) rfl rfl ?_
    exact hf
  · have hf := hf.2 hc
    refine z_aload_n (q := 63) (i := 0) (x := a0) dX11_be_62 rfl rfl rfl ?_
    refine z_get 9 1 (q := 66) (v := .ref (a0 + 2)) rfl (z_lt rfl) (z_L9_T g_1) q375 dX11_be_63 rfl (z_fvR (fun _ _ _ => rfl) (z_L9_P1 g_1)) ?_
    refine z_iload_n (q := 67) (i := 2) (x := x2) dX11_be_66 rfl rfl rfl ?_
    refine z_aload_n (q := 68) (i := 1) (x := a1) dX11_be_67 rfl rfl rfl ?_
    obtain ⟨g_2, hf⟩ := hf
    refine z_get 9 1 (q := 71) (v := .ref (a1 + 2)) rfl (z_lt rfl) (z_L9_T g_2) q375 dX11_be_68 rfl (z_fvR (fun _ _ _ => rfl) (z_L9_P1 g_2)) ?_
    refine z_iload_n (q := 72) (i := 2) (x := x2) dX11_be_71 rfl rfl rfl ?_
    obtain ⟨g_3, hf⟩ := hf
    refine z_iald (q := 73) (n := 48) (z_L9_A1 g_2) g_3 dX11_be_72 rfl ?_
    obtain ⟨g_4, hf⟩ := hf
    refine z_iast (q := 74) (n := 48) (z_L9_A1 g_1) g_4 dX11_be_73 rfl ?_
    refine z_iinc (q := 77) (i := 2) (x := x2) (v := (x2 + 1)) (ls2 := [some (.ref a0), some (.ref a1), some (.int (x2 + 1))]) dX11_be_74 rfl rfl (z_lt rfl) rfl rfl ?_
    refine z_goto (q := 54) dX11_be_77 rfl ?_
    exact hf

theorem b_X11_be_82 {l : Launch} {G : z_G} {a0 : Nat} {a1 : Nat} {x2 : Int32} {h : z_H} {Q : z_Q} (hd0 : a0 + 13 ≤ a1 ∨ a1 + 13 ≤ a0) (hf : z_L9 h a0 ∧ ((h.I a0 8) ≤ x2 → z_L9 h a1 ∧ ((h.I a1 16) = 0 ∨ (h.I a1 16) = 1) ∧ Q none ((((((((h.sI a0 9 (h.I a1 9)).sI a0 10 (h.I a1 10)).sI a0 11 (h.I a1 11)).sI a0 12 (h.I a1 12)).sI a0 13 (h.I a1 13)).sI a0 14 (h.I a1 14)).sI a0 15 (h.I a1 15)).sI a0 16 (h.I a1 16))) ∧ (¬ (h.I a0 8) ≤ x2 → z_L9 h a1 ∧ vp_in x2 48 ∧ vp_in x2 48 ∧ z_V l G m_X11_be (z_Fm G m_X11_be Q) 0 0 (h.sI (a0 + 3) (Int32.toNatClampNeg x2) (h.I (a1 + 3) (Int32.toNatClampNeg x2))) 82 [some (.ref a0), some (.ref a1), some (.int (x2 + 1))] [])) : z_V l G m_X11_be (z_Fm G m_X11_be Q) 0 0 h 82 [some (.ref a0), some (.ref a1), some (.int x2)] [] := by
  refine z_iload_n (q := 83) (i := 2) (x := x2) dX11_be_82 rfl rfl rfl ?_
  refine z_aload_n (q := 84) (i := 0) (x := a0) dX11_be_83 rfl rfl rfl ?_
  obtain ⟨g_1, hf⟩ := hf
  refine z_get 9 8 (q := 87) (v := .int (h.I a0 8)) rfl (z_lt rfl) (z_L9_T g_1) q391 dX11_be_84 rfl rfl ?_
  refine z_icmp_ge (q := 90) (tgt := 108) dX11_be_87 rfl rfl (fun hc => ?_) (fun hc => ?_)
  · have hf := hf.1 hc
    refine z_aload_n (q := 109) (i := 0) (x := a0) dX11_be_108 rfl rfl rfl ?_
    refine z_aload_n (q := 110) (i := 1) (x := a1) dX11_be_109 rfl rfl rfl ?_
    obtain ⟨g_2, hf⟩ := hf
    refine z_get 9 9 (q := 113) (v := .int (h.I a1 9)) rfl (z_lt rfl) (z_L9_T g_2) q393 dX11_be_110 rfl rfl ?_
    refine z_putI 9 9 (q := 116) (x := (h.I a1 9)) (v := .int (h.I a1 9)) rfl (z_lt rfl) (z_L9_T g_1) q393 rfl dX11_be_113 rfl rfl rfl rfl (fun _ _ _ => rfl) ?_
    refine z_aload_n (q := 117) (i := 0) (x := a0) dX11_be_116 rfl rfl rfl ?_
    refine z_aload_n (q := 118) (i := 1) (x := a1) dX11_be_117 rfl rfl rfl ?_
    refine z_get 9 10 (q := 121) (v := .int (h.I a1 10)) rfl (z_lt rfl) (z_L9_T g_2) q395 dX11_be_118 rfl (congrArg Value.int (z_rIa (by omega))) ?_
    refine z_putI 9 10 (q := 124) (x := (h.I a1 10)) (v := .int (h.I a1 10)) rfl (z_lt rfl) (z_L9_T g_1) q395 rfl dX11_be_121 rfl rfl rfl rfl (fun _ _ _ => rfl) ?_
    refine z_aload_n (q := 125) (i := 0) (x := a0) dX11_be_124 rfl rfl rfl ?_
    refine z_aload_n (q := 126) (i := 1) (x := a1) dX11_be_125 rfl rfl rfl ?_
    refine z_get 9 11 (q := 129) (v := .int (h.I a1 11)) rfl (z_lt rfl) (z_L9_T g_2) q397 dX11_be_126 rfl (congrArg Value.int (Eq.trans (z_rIa (by omega)) (z_rIa (by omega)))) ?_
    refine z_putI 9 11 (q := 132) (x := (h.I a1 11)) (v := .int (h.I a1 11)) rfl (z_lt rfl) (z_L9_T g_1) q397 rfl dX11_be_129 rfl rfl rfl rfl (fun _ _ _ => rfl) ?_
    refine z_aload_n (q := 133) (i := 0) (x := a0) dX11_be_132 rfl rfl rfl ?_
    refine z_aload_n (q := 134) (i := 1) (x := a1) dX11_be_133 rfl rfl rfl ?_
    refine z_get 9 12 (q := 137) (v := .int (h.I a1 12)) rfl (z_lt rfl) (z_L9_T g_2) q400 dX11_be_134 rfl (congrArg Value.int (Eq.trans (z_rIa (by omega)) (Eq.trans (z_rIa (by omega)) (z_rIa (by omega))))) ?_
    refine z_putI 9 12 (q := 140) (x := (h.I a1 12)) (v := .int (h.I a1 12)) rfl (z_lt rfl) (z_L9_T g_1) q400 rfl dX11_be_137 rfl rfl rfl rfl (fun _ _ _ => rfl) ?_
    refine z_aload_n (q := 141) (i := 0) (x := a0) dX11_be_140 rfl rfl rfl ?_
    refine z_aload_n (q := 142) (i := 1) (x := a1) dX11_be_141 rfl rfl rfl ?_
    refine z_get 9 13 (q := 145) (v := .int (h.I a1 13)) rfl (z_lt rfl) (z_L9_T g_2) q403 dX11_be_142 rfl (congrArg Value.int (Eq.trans (z_rIa (by omega)) (Eq.trans (z_rIa (by omega)) (Eq.trans (z_rIa (by omega)) (z_rIa (by omega)))))) ?_
    refine z_putI 9 13 (q := 148) (x := (h.I a1 13)) (v := .int (h.I a1 13)) rfl (z_lt rfl) (z_L9_T g_1) q403 rfl dX11_be_145 rfl rfl rfl rfl (fun _ _ _ => rfl) ?_
    refine z_aload_n (q := 149) (i := 0) (x := a0) dX11_be_148 rfl rfl rfl ?_
    refine z_aload_n (q := 150) (i := 1) (x := a1) dX11_be_149 rfl rfl rfl ?_
    refine z_get 9 14 (q := 153) (v := .int (h.I a1 14)) rfl (z_lt rfl) (z_L9_T g_2) q406 dX11_be_150 rfl (congrArg Value.int (Eq.trans (z_rIa (by omega)) (Eq.trans (z_rIa (by omega)) (Eq.trans (z_rIa (by omega)) (Eq.trans (z_rIa (by omega)) (z_rIa (by omega))))))) ?_
    refine z_putI 9 14 (q := 156) (x := (h.I a1 14)) (v := .int (h.I a1 14)) rfl (z_lt rfl) (z_L9_T g_1) q406 rfl dX11_be_153 rfl rfl rfl rfl (fun _ _ _ => rfl) ?_
    refine z_aload_n (q := 157) (i := 0) (x := a0) dX11_be_156 rfl rfl rfl ?_
    refine z_aload_n (q := 158) (i := 1) (x := a1) dX11_be_157 rfl rfl rfl ?_
    refine z_get 9 15 (q := 161) (v := .int (h.I a1 15)) rfl (z_lt rfl) (z_L9_T g_2) q409 dX11_be_158 rfl (congrArg Value.int (Eq.trans (z_rIa (by omega)) (Eq.trans (z_rIa (by omega)) (Eq.trans (z_rIa (by omega)) (Eq.trans (z_rIa (by omega)) (Eq.trans (z_rIa (by omega)) (z_rIa (by omega)))))))) ?_
    refine z_putI 9 15 (q := 164) (x := (h.I a1 15)) (v := .int (h.I a1 15)) rfl (z_lt rfl) (z_L9_T g_1) q409 rfl dX11_be_161 rfl rfl rfl rfl (fun _ _ _ => rfl) ?_
    refine z_aload_n (q := 165) (i := 0) (x := a0) dX11_be_164 rfl rfl rfl ?_
    refine z_aload_n (q := 166) (i := 1) (x := a1) dX11_be_165 rfl rfl rfl ?_
    refine z_get 9 16 (q := 169) (v := .int (h.I a1 16)) rfl (z_lt rfl) (z_L9_T g_2) q411 dX11_be_166 rfl (congrArg Value.int (Eq.trans (z_rIa (by omega)) (Eq.trans (z_rIa (by omega)) (Eq.trans (z_rIa (by omega)) (Eq.trans (z_rIa (by omega)) (Eq.trans (z_rIa (by omega)) (Eq.trans (z_rIa (by omega)) (z_rIa (by omega))))))))) ?_
    obtain ⟨g_3, hf⟩ := hf
    refine z_putI 9 16 (q := 172) (x := (h.I a1 16)) (v := .int (h.I a1 16)) rfl (z_lt rfl) (z_L9_T g_1) q411 rfl dX11_be_169 rfl rfl (z_nb01 g_3) (z_fb01 g_3) (fun _ _ _ => rfl) ?_
    exact z_vret dX11_be_172 rfl hf
  · have hf := hf.2 hc
    refine z_aload_n (q := 91) (i := 0) (x := a0) dX11_be_90 rfl rfl rfl ?_
    refine z_get 9 2 (q := 94) (v := .ref (a0 + 3)) rfl (z_lt rfl) (z_L9_T g_1) q378 dX11_be_91 rfl (z_fvR (fun _ _ _ => rfl) (z_L9_P2 g_1)) ?_
    refine z_iload_n (q := 95) (i := 2) (x := x2) dX11_be_94 rfl rfl rfl ?_
    refine z_aload_n (q := 96) (i := 1) (x := a1) dX11_be_95 rfl rfl rfl ?_
    obtain ⟨g_4, hf⟩ := hf
    refine z_get 9 2 (q := 99) (v := .ref (a1 + 3)) rfl (z_lt rfl) (z_L9_T g_4) q378 dX11_be_96 rfl (z_fvR (fun _ _ _ => rfl) (z_L9_P2 g_4)) ?_
    refine z_iload_n (q := 100) (i := 2) (x := x2) dX11_be_99 rfl rfl rfl ?_
    obtain ⟨g_5, hf⟩ := hf
    refine z_iald (q := 101) (n := 48) (z_L9_A2 g_4) g_5 dX11_be_100 rfl ?_
    obtain ⟨g_6, hf⟩ := hf
    refine z_iast (q := 102) (n := 48) (z_L9_A2 g_1) g_6 dX11_be_101 rfl ?_
    refine z_iinc (q := 105) (i := 2) (x := x2) (v := (x2 + 1)) (ls2 := [some (.ref a0), some (.ref a1), some (.int (x2 + 1))]) dX11_be_102 rfl rfl (z_lt rfl) rfl rfl ?_
    refine z_goto (q := 82) dX11_be_105 rfl ?_
    exact hf

theorem u_X11_beWhole {l : Launch} {G : z_G} {a0 : Nat} {a1 : Nat} {h : z_H} {Q : z_Q} (hst : l.stackTraces = false) (hd0 : a0 + 13 ≤ a1 ∨ a1 + 13 ≤ a0) (hf : z_L9 h a0 ∧ z_Ct l G m_X11_be [.ref a0, .ref a1] h (z_Qv (fun h_2 => z_V l G m_X11_beWhole (z_Fm G m_X11_beWhole Q) 48 3072 h_2 7 [some (.ref a0), some (.ref a1), some (.int 0)] []))) : z_Ct l G m_X11_beWhole [.ref a0, .ref a1] h Q := by
  refine z_Ct.of (ls := [some (.ref a0), some (.ref a1), none]) hst rfl (by show plainName yX11_beWhole.cls = true; decide +kernel) (z_le rfl) rfl ?_
  show z_V l G m_X11_beWhole (z_Fm G m_X11_beWhole Q) 48 3072 h 0 [some (.ref a0), some (.ref a1), none] []
  refine z_aload_n (q := 1) (i := 0) (x := a0) dX11_beWhole_0 rfl rfl rfl ?_
  refine z_aload_n (q := 2) (i := 1) (x := a1) dX11_beWhole_1 rfl rfl rfl ?_
  obtain ⟨g_1, hf⟩ := hf
  refine z_cVv m_X11_be [.ref a1] (a0) (q := 5) (rc2 := 48) (rs2 := 3072) (st := []) dX11_beWhole_2 rfl q1299 oV_X11_be rfl rfl ⟨z_le rfl, z_le rfl⟩ (z_le rfl) (z_rcv_of 9 rfl (z_L9_T g_1) rfl) rfl  rfl hf (fun h_2 hf => ?_)
  refine z_iconst (q := 6) (v := 0) dX11_beWhole_5 rfl rfl ?_
  refine z_istore_n (q := 7) (i := 2) (ls2 := [some (.ref a0), some (.ref a1), some (.int 0)]) (x := 0) dX11_beWhole_6 rfl (z_lt rfl) rfl rfl ?_
  exact hf

theorem b_X11_beWhole_7 {l : Launch} {G : z_G} {rc rs : Nat} {a0 : Nat} {a1 : Nat} {x2 : Int32} {h : z_H} {Q : z_Q} (hd0 : a0 + 13 ≤ a1 ∨ a1 + 13 ≤ a0) (hf : z_L9 h a0 ∧ ((h.I a0 6) ≤ x2 → z_V l G m_X11_beWhole (z_Fm G m_X11_beWhole Q) rc rs h 35 [some (.ref a0), some (.ref a1), some (.int 0)] []) ∧ (¬ (h.I a0 6) ≤ x2 → z_L9 h a1 ∧ vp_in x2 48 ∧ vp_in x2 48 ∧ ((h.I (a1 + 5) (Int32.toNatClampNeg x2)) = 0 ∨ (h.I (a1 + 5) (Int32.toNatClampNeg x2)) = 1) ∧ z_V l G m_X11_beWhole (z_Fm G m_X11_beWhole Q) rc rs (h.sI (a0 + 5) (Int32.toNatClampNeg x2) (h.I (a1 + 5) (Int32.toNatClampNeg x2))) 7 [some (.ref a0), some (.ref a1), some (.int (x2 + 1))] [])) : z_V l G m_X11_beWhole (z_Fm G m_X11_beWhole Q) rc rs h 7 [some (.ref a0), some (.ref a1), some (.int x2)] [] := by
  refine z_iload_n (q := 8) (i := 2) (x := x2) dX11_beWhole_7 rfl rfl rfl ?_
  refine z_aload_n (q := 9) (i := 0) (x := a0) dX11_beWhole_8 rfl rfl rfl ?_
  obtain ⟨g_1, hf⟩ := hf
  refine z_get 9 6 (q := 12) (v := .int (h.I a0 6)) rfl (z_lt rfl) (z_L9_T g_1) q385 dX11_beWhole_9 rfl rfl ?_
  refine z_icmp_ge (q := 15) (tgt := 33) dX11_beWhole_12 rfl rfl (fun hc => ?_) (fun hc => ?_)
  · have hf := hf.1 hc
    refine z_iconst (q := 34) (v := 0) dX11_beWhole_33 rfl rfl ?_
    refine z_istore_n (q := 35) (i := 2) (ls2 := [some (.ref a0), some (.ref a1), some (.int 0)]) (x := 0) dX11_beWhole_34 rfl (z_lt rfl) rfl rfl ?_
    exact hf
  · have hf := hf.2 hc
    refine z_aload_n (q := 16) (i := 0) (x := a0) dX11_beWhole_15 rfl rfl rfl ?_
    refine z_get 9 4 (q := 19) (v := .ref (a0 + 5)) rfl (z_lt rfl) (z_L9_T g_1) q381 dX11_beWhole_16 rfl (z_fvR (fun _ _ _ => rfl) (z_L9_P4 g_1)) ?_
    refine z_iload_n (q := 20) (i := 2) (x := x2) dX11_beWhole_19 rfl rfl rfl ?_
    refine z_aload_n (q := 21) (i := 1) (x := a1) dX11_beWhole_20 rfl rfl rfl ?_
    obtain ⟨g_2, hf⟩ := hf
    refine z_get 9 4 (q := 24) (v := .ref (a1 + 5)) rfl (z_lt rfl) (z_L9_T g_2) q381 dX11_beWhole_21 rfl (z_fvR (fun _ _ _ => rfl) (z_L9_P4 g_2)) ?_
    refine z_iload_n (q := 25) (i := 2) (x := x2) dX11_beWhole_24 rfl rfl rfl ?_
    obtain ⟨g_3, hf⟩ := hf
    refine z_zald (q := 26) (n := 48) (z_L9_A4 g_2) g_3 dX11_beWhole_25 rfl ?_
    obtain ⟨g_4, hf⟩ := hf
    obtain ⟨g_5, hf⟩ := hf
    refine z_zast (q := 27) (n := 48) (y := (h.I (a1 + 5) (Int32.toNatClampNeg x2))) (z_L9_A4 g_1) g_4 (z_nb01 g_5) dX11_beWhole_26 rfl ?_
    refine z_iinc (q := 30) (i := 2) (x := x2) (v := (x2 + 1)) (ls2 := [some (.ref a0), some (.ref a1), some (.int (x2 + 1))]) dX11_beWhole_27 rfl rfl (z_lt rfl) rfl rfl ?_
    refine z_goto (q := 7) dX11_beWhole_30 rfl ?_
    exact hf

theorem b_X11_beWhole_35 {l : Launch} {G : z_G} {rc rs : Nat} {a0 : Nat} {a1 : Nat} {x2 : Int32} {h : z_H} {Q : z_Q} (hd0 : a0 + 13 ≤ a1 ∨ a1 + 13 ≤ a0) (hf : z_L9 h a0 ∧ ((h.I a0 7) ≤ x2 → z_Ct l G m_J2_clear [.ref (a0 + 7)] h (z_Qv (fun h_2 => z_V l G m_X11_beWhole (z_Fm G m_X11_beWhole Q) rc rs h_2 70 [some (.ref a0), some (.ref a1), some (.int 0)] []))) ∧ (¬ (h.I a0 7) ≤ x2 → z_L9 h a1 ∧ vp_in x2 48 ∧ vp_in x2 48 ∧ ((h.I (a1 + 6) (Int32.toNatClampNeg x2)) = 0 ∨ (h.I (a1 + 6) (Int32.toNatClampNeg x2)) = 1) ∧ z_V l G m_X11_beWhole (z_Fm G m_X11_beWhole Q) rc rs (h.sI (a0 + 6) (Int32.toNatClampNeg x2) (h.I (a1 + 6) (Int32.toNatClampNeg x2))) 35 [some (.ref a0), some (.ref a1), some (.int (x2 + 1))] [])) : z_V l G m_X11_beWhole (z_Fm G m_X11_beWhole Q) rc rs h 35 [some (.ref a0), some (.ref a1), some (.int x2)] [] := by
  refine z_iload_n (q := 36) (i := 2) (x := x2) dX11_beWhole_35 rfl rfl rfl ?_
  refine z_aload_n (q := 37) (i := 0) (x := a0) dX11_beWhole_36 rfl rfl rfl ?_
  obtain ⟨g_1, hf⟩ := hf
  refine z_get 9 7 (q := 40) (v := .int (h.I a0 7)) rfl (z_lt rfl) (z_L9_T g_1) q388 dX11_beWhole_37 rfl rfl ?_
  refine z_icmp_ge (q := 43) (tgt := 61) dX11_beWhole_40 rfl rfl (fun hc => ?_) (fun hc => ?_)
  · have hf := hf.1 hc
    refine z_aload_n (q := 62) (i := 0) (x := a0) dX11_beWhole_61 rfl rfl rfl ?_
    refine z_get 9 17 (q := 65) (v := .ref (a0 + 7)) rfl (z_lt rfl) (z_L9_T g_1) q413 dX11_beWhole_62 rfl (z_fvR (fun _ _ _ => rfl) (z_L9_P17 g_1)) ?_
    refine z_cVv m_J2_clear [] ((a0 + 7)) (q := 68) (rc2 := rc) (rs2 := rs) (st := []) dX11_beWhole_65 rfl q500 oV_J2_clear rfl rfl ⟨z_le rfl, z_le rfl⟩ (z_le rfl) (z_rcv_of 21 rfl (z_L9_N17 g_1) rfl) rfl  rfl hf (fun h_2 hf => ?_)
    refine z_iconst (q := 69) (v := 0) dX11_beWhole_68 rfl rfl ?_
    refine z_istore_n (q := 70) (i := 2) (ls2 := [some (.ref a0), some (.ref a1), some (.int 0)]) (x := 0) dX11_beWhole_69 rfl (z_lt rfl) rfl rfl ?_
    exact hf
  · have hf := hf.2 hc
    refine z_aload_n (q := 44) (i := 0) (x := a0) dX11_beWhole_43 rfl rfl rfl ?_
    refine z_get 9 5 (q := 47) (v := .ref (a0 + 6)) rfl (z_lt rfl) (z_L9_T g_1) q383 dX11_beWhole_44 rfl (z_fvR (fun _ _ _ => rfl) (z_L9_P5 g_1)) ?_
    refine z_iload_n (q := 48) (i := 2) (x := x2) dX11_beWhole_47 rfl rfl rfl ?_
    refine z_aload_n (q := 49) (i := 1) (x := a1) dX11_beWhole_48 rfl rfl rfl ?_
    obtain ⟨g_3, hf⟩ := hf
    refine z_get 9 5 (q := 52) (v := .ref (a1 + 6)) rfl (z_lt rfl) (z_L9_T g_3) q383 dX11_beWhole_49 rfl (z_fvR (fun _ _ _ => rfl) (z_L9_P5 g_3)) ?_
    refine z_iload_n (q := 53) (i := 2) (x := x2) dX11_beWhole_52 rfl rfl rfl ?_
    obtain ⟨g_4, hf⟩ := hf
    refine z_zald (q := 54) (n := 48) (z_L9_A5 g_3) g_4 dX11_beWhole_53 rfl ?_
    obtain ⟨g_5, hf⟩ := hf
    obtain ⟨g_6, hf⟩ := hf
    refine z_zast (q := 55) (n := 48) (y := (h.I (a1 + 6) (Int32.toNatClampNeg x2))) (z_L9_A5 g_1) g_5 (z_nb01 g_6) dX11_beWhole_54 rfl ?_
    refine z_iinc (q := 58) (i := 2) (x := x2) (v := (x2 + 1)) (ls2 := [some (.ref a0), some (.ref a1), some (.int (x2 + 1))]) dX11_beWhole_55 rfl rfl (z_lt rfl) rfl rfl ?_
    refine z_goto (q := 35) dX11_beWhole_58 rfl ?_
    exact hf

theorem b_X11_beWhole_70 {l : Launch} {G : z_G} {rc rs : Nat} {a0 : Nat} {a1 : Nat} {x2 : Int32} {h : z_H} {Q : z_Q} (hd0 : a0 + 13 ≤ a1 ∨ a1 + 13 ≤ a0) (hf : z_L9 h a1 ∧ z_Ct l G m_J2_size [.ref (a1 + 7)] h (z_Qi (fun x_2 h_3 => (x_2 ≤ x2 → z_L9 h_3 a0 ∧ z_Ct l G m_J2_clear [.ref (a0 + 9)] h_3 (z_Qv (fun h_5 => z_V l G m_X11_beWhole (z_Fm G m_X11_beWhole Q) rc rs h_5 115 [some (.ref a0), some (.ref a1), some (.int 0)] []))) ∧ (¬ x_2 ≤ x2 → z_L9 h_3 a0 ∧ z_L9 h_3 a1 ∧ z_Ct l G m_J2_get [.ref (a1 + 7), .int x2] h_3 (z_Qr (fun b_8 h_9 => (h_9.T b_8).1 = 28 ∧ ∃ rc_11, rc = rc_11 + 1 ∧ ∃ rs_13, rs = rs_13 + 64 ∧ (h_9.T (a0 + 7)).1 = 31 ∧ z_Ct l G m_J2_add [.ref (a0 + 7), .ref b_8] h_9 (z_Qi (fun x_16 h_17 => z_V l G m_X11_beWhole (z_Fm G m_X11_beWhole Q) rc_11 rs_13 h_17 70 [some (.ref a0), some (.ref a1), some (.int (x2 + 1))] [])))))))) : z_V l G m_X11_beWhole (z_Fm G m_X11_beWhole Q) rc rs h 70 [some (.ref a0), some (.ref a1), some (.int x2)] [] := by
  refine z_iload_n (q := 71) (i := 2) (x := x2) dX11_beWhole_70 rfl rfl rfl ?_
  refine z_aload_n (q := 72) (i := 1) (x := a1) dX11_beWhole_71 rfl rfl rfl ?_
  obtain ⟨g_1, hf⟩ := hf
  refine z_get 9 17 (q := 75) (v := .ref (a1 + 7)) rfl (z_lt rfl) (z_L9_T g_1) q413 dX11_beWhole_72 rfl (z_fvR (fun _ _ _ => rfl) (z_L9_P17 g_1)) ?_
  refine z_cVi m_J2_size [] ((a1 + 7)) (q := 78) (rc2 := rc) (rs2 := rs) (st := [.int x2]) dX11_beWhole_75 rfl q1303 oV_J2_size rfl rfl ⟨z_le rfl, z_le rfl⟩ (z_le rfl) (z_rcv_of 21 rfl (z_L9_N17 g_1) rfl) rfl  rfl hf (fun x_2 h_3 hf => ?_)
  refine z_icmp_ge (q := 81) (tgt := 106) dX11_beWhole_78 rfl rfl (fun hc => ?_) (fun hc => ?_)
  · have hf := hf.1 hc
    refine z_aload_n (q := 107) (i := 0) (x := a0) dX11_beWhole_106 rfl rfl rfl ?_
    obtain ⟨g_4, hf⟩ := hf
    refine z_get 9 18 (q := 110) (v := .ref (a0 + 9)) rfl (z_lt rfl) (z_L9_T g_4) q415 dX11_beWhole_107 rfl (z_fvR (fun _ _ _ => rfl) (z_L9_P18 g_4)) ?_
    refine z_cVv m_J2_clear [] ((a0 + 9)) (q := 113) (rc2 := rc) (rs2 := rs) (st := []) dX11_beWhole_110 rfl q500 oV_J2_clear rfl rfl ⟨z_le rfl, z_le rfl⟩ (z_le rfl) (z_rcv_of 21 rfl (z_L9_N18 g_4) rfl) rfl  rfl hf (fun h_5 hf => ?_)
    refine z_iconst (q := 114) (v := 0) dX11_beWhole_113 rfl rfl ?_
    refine z_istore_n (q := 115) (i := 2) (ls2 := [some (.ref a0), some (.ref a1), some (.int 0)]) (x := 0) dX11_beWhole_114 rfl (z_lt rfl) rfl rfl ?_
    exact hf
  · have hf := hf.2 hc
    refine z_aload_n (q := 82) (i := 0) (x := a0) dX11_beWhole_81 rfl rfl rfl ?_
    obtain ⟨g_6, hf⟩ := hf
    refine z_get 9 17 (q := 85) (v := .ref (a0 + 7)) rfl (z_lt rfl) (z_L9_T g_6) q413 dX11_beWhole_82 rfl (z_fvR (fun _ _ _ => rfl) (z_L9_P17 g_6)) ?_
    refine z_aload_n (q := 86) (i := 1) (x := a1) dX11_beWhole_85 rfl rfl rfl ?_
    obtain ⟨g_7, hf⟩ := hf
    refine z_get 9 17 (q := 89) (v := .ref (a1 + 7)) rfl (z_lt rfl) (z_L9_T g_7) q413 dX11_beWhole_86 rfl (z_fvR (fun _ _ _ => rfl) (z_L9_P17 g_7)) ?_
    refine z_iload_n (q := 90) (i := 2) (x := x2) dX11_beWhole_89 rfl rfl rfl ?_
    refine z_cVr m_J2_get [.int x2] ((a1 + 7)) (q := 93) (rc2 := rc) (rs2 := rs) (st := [.ref (a0 + 7)]) dX11_beWhole_90 rfl q1304 oV_J2_get rfl rfl ⟨z_le rfl, z_le rfl⟩ (z_le rfl) (z_rcv_of 21 rfl (z_L9_N17 g_7) rfl) rfl  rfl hf (fun b_8 h_9 hf => ?_)
    obtain ⟨g_10, hf⟩ := hf
    refine z_cast (C0 := "BeggarHeaps$Heap") (nm := "BeggarHeaps$Heap") (z_rcv_of 18 rfl g_10 rfl) (Or.inl rfl) q1305 dX11_beWhole_93 rfl ?_
    obtain ⟨rc_11, g_12, hf⟩ := hf
    obtain ⟨rs_13, g_14, hf⟩ := hf
    obtain ⟨g_15, hf⟩ := hf
    refine z_cVi m_J2_add [.ref b_8] ((a0 + 7)) (q := 99) (rc2 := rc_11) (rs2 := rs_13) (st := []) dX11_beWhole_96 rfl q1306 oV_J2_add rfl rfl ⟨z_le rfl, z_le rfl⟩ (z_le rfl) (z_rcv_of 21 rfl g_15 rfl) g_12  g_14 hf (fun x_16 h_17 hf => ?_)
    refine z_pop (q := 100) dX11_beWhole_99 rfl rfl ?_
    refine z_iinc (q := 103) (i := 2) (x := x2) (v := (x2 + 1)) (ls2 := [some (.ref a0), some (.ref a1), some (.int (x2 + 1))]) dX11_beWhole_100 rfl rfl (z_lt rfl) rfl rfl ?_
    refine z_goto (q := 70) dX11_beWhole_103 rfl ?_
    exact hf

theorem b_X11_beWhole_115 {l : Launch} {G : z_G} {rc rs : Nat} {a0 : Nat} {a1 : Nat} {x2 : Int32} {h : z_H} {Q : z_Q} (hd0 : a0 + 13 ≤ a1 ∨ a1 + 13 ≤ a0) (hf : z_L9 h a1 ∧ z_Ct l G m_J2_size [.ref (a1 + 9)] h (z_Qi (fun x_2 h_3 => (x_2 ≤ x2 → z_L9 h_3 a1 ∧ z_L9 h_3 a0 ∧ z_Ct l G m_X1_copies [.ref (a1 + 11), .ref (a0 + 11)] h_3 (z_Qv (fun h_6 => z_L9 h_6 a1 ∧ z_L9 h_6 a0 ∧ z_Ct l G m_X1_copies [.ref (a1 + 12), .ref (a0 + 12)] h_6 (z_Qv (fun h_9 => z_L9 h_9 a1 ∧ z_L9 h_9 a0 ∧ Q none (((h_9.sI a0 21 (h_9.I a1 21)).sI a0 22 (h_9.I a1 22)).sI a0 23 (h_9.I a1 23))))))) ∧ (¬ x_2 ≤ x2 → z_L9 h_3 a0 ∧ z_L9 h_3 a1 ∧ z_Ct l G m_J2_get [.ref (a1 + 9), .int x2] h_3 (z_Qr (fun b_14 h_15 => (h_15.T b_14).1 = 29 ∧ ∃ rc_17, rc = rc_17 + 1 ∧ ∃ rs_19, rs = rs_19 + 64 ∧ (h_15.T (a0 + 9)).1 = 31 ∧ z_Ct l G m_J2_add [.ref (a0 + 9), .ref b_14] h_15 (z_Qi (fun x_22 h_23 => z_V l G m_X11_beWhole (z_Fm G m_X11_beWhole Q) rc_17 rs_19 h_23 115 [some (.ref a0), some (.ref a1), some (.int (x2 + 1))] [])))))))) : z_V l G m_X11_beWhole (z_Fm G m_X11_beWhole Q) rc rs h 115 [some (.ref a0), some (.ref a1), some (.int x2)] [] := by
  refine z_iload_n (q := 116) (i := 2) (x := x2) dX11_beWhole_115 rfl rfl rfl ?_
  refine z_aload_n (q := 117) (i := 1) (x := a1) dX11_beWhole_116 rfl rfl rfl ?_
  obtain ⟨g_1, hf⟩ := hf
  refine z_get 9 18 (q := 120) (v := .ref (a1 + 9)) rfl (z_lt rfl) (z_L9_T g_1) q415 dX11_beWhole_117 rfl (z_fvR (fun _ _ _ => rfl) (z_L9_P18 g_1)) ?_
  refine z_cVi m_J2_size [] ((a1 + 9)) (q := 123) (rc2 := rc) (rs2 := rs) (st := [.int x2]) dX11_beWhole_120 rfl q1303 oV_J2_size rfl rfl ⟨z_le rfl, z_le rfl⟩ (z_le rfl) (z_rcv_of 21 rfl (z_L9_N18 g_1) rfl) rfl  rfl hf (fun x_2 h_3 hf => ?_)
  refine z_icmp_ge (q := 126) (tgt := 151) dX11_beWhole_123 rfl rfl (fun hc => ?_) (fun hc => ?_)
  · have hf := hf.1 hc
    refine z_aload_n (q := 152) (i := 1) (x := a1) dX11_beWhole_151 rfl rfl rfl ?_
    obtain ⟨g_4, hf⟩ := hf
    refine z_get 9 19 (q := 155) (v := .ref (a1 + 11)) rfl (z_lt rfl) (z_L9_T g_4) q417 dX11_beWhole_152 rfl (z_fvR (fun _ _ _ => rfl) (z_L9_P19 g_4)) ?_
    refine z_aload_n (q := 156) (i := 0) (x := a0) dX11_beWhole_155 rfl rfl rfl ?_
    obtain ⟨g_5, hf⟩ := hf
    refine z_get 9 19 (q := 159) (v := .ref (a0 + 11)) rfl (z_lt rfl) (z_L9_T g_5) q417 dX11_beWhole_156 rfl (z_fvR (fun _ _ _ => rfl) (z_L9_P19 g_5)) ?_
    refine z_cSNv m_X1_copies [.ref (a1 + 11), .ref (a0 + 11)] (q := 162) (rc2 := rc) (rs2 := rs) (st := []) dX11_beWhole_159 rfl (z_nwm q1308 rfl) oS_X1_copies rfl rfl ⟨z_le rfl, z_le rfl⟩ (z_le rfl) rfl  rfl hf (fun h_6 hf => ?_)
    refine z_aload_n (q := 163) (i := 1) (x := a1) dX11_beWhole_162 rfl rfl rfl ?_
    obtain ⟨g_7, hf⟩ := hf
    refine z_get 9 20 (q := 166) (v := .ref (a1 + 12)) rfl (z_lt rfl) (z_L9_T g_7) q419 dX11_beWhole_163 rfl (z_fvR (fun _ _ _ => rfl) (z_L9_P20 g_7)) ?_
    refine z_aload_n (q := 167) (i := 0) (x := a0) dX11_beWhole_166 rfl rfl rfl ?_
    obtain ⟨g_8, hf⟩ := hf
    refine z_get 9 20 (q := 170) (v := .ref (a0 + 12)) rfl (z_lt rfl) (z_L9_T g_8) q419 dX11_beWhole_167 rfl (z_fvR (fun _ _ _ => rfl) (z_L9_P20 g_8)) ?_
    refine z_cSNv m_X1_copies [.ref (a1 + 12), .ref (a0 + 12)] (q := 173) (rc2 := rc) (rs2 := rs) (st := []) dX11_beWhole_170 rfl (z_nwm q1308 rfl) oS_X1_copies rfl rfl ⟨z_le rfl, z_le rfl⟩ (z_le rfl) rfl  rfl hf (fun h_9 hf => ?_)
    refine z_aload_n (q := 174) (i := 0) (x := a0) dX11_beWhole_173 rfl rfl rfl ?_
    refine z_aload_n (q := 175) (i := 1) (x := a1) dX11_beWhole_174 rfl rfl rfl ?_
    obtain ⟨g_10, hf⟩ := hf
    refine z_get 9 21 (q := 178) (v := .int (h_9.I a1 21)) rfl (z_lt rfl) (z_L9_T g_10) q421 dX11_beWhole_175 rfl rfl ?_
    obtain ⟨g_11, hf⟩ := hf
    refine z_putI 9 21 (q := 181) (x := (h_9.I a1 21)) (v := .int (h_9.I a1 21)) rfl (z_lt rfl) (z_L9_T g_11) q421 rfl dX11_beWhole_178 rfl rfl rfl rfl (fun _ _ _ => rfl) ?_
    refine z_aload_n (q := 182) (i := 0) (x := a0) dX11_beWhole_181 rfl rfl rfl ?_
    refine z_aload_n (q := 183) (i := 1) (x := a1) dX11_beWhole_182 rfl rfl rfl ?_
    refine z_get 9 22 (q := 186) (v := .int (h_9.I a1 22)) rfl (z_lt rfl) (z_L9_T g_10) q423 dX11_beWhole_183 rfl (congrArg Value.int (z_rIa (by omega))) ?_
    refine z_putI 9 22 (q := 189) (x := (h_9.I a1 22)) (v := .int (h_9.I a1 22)) rfl (z_lt rfl) (z_L9_T g_11) q423 rfl dX11_beWhole_186 rfl rfl rfl rfl (fun _ _ _ => rfl) ?_
    refine z_aload_n (q := 190) (i := 0) (x := a0) dX11_beWhole_189 rfl rfl rfl ?_
    refine z_aload_n (q := 191) (i := 1) (x := a1) dX11_beWhole_190 rfl rfl rfl ?_
    refine z_get 9 23 (q := 194) (v := .int (h_9.I a1 23)) rfl (z_lt rfl) (z_L9_T g_10) q425 dX11_beWhole_191 rfl (congrArg Value.int (Eq.trans (z_rIa (by omega)) (z_rIa (by omega)))) ?_
    refine z_putI 9 23 (q := 197) (x := (h_9.I a1 23)) (v := .int (h_9.I a1 23)) rfl (z_lt rfl) (z_L9_T g_11) q425 rfl dX11_beWhole_194 rfl rfl rfl rfl (fun _ _ _ => rfl) ?_
    exact z_vret dX11_beWhole_197 rfl hf
  · have hf := hf.2 hc
    refine z_aload_n (q := 127) (i := 0) (x := a0) dX11_beWhole_126 rfl rfl rfl ?_
    obtain ⟨g_12, hf⟩ := hf
    refine z_get 9 18 (q := 130) (v := .ref (a0 + 9)) rfl (z_lt rfl) (z_L9_T g_12) q415 dX11_beWhole_127 rfl (z_fvR (fun _ _ _ => rfl) (z_L9_P18 g_12)) ?_
    refine z_aload_n (q := 131) (i := 1) (x := a1) dX11_beWhole_130 rfl rfl rfl ?_
    obtain ⟨g_13, hf⟩ := hf
    refine z_get 9 18 (q := 134) (v := .ref (a1 + 9)) rfl (z_lt rfl) (z_L9_T g_13) q415 dX11_beWhole_131 rfl (z_fvR (fun _ _ _ => rfl) (z_L9_P18 g_13)) ?_
    refine z_iload_n (q := 135) (i := 2) (x := x2) dX11_beWhole_134 rfl rfl rfl ?_
    refine z_cVr m_J2_get [.int x2] ((a1 + 9)) (q := 138) (rc2 := rc) (rs2 := rs) (st := [.ref (a0 + 9)]) dX11_beWhole_135 rfl q1304 oV_J2_get rfl rfl ⟨z_le rfl, z_le rfl⟩ (z_le rfl) (z_rcv_of 21 rfl (z_L9_N18 g_13) rfl) rfl  rfl hf (fun b_14 h_15 hf => ?_)
    obtain ⟨g_16, hf⟩ := hf
    refine z_cast (C0 := "BeggarHeaps$Bet") (nm := "BeggarHeaps$Bet") (z_rcv_of 19 rfl g_16 rfl) (Or.inl rfl) q1307 dX11_beWhole_138 rfl ?_
    obtain ⟨rc_17, g_18, hf⟩ := hf
    obtain ⟨rs_19, g_20, hf⟩ := hf
    obtain ⟨g_21, hf⟩ := hf
    refine z_cVi m_J2_add [.ref b_14] ((a0 + 9)) (q := 144) (rc2 := rc_17) (rs2 := rs_19) (st := []) dX11_beWhole_141 rfl q1306 oV_J2_add rfl rfl ⟨z_le rfl, z_le rfl⟩ (z_le rfl) (z_rcv_of 21 rfl g_21 rfl) g_18  g_20 hf (fun x_22 h_23 hf => ?_)
    refine z_pop (q := 145) dX11_beWhole_144 rfl rfl ?_
    refine z_iinc (q := 148) (i := 2) (x := x2) (v := (x2 + 1)) (ls2 := [some (.ref a0), some (.ref a1), some (.int (x2 + 1))]) dX11_beWhole_145 rfl rfl (z_lt rfl) rfl rfl ?_
    refine z_goto (q := 115) dX11_beWhole_148 rfl ?_
    exact hf

theorem u_X11_begin {l : Launch} {G : z_G} {a0 : Nat} {x1 : Int32} {h : z_H} {Q : z_Q} (hst : l.stackTraces = false)  (hf : z_L9 h a0 ∧ z_Ct l G m_J2_clear [.ref (a0 + 7)] (((((((((((h.sI a0 6 0).sI a0 7 0).sI a0 8 0).sI a0 9 0).sI a0 10 (-1)).sI a0 11 x1).sI a0 12 (-1)).sI a0 13 0).sI a0 14 0).sI a0 15 0).sI a0 16 0) (z_Qv (fun h_2 => z_L9 h_2 a0 ∧ z_Ct l G m_J2_clear [.ref (a0 + 9)] h_2 (z_Qv (fun h_4 => z_L9 h_4 a0 ∧ Q none (((h_4.sI a0 21 0).sI a0 22 0).sI a0 23 100)))))) : z_Ct l G m_X11_begin [.ref a0, .int x1] h Q := by
  refine z_Ct.of (ls := [some (.ref a0), some (.int x1)]) hst rfl (by show plainName yX11_begin.cls = true; decide +kernel) (z_le rfl) rfl ?_
  show z_V l G m_X11_begin (z_Fm G m_X11_begin Q) 0 0 h 0 [some (.ref a0), some (.int x1)] []
  refine z_aload_n (q := 1) (i := 0) (x := a0) dX11_begin_0 rfl rfl rfl ?_
  refine z_iconst (q := 2) (v := 0) dX11_begin_1 rfl rfl ?_
  obtain ⟨g_1, hf⟩ := hf
  refine z_putI 9 6 (q := 5) (x := 0) (v := .int 0) rfl (z_lt rfl) (z_L9_T g_1) q385 rfl dX11_begin_2 rfl rfl rfl rfl (fun _ _ _ => rfl) ?_
  refine z_aload_n (q := 6) (i := 0) (x := a0) dX11_begin_5 rfl rfl rfl ?_
  refine z_iconst (q := 7) (v := 0) dX11_begin_6 rfl rfl ?_
  refine z_putI 9 7 (q := 10) (x := 0) (v := .int 0) rfl (z_lt rfl) (z_L9_T g_1) q388 rfl dX11_begin_7 rfl rfl rfl rfl (fun _ _ _ => rfl) ?_
  refine z_aload_n (q := 11) (i := 0) (x := a0) dX11_begin_10 rfl rfl rfl ?_
  refine z_iconst (q := 12) (v := 0) dX11_begin_11 rfl rfl ?_
  refine z_putI 9 8 (q := 15) (x := 0) (v := .int 0) rfl (z_lt rfl) (z_L9_T g_1) q391 rfl dX11_begin_12 rfl rfl rfl rfl (fun _ _ _ => rfl) ?_
  refine z_aload_n (q := 16) (i := 0) (x := a0) dX11_begin_15 rfl rfl rfl ?_
  refine z_iconst (q := 17) (v := 0) dX11_begin_16 rfl rfl ?_
  refine z_putI 9 9 (q := 20) (x := 0) (v := .int 0) rfl (z_lt rfl) (z_L9_T g_1) q393 rfl dX11_begin_17 rfl rfl rfl rfl (fun _ _ _ => rfl) ?_
  refine z_aload_n (q := 21) (i := 0) (x := a0) dX11_begin_20 rfl rfl rfl ?_
  refine z_iconst (q := 22) (v := (-1)) dX11_begin_21 rfl rfl ?_
  refine z_putI 9 10 (q := 25) (x := (-1)) (v := .int (-1)) rfl (z_lt rfl) (z_L9_T g_1) q395 rfl dX11_begin_22 rfl rfl rfl rfl (fun _ _ _ => rfl) ?_
  refine z_aload_n (q := 26) (i := 0) (x := a0) dX11_begin_25 rfl rfl rfl ?_
  refine z_iload_n (q := 27) (i := 1) (x := x1) dX11_begin_26 rfl rfl rfl ?_
  refine z_putI 9 11 (q := 30) (x := x1) (v := .int x1) rfl (z_lt rfl) (z_L9_T g_1) q397 rfl dX11_begin_27 rfl rfl rfl rfl (fun _ _ _ => rfl) ?_
  refine z_aload_n (q := 31) (i := 0) (x := a0) dX11_begin_30 rfl rfl rfl ?_
  refine z_iconst (q := 32) (v := (-1)) dX11_begin_31 rfl rfl ?_
  refine z_putI 9 12 (q := 35) (x := (-1)) (v := .int (-1)) rfl (z_lt rfl) (z_L9_T g_1) q400 rfl dX11_begin_32 rfl rfl rfl rfl (fun _ _ _ => rfl) ?_
  refine z_aload_n (q := 36) (i := 0) (x := a0) dX11_begin_35 rfl rfl rfl ?_
  refine z_iconst (q := 37) (v := 0) dX11_begin_36 rfl rfl ?_
  refine z_putI 9 13 (q := 40) (x := 0) (v := .int 0) rfl (z_lt rfl) (z_L9_T g_1) q403 rfl dX11_begin_37 rfl rfl rfl rfl (fun _ _ _ => rfl) ?_
  refine z_aload_n (q := 41) (i := 0) (x := a0) dX11_begin_40 rfl rfl rfl ?_
  refine z_iconst (q := 42) (v := 0) dX11_begin_41 rfl rfl ?_
  refine z_putI 9 14 (q := 45) (x := 0) (v := .int 0) rfl (z_lt rfl) (z_L9_T g_1) q406 rfl dX11_begin_42 rfl rfl rfl rfl (fun _ _ _ => rfl) ?_
  refine z_aload_n (q := 46) (i := 0) (x := a0) dX11_begin_45 rfl rfl rfl ?_
  refine z_iconst (q := 47) (v := 0) dX11_begin_46 rfl rfl ?_
  refine z_putI 9 15 (q := 50) (x := 0) (v := .int 0) rfl (z_lt rfl) (z_L9_T g_1) q409 rfl dX11_begin_47 rfl rfl rfl rfl (fun _ _ _ => rfl) ?_
  refine z_aload_n (q := 51) (i := 0) (x := a0) dX11_begin_50 rfl rfl rfl ?_
  refine z_iconst (q := 52) (v := 0) dX11_begin_51 rfl rfl ?_
  refine z_putI 9 16 (q := 55) (x := 0) (v := .int 0) rfl (z_lt rfl) (z_L9_T g_1) q411 rfl dX11_begin_52 rfl rfl rfl rfl (fun _ _ _ => rfl) ?_
  refine z_aload_n (q := 56) (i := 0) (x := a0) dX11_begin_55 rfl rfl rfl ?_
  refine z_get 9 17 (q := 59) (v := .ref (a0 + 7)) rfl (z_lt rfl) (z_L9_T g_1) q413 dX11_begin_56 rfl (z_fvR (fun _ _ _ => rfl) (z_L9_P17 g_1)) ?_
  refine z_cVv m_J2_clear [] ((a0 + 7)) (q := 62) (rc2 := 0) (rs2 := 0) (st := []) dX11_begin_59 rfl q500 oV_J2_clear rfl rfl ⟨z_le rfl, z_le rfl⟩ (z_le rfl) (z_rcv_of 21 rfl (z_L9_N17 g_1) rfl) rfl  rfl hf (fun h_2 hf => ?_)
  refine z_aload_n (q := 63) (i := 0) (x := a0) dX11_begin_62 rfl rfl rfl ?_
  obtain ⟨g_3, hf⟩ := hf
  refine z_get 9 18 (q := 66) (v := .ref (a0 + 9)) rfl (z_lt rfl) (z_L9_T g_3) q415 dX11_begin_63 rfl (z_fvR (fun _ _ _ => rfl) (z_L9_P18 g_3)) ?_
  refine z_cVv m_J2_clear [] ((a0 + 9)) (q := 69) (rc2 := 0) (rs2 := 0) (st := []) dX11_begin_66 rfl q500 oV_J2_clear rfl rfl ⟨z_le rfl, z_le rfl⟩ (z_le rfl) (z_rcv_of 21 rfl (z_L9_N18 g_3) rfl) rfl  rfl hf (fun h_4 hf => ?_)
  refine z_aload_n (q := 70) (i := 0) (x := a0) dX11_begin_69 rfl rfl rfl ?_
  refine z_iconst (q := 71) (v := 0) dX11_begin_70 rfl rfl ?_
  obtain ⟨g_5, hf⟩ := hf
  refine z_putI 9 21 (q := 74) (x := 0) (v := .int 0) rfl (z_lt rfl) (z_L9_T g_5) q421 rfl dX11_begin_71 rfl rfl rfl rfl (fun _ _ _ => rfl) ?_
  refine z_aload_n (q := 75) (i := 0) (x := a0) dX11_begin_74 rfl rfl rfl ?_
  refine z_iconst (q := 76) (v := 0) dX11_begin_75 rfl rfl ?_
  refine z_putI 9 22 (q := 79) (x := 0) (v := .int 0) rfl (z_lt rfl) (z_L9_T g_5) q423 rfl dX11_begin_76 rfl rfl rfl rfl (fun _ _ _ => rfl) ?_
  refine z_aload_n (q := 80) (i := 0) (x := a0) dX11_begin_79 rfl rfl rfl ?_
  refine z_bipush (q := 82) (v := 100) dX11_begin_80 (by decide) rfl ?_
  refine z_putI 9 23 (q := 85) (x := 100) (v := .int 100) rfl (z_lt rfl) (z_L9_T g_5) q425 rfl dX11_begin_82 rfl rfl rfl rfl (fun _ _ _ => rfl) ?_
  exact z_vret dX11_begin_85 rfl hf

theorem u_X11_card {l : Launch} {G : z_G} {a0 : Nat} {x1 : Int32} {x2 : Int32} {h : z_H} {Q : z_Q} (hst : l.stackTraces = false)  (hf : z_L9 h a0 ∧ ((x1 = 0 → vp_in x2 48 ∧ True) ∧ (¬ x1 = 0 → vp_in x2 48 ∧ True)) ∧ Q (some (.int (if x1 = 0 then (h.I (a0 + 1) (Int32.toNatClampNeg x2)) else (h.I (a0 + 2) (Int32.toNatClampNeg x2))))) h) : z_Ct l G m_X11_card [.ref a0, .int x1, .int x2] h Q := by
  refine z_Ct.of (ls := [some (.ref a0), some (.int x1), some (.int x2)]) hst rfl (by show plainName yX11_card.cls = true; decide +kernel) (z_le rfl) rfl ?_
  show z_V l G m_X11_card (z_Fm G m_X11_card Q) 0 0 h 0 [some (.ref a0), some (.int x1), some (.int x2)] []
  refine z_iload_n (q := 1) (i := 1) (x := x1) dX11_card_0 rfl rfl rfl ?_
  obtain ⟨g_1, hf⟩ := hf
  obtain ⟨hsc, hf⟩ := hf
  have hk : z_V l G m_X11_card (z_Fm G m_X11_card Q) 0 0 h 19 [some (.ref a0), some (.int x1), some (.int x2)] [.int (if x1 = 0 then (h.I (a0 + 1) (Int32.toNatClampNeg x2)) else (h.I (a0 + 2) (Int32.toNatClampNeg x2)))] := by
    exact z_iret dX11_card_19 rfl hf
  refine z_if_ne (q := 4) (tgt := 13) dX11_card_1 rfl rfl (fun hc => ?_) (fun hc => ?_)
  · have hk := (z_ite hk).2 hc
    have hsc := hsc.2 hc
    obtain ⟨g_2, hsc⟩ := hsc
    refine z_aload_n (q := 14) (i := 0) (x := a0) dX11_card_13 rfl rfl rfl ?_
    refine z_get 9 1 (q := 17) (v := .ref (a0 + 2)) rfl (z_lt rfl) (z_L9_T g_1) q375 dX11_card_14 rfl (z_fvR (fun _ _ _ => rfl) (z_L9_P1 g_1)) ?_
    refine z_iload_n (q := 18) (i := 2) (x := x2) dX11_card_17 rfl rfl rfl ?_
    refine z_iald (q := 19) (n := 48) (z_L9_A1 g_1) g_2 dX11_card_18 rfl ?_
    exact hk
  · have hk := (z_ite hk).1 hc
    have hsc := hsc.1 hc
    obtain ⟨g_3, hsc⟩ := hsc
    refine z_aload_n (q := 5) (i := 0) (x := a0) dX11_card_4 rfl rfl rfl ?_
    refine z_get 9 0 (q := 8) (v := .ref (a0 + 1)) rfl (z_lt rfl) (z_L9_T g_1) q372 dX11_card_5 rfl (z_fvR (fun _ _ _ => rfl) (z_L9_P0 g_1)) ?_
    refine z_iload_n (q := 9) (i := 2) (x := x2) dX11_card_8 rfl rfl rfl ?_
    refine z_iald (q := 10) (n := 48) (z_L9_A0 g_1) g_3 dX11_card_9 rfl ?_
    refine z_goto (q := 19) dX11_card_10 rfl ?_
    exact hk

theorem u_X11_cards {l : Launch} {G : z_G} {a0 : Nat} {x1 : Int32} {h : z_H} {Q : z_Q} (hst : l.stackTraces = false)  (hf : z_L9 h a0 ∧ Q (some (.int (if x1 = 0 then (h.I a0 6) else (h.I a0 7)))) h) : z_Ct l G m_X11_cards [.ref a0, .int x1] h Q := by
  refine z_Ct.of (ls := [some (.ref a0), some (.int x1)]) hst rfl (by show plainName yX11_cards.cls = true; decide +kernel) (z_le rfl) rfl ?_
  show z_V l G m_X11_cards (z_Fm G m_X11_cards Q) 0 0 h 0 [some (.ref a0), some (.int x1)] []
  refine z_iload_n (q := 1) (i := 1) (x := x1) dX11_cards_0 rfl rfl rfl ?_
  obtain ⟨g_1, hf⟩ := hf
  have hk : z_V l G m_X11_cards (z_Fm G m_X11_cards Q) 0 0 h 15 [some (.ref a0), some (.int x1)] [.int (if x1 = 0 then (h.I a0 6) else (h.I a0 7))] := by
    exact z_iret dX11_cards_15 rfl hf
  refine z_if_ne (q := 4) (tgt := 11) dX11_cards_1 rfl rfl (fun hc => ?_) (fun hc => ?_)
  · have hk := (z_ite hk).2 hc
    refine z_aload_n (q := 12) (i := 0) (x := a0) dX11_cards_11 rfl rfl rfl ?_
    refine z_get 9 7 (q := 15) (v := .int (h.I a0 7)) rfl (z_lt rfl) (z_L9_T g_1) q388 dX11_cards_12 rfl rfl ?_
    exact hk
  · have hk := (z_ite hk).1 hc
    refine z_aload_n (q := 5) (i := 0) (x := a0) dX11_cards_4 rfl rfl rfl ?_
    refine z_get 9 6 (q := 8) (v := .int (h.I a0 6)) rfl (z_lt rfl) (z_L9_T g_1) q385 dX11_cards_5 rfl rfl ?_
    refine z_goto (q := 15) dX11_cards_8 rfl ?_
    exact hk

theorem u_X11_gets {l : Launch} {G : z_G} {a0 : Nat} {x1 : Int32} {x2 : Int32} {x3 : Int32} {h : z_H} {Q : z_Q} (hst : l.stackTraces = false)  (hf : (x1 = 0 → z_L9 h a0 ∧ vp_in (h.I a0 6) 48 ∧ (x3 = 0 ∨ x3 = 1) ∧ vp_in (h.I a0 6) 48 ∧ Q none (((h.sI (a0 + 5) (Int32.toNatClampNeg (h.I a0 6)) x3).sI a0 6 ((h.I a0 6) + 1)).sI (a0 + 1) (Int32.toNatClampNeg (h.I a0 6)) x2)) ∧ (¬ x1 = 0 → z_L9 h a0 ∧ vp_in (h.I a0 7) 48 ∧ (x3 = 0 ∨ x3 = 1) ∧ vp_in (h.I a0 7) 48 ∧ Q none (((h.sI (a0 + 6) (Int32.toNatClampNeg (h.I a0 7)) x3).sI a0 7 ((h.I a0 7) + 1)).sI (a0 + 2) (Int32.toNatClampNeg (h.I a0 7)) x2))) : z_Ct l G m_X11_gets [.ref a0, .int x1, .int x2, .int x3] h Q := by
  refine z_Ct.of (ls := [some (.ref a0), some (.int x1), some (.int x2), some (.int x3)]) hst rfl (by show plainName yX11_gets.cls = true; decide +kernel) (z_le rfl) rfl ?_
  show z_V l G m_X11_gets (z_Fm G m_X11_gets Q) 0 0 h 0 [some (.ref a0), some (.int x1), some (.int x2), some (.int x3)] []
  refine z_iload_n (q := 1) (i := 1) (x := x1) dX11_gets_0 rfl rfl rfl ?_
  refine z_if_ne (q := 4) (tgt := 34) dX11_gets_1 rfl rfl (fun hc => ?_) (fun hc => ?_)
  · have hf := hf.2 hc
    refine z_aload_n (q := 35) (i := 0) (x := a0) dX11_gets_34 rfl rfl rfl ?_
    obtain ⟨g_2, hf⟩ := hf
    refine z_get 9 5 (q := 38) (v := .ref (a0 + 6)) rfl (z_lt rfl) (z_L9_T g_2) q383 dX11_gets_35 rfl (z_fvR (fun _ _ _ => rfl) (z_L9_P5 g_2)) ?_
    refine z_aload_n (q := 39) (i := 0) (x := a0) dX11_gets_38 rfl rfl rfl ?_
    refine z_get 9 7 (q := 42) (v := .int (h.I a0 7)) rfl (z_lt rfl) (z_L9_T g_2) q388 dX11_gets_39 rfl rfl ?_
    refine z_iload_n (q := 43) (i := 3) (x := x3) dX11_gets_42 rfl rfl rfl ?_
    obtain ⟨g_3, hf⟩ := hf
    obtain ⟨g_4, hf⟩ := hf
    refine z_zast (q := 44) (n := 48) (y := x3) (z_L9_A5 g_2) g_3 (z_nb01 g_4) dX11_gets_43 rfl ?_
    refine z_aload_n (q := 45) (i := 0) (x := a0) dX11_gets_44 rfl rfl rfl ?_
    refine z_get 9 1 (q := 48) (v := .ref (a0 + 2)) rfl (z_lt rfl) (z_L9_T g_2) q375 dX11_gets_45 rfl (z_fvR (fun _ _ _ => rfl) (z_L9_P1 g_2)) ?_
    refine z_aload_n (q := 49) (i := 0) (x := a0) dX11_gets_48 rfl rfl rfl ?_
    refine z_dup (q := 50) dX11_gets_49 rfl rfl ?_
    refine z_get 9 7 (q := 53) (v := .int (h.I a0 7)) rfl (z_lt rfl) (z_L9_T g_2) q388 dX11_gets_50 rfl (congrArg Value.int (z_rIa (by omega))) ?_
    refine z_dup_x1 (q := 54) dX11_gets_53 rfl rfl rfl ?_
    refine z_iconst (q := 55) (v := 1) dX11_gets_54 rfl rfl ?_
    refine z_iadd (q := 56) dX11_gets_55 rfl ?_
    refine z_putI 9 7 (q := 59) (x := ((h.I a0 7) + 1)) (v := .int ((h.I a0 7) + 1)) rfl (z_lt rfl) (z_L9_T g_2) q388 rfl dX11_gets_56 rfl rfl rfl rfl (fun _ _ _ => rfl) ?_
    refine z_iload_n (q := 60) (i := 2) (x := x2) dX11_gets_59 rfl rfl rfl ?_
    obtain ⟨g_5, hf⟩ := hf
    refine z_iast (q := 61) (n := 48) (z_L9_A1 g_2) g_5 dX11_gets_60 rfl ?_
    exact z_vret dX11_gets_61 rfl hf
  · have hf := hf.1 hc
    refine z_aload_n (q := 5) (i := 0) (x := a0) dX11_gets_4 rfl rfl rfl ?_
    obtain ⟨g_6, hf⟩ := hf
    refine z_get 9 4 (q := 8) (v := .ref (a0 + 5)) rfl (z_lt rfl) (z_L9_T g_6) q381 dX11_gets_5 rfl (z_fvR (fun _ _ _ => rfl) (z_L9_P4 g_6)) ?_
    refine z_aload_n (q := 9) (i := 0) (x := a0) dX11_gets_8 rfl rfl rfl ?_
    refine z_get 9 6 (q := 12) (v := .int (h.I a0 6)) rfl (z_lt rfl) (z_L9_T g_6) q385 dX11_gets_9 rfl rfl ?_
    refine z_iload_n (q := 13) (i := 3) (x := x3) dX11_gets_12 rfl rfl rfl ?_
    obtain ⟨g_7, hf⟩ := hf
    obtain ⟨g_8, hf⟩ := hf
    refine z_zast (q := 14) (n := 48) (y := x3) (z_L9_A4 g_6) g_7 (z_nb01 g_8) dX11_gets_13 rfl ?_
    refine z_aload_n (q := 15) (i := 0) (x := a0) dX11_gets_14 rfl rfl rfl ?_
    refine z_get 9 0 (q := 18) (v := .ref (a0 + 1)) rfl (z_lt rfl) (z_L9_T g_6) q372 dX11_gets_15 rfl (z_fvR (fun _ _ _ => rfl) (z_L9_P0 g_6)) ?_
    refine z_aload_n (q := 19) (i := 0) (x := a0) dX11_gets_18 rfl rfl rfl ?_
    refine z_dup (q := 20) dX11_gets_19 rfl rfl ?_
    refine z_get 9 6 (q := 23) (v := .int (h.I a0 6)) rfl (z_lt rfl) (z_L9_T g_6) q385 dX11_gets_20 rfl (congrArg Value.int (z_rIa (by omega))) ?_
    refine z_dup_x1 (q := 24) dX11_gets_23 rfl rfl rfl ?_
    refine z_iconst (q := 25) (v := 1) dX11_gets_24 rfl rfl ?_
    refine z_iadd (q := 26) dX11_gets_25 rfl ?_
    refine z_putI 9 6 (q := 29) (x := ((h.I a0 6) + 1)) (v := .int ((h.I a0 6) + 1)) rfl (z_lt rfl) (z_L9_T g_6) q385 rfl dX11_gets_26 rfl rfl rfl rfl (fun _ _ _ => rfl) ?_
    refine z_iload_n (q := 30) (i := 2) (x := x2) dX11_gets_29 rfl rfl rfl ?_
    obtain ⟨g_9, hf⟩ := hf
    refine z_iast (q := 31) (n := 48) (z_L9_A0 g_6) g_9 dX11_gets_30 rfl ?_
    refine z_goto (q := 61) dX11_gets_31 rfl ?_
    exact z_vret dX11_gets_61 rfl hf

theorem u_X11_gives {l : Launch} {G : z_G} {a0 : Nat} {x1 : Int32} {h : z_H} {Q : z_Q} (hst : l.stackTraces = false)  (hf : (x1 = 0 → z_L9 h a0 ∧ (x1 = 0 → z_V l G m_X11_gives (z_Fm G m_X11_gives Q) 0 0 h 31 [some (.ref a0), some (.int x1), some (.ref (a0 + 1)), none, none, none, none] [.ref (a0 + 5)]) ∧ (¬ x1 = 0 → z_V l G m_X11_gives (z_Fm G m_X11_gives Q) 0 0 h 31 [some (.ref a0), some (.int x1), some (.ref (a0 + 1)), none, none, none, none] [.ref (a0 + 6)])) ∧ (¬ x1 = 0 → z_L9 h a0 ∧ (x1 = 0 → z_V l G m_X11_gives (z_Fm G m_X11_gives Q) 0 0 h 31 [some (.ref a0), some (.int x1), some (.ref (a0 + 2)), none, none, none, none] [.ref (a0 + 5)]) ∧ (¬ x1 = 0 → z_V l G m_X11_gives (z_Fm G m_X11_gives Q) 0 0 h 31 [some (.ref a0), some (.int x1), some (.ref (a0 + 2)), none, none, none, none] [.ref (a0 + 6)]))) : z_Ct l G m_X11_gives [.ref a0, .int x1] h Q := by
  refine z_Ct.of (ls := [some (.ref a0), some (.int x1), none, none, none, none, none]) hst rfl (by show plainName yX11_gives.cls = true; decide +kernel) (z_le rfl) rfl ?_
  show z_V l G m_X11_gives (z_Fm G m_X11_gives Q) 0 0 h 0 [some (.ref a0), some (.int x1), none, none, none, none, none] []
  refine z_iload_n (q := 1) (i := 1) (x := x1) dX11_gives_0 rfl rfl rfl ?_
  refine z_if_ne (q := 4) (tgt := 11) dX11_gives_1 rfl rfl (fun hc => ?_) (fun hc => ?_)
  · have hf := hf.2 hc
    refine z_aload_n (q := 12) (i := 0) (x := a0) dX11_gives_11 rfl rfl rfl ?_
    obtain ⟨g_2, hf⟩ := hf
    refine z_get 9 1 (q := 15) (v := .ref (a0 + 2)) rfl (z_lt rfl) (z_L9_T g_2) q375 dX11_gives_12 rfl (z_fvR (fun _ _ _ => rfl) (z_L9_P1 g_2)) ?_
    refine z_astore_n (q := 16) (i := 2) (ls2 := [some (.ref a0), some (.int x1), some (.ref (a0 + 2)), none, none, none, none]) (x := (a0 + 2)) dX11_gives_15 rfl (z_lt rfl) rfl rfl ?_
    refine z_iload_n (q := 17) (i := 1) (x := x1) dX11_gives_16 rfl rfl rfl ?_
    refine z_if_ne (q := 20) (tgt := 27) dX11_gives_17 rfl rfl (fun hc => ?_) (fun hc => ?_)
    · have hf := hf.2 hc
      refine z_aload_n (q := 28) (i := 0) (x := a0) dX11_gives_27 rfl rfl rfl ?_
      refine z_get 9 5 (q := 31) (v := .ref (a0 + 6)) rfl (z_lt rfl) (z_L9_T g_2) q383 dX11_gives_28 rfl (z_fvR (fun _ _ _ => rfl) (z_L9_P5 g_2)) ?_
      exact hf
    · have hf := hf.1 hc
      refine z_aload_n (q := 21) (i := 0) (x := a0) dX11_gives_20 rfl rfl rfl ?_
      refine z_get 9 4 (q := 24) (v := .ref (a0 + 5)) rfl (z_lt rfl) (z_L9_T g_2) q381 dX11_gives_21 rfl (z_fvR (fun _ _ _ => rfl) (z_L9_P4 g_2)) ?_
      refine z_goto (q := 31) dX11_gives_24 rfl ?_
      exact hf
  · have hf := hf.1 hc
    refine z_aload_n (q := 5) (i := 0) (x := a0) dX11_gives_4 rfl rfl rfl ?_
    obtain ⟨g_3, hf⟩ := hf
    refine z_get 9 0 (q := 8) (v := .ref (a0 + 1)) rfl (z_lt rfl) (z_L9_T g_3) q372 dX11_gives_5 rfl (z_fvR (fun _ _ _ => rfl) (z_L9_P0 g_3)) ?_
    refine z_goto (q := 15) dX11_gives_8 rfl ?_
    refine z_astore_n (q := 16) (i := 2) (ls2 := [some (.ref a0), some (.int x1), some (.ref (a0 + 1)), none, none, none, none]) (x := (a0 + 1)) dX11_gives_15 rfl (z_lt rfl) rfl rfl ?_
    refine z_iload_n (q := 17) (i := 1) (x := x1) dX11_gives_16 rfl rfl rfl ?_
    refine z_if_ne (q := 20) (tgt := 27) dX11_gives_17 rfl rfl (fun hc => ?_) (fun hc => ?_)
    · have hf := hf.2 hc
      refine z_aload_n (q := 28) (i := 0) (x := a0) dX11_gives_27 rfl rfl rfl ?_
      refine z_get 9 5 (q := 31) (v := .ref (a0 + 6)) rfl (z_lt rfl) (z_L9_T g_3) q383 dX11_gives_28 rfl (z_fvR (fun _ _ _ => rfl) (z_L9_P5 g_3)) ?_
      exact hf
    · have hf := hf.1 hc
      refine z_aload_n (q := 21) (i := 0) (x := a0) dX11_gives_20 rfl rfl rfl ?_
      refine z_get 9 4 (q := 24) (v := .ref (a0 + 5)) rfl (z_lt rfl) (z_L9_T g_3) q381 dX11_gives_21 rfl (z_fvR (fun _ _ _ => rfl) (z_L9_P4 g_3)) ?_
      refine z_goto (q := 31) dX11_gives_24 rfl ?_
      exact hf

theorem b_X11_gives_31 {l : Launch} {G : z_G} {a0 : Nat} {x1 : Int32} {a2 : Nat} {s0 : Nat} {h : z_H} {Q : z_Q}  (hf : z_L9 h a0 ∧ z_Ct l G m_X11_cards [.ref a0, .int x1] h (z_Qi (fun x_2 h_3 => ∃ n_4, h_3.T a2 = (1, n_4) ∧ vp_in 0 n_4 ∧ ∀ v_7 : Int32, v_7 = (h_3.I a2 (Int32.toNatClampNeg 0)) → z_V l G m_X11_gives (z_Fm G m_X11_gives Q) 0 0 h_3 49 [some (.ref a0), some (.int x1), some (.ref a2), some (.ref s0), some (.int (x_2 - 1)), some (.int v_7), some (.int 0)] []))) : z_V l G m_X11_gives (z_Fm G m_X11_gives Q) 0 0 h 31 [some (.ref a0), some (.int x1), some (.ref a2), none, none, none, none] [.ref s0] := by
  refine z_astore_n (q := 32) (i := 3) (ls2 := [some (.ref a0), some (.int x1), some (.ref a2), some (.ref s0), none, none, none]) (x := s0) dX11_gives_31 rfl (z_lt rfl) rfl rfl ?_
  refine z_aload_n (q := 33) (i := 0) (x := a0) dX11_gives_32 rfl rfl rfl ?_
  refine z_iload_n (q := 34) (i := 1) (x := x1) dX11_gives_33 rfl rfl rfl ?_
  obtain ⟨g_1, hf⟩ := hf
  refine z_cVi m_X11_cards [.int x1] (a0) (q := 37) (rc2 := 0) (rs2 := 0) (st := []) dX11_gives_34 rfl q1319 oV_X11_cards rfl rfl ⟨z_le rfl, z_le rfl⟩ (z_le rfl) (z_rcv_of 9 rfl (z_L9_T g_1) rfl) rfl  rfl hf (fun x_2 h_3 hf => ?_)
  refine z_iconst (q := 38) (v := 1) dX11_gives_37 rfl rfl ?_
  refine z_isub (q := 39) dX11_gives_38 rfl ?_
  refine z_istore (q := 41) (i := 4) (ls2 := [some (.ref a0), some (.int x1), some (.ref a2), some (.ref s0), some (.int (x_2 - 1)), none, none]) (x := (x_2 - 1)) dX11_gives_39 (z_lt rfl) rfl rfl ?_
  refine z_aload_n (q := 42) (i := 2) (x := a2) dX11_gives_41 rfl rfl rfl ?_
  refine z_iconst (q := 43) (v := 0) dX11_gives_42 rfl rfl ?_
  obtain ⟨n_4, g_5, hf⟩ := hf
  obtain ⟨g_6, hf⟩ := hf
  refine z_iald (q := 44) (n := n_4) g_5 g_6 dX11_gives_43 rfl ?_
  refine z_nmI (fun v_7 hv_8 => ?_)
  have hf := hf v_7 hv_8
  refine z_istore (q := 46) (i := 5) (ls2 := [some (.ref a0), some (.int x1), some (.ref a2), some (.ref s0), some (.int (x_2 - 1)), some (.int v_7), none]) (x := v_7) dX11_gives_44 (z_lt rfl) rfl rfl ?_
  refine z_iconst (q := 47) (v := 0) dX11_gives_46 rfl rfl ?_
  refine z_istore (q := 49) (i := 6) (ls2 := [some (.ref a0), some (.int x1), some (.ref a2), some (.ref s0), some (.int (x_2 - 1)), some (.int v_7), some (.int 0)]) (x := 0) dX11_gives_47 (z_lt rfl) rfl rfl ?_
  exact hf

theorem b_X11_gives_49 {l : Launch} {G : z_G} {a0 : Nat} {x1 : Int32} {a2 : Nat} {a3 : Nat} {x4 : Int32} {x5 : Int32} {x6 : Int32} {h : z_H} {Q : z_Q}  (hf : (x4 ≤ x6 → (x1 = 0 → z_L9 h a0 ∧ Q (some (.int x5)) (h.sI a0 6 x4)) ∧ (¬ x1 = 0 → z_L9 h a0 ∧ Q (some (.int x5)) (h.sI a0 7 x4))) ∧ (¬ x4 ≤ x6 → ∃ n_3, h.T a2 = (1, n_3) ∧ vp_in (x6 + 1) n_3 ∧ vp_in x6 n_3 ∧ ∃ n_7, h.T a3 = (3, n_7) ∧ vp_in (x6 + 1) n_7 ∧ vp_in x6 n_7 ∧ (((h.sI a2 (Int32.toNatClampNeg x6) (h.I a2 (Int32.toNatClampNeg (x6 + 1)))).I a3 (Int32.toNatClampNeg (x6 + 1))) = 0 ∨ ((h.sI a2 (Int32.toNatClampNeg x6) (h.I a2 (Int32.toNatClampNeg (x6 + 1)))).I a3 (Int32.toNatClampNeg (x6 + 1))) = 1) ∧ z_V l G m_X11_gives (z_Fm G m_X11_gives Q) 0 0 ((h.sI a2 (Int32.toNatClampNeg x6) (h.I a2 (Int32.toNatClampNeg (x6 + 1)))).sI a3 (Int32.toNatClampNeg x6) ((h.sI a2 (Int32.toNatClampNeg x6) (h.I a2 (Int32.toNatClampNeg (x6 + 1)))).I a3 (Int32.toNatClampNeg (x6 + 1)))) 49 [some (.ref a0), some (.int x1), some (.ref a2), some (.ref a3), some (.int x4), some (.int x5), some (.int (x6 + 1))] [])) : z_V l G m_X11_gives (z_Fm G m_X11_gives Q) 0 0 h 49 [some (.ref a0), some (.int x1), some (.ref a2), some (.ref a3), some (.int x4), some (.int x5), some (.int x6)] [] := by
  refine z_iload (q := 51) (i := 6) (x := x6) dX11_gives_49 rfl rfl ?_
  refine z_iload (q := 53) (i := 4) (x := x4) dX11_gives_51 rfl rfl ?_
  refine z_icmp_ge (q := 56) (tgt := 82) dX11_gives_53 rfl rfl (fun hc => ?_) (fun hc => ?_)
  · have hf := hf.1 hc
    refine z_iload_n (q := 83) (i := 1) (x := x1) dX11_gives_82 rfl rfl rfl ?_
    refine z_if_ne (q := 86) (tgt := 95) dX11_gives_83 rfl rfl (fun hc => ?_) (fun hc => ?_)
    · have hf := hf.2 hc
      refine z_aload_n (q := 96) (i := 0) (x := a0) dX11_gives_95 rfl rfl rfl ?_
      refine z_iload (q := 98) (i := 4) (x := x4) dX11_gives_96 rfl rfl ?_
      obtain ⟨g_1, hf⟩ := hf
      refine z_putI 9 7 (q := 101) (x := x4) (v := .int x4) rfl (z_lt rfl) (z_L9_T g_1) q388 rfl dX11_gives_98 rfl rfl rfl rfl (fun _ _ _ => rfl) ?_
      refine z_iload (q := 103) (i := 5) (x := x5) dX11_gives_101 rfl rfl ?_
      exact z_iret dX11_gives_103 rfl hf
    · have hf := hf.1 hc
      refine z_aload_n (q := 87) (i := 0) (x := a0) dX11_gives_86 rfl rfl rfl ?_
      refine z_iload (q := 89) (i := 4) (x := x4) dX11_gives_87 rfl rfl ?_
      obtain ⟨g_2, hf⟩ := hf
      refine z_putI 9 6 (q := 92) (x := x4) (v := .int x4) rfl (z_lt rfl) (z_L9_T g_2) q385 rfl dX11_gives_89 rfl rfl rfl rfl (fun _ _ _ => rfl) ?_
      refine z_goto (q := 101) dX11_gives_92 rfl ?_
      refine z_iload (q := 103) (i := 5) (x := x5) dX11_gives_101 rfl rfl ?_
      exact z_iret dX11_gives_103 rfl hf
  · have hf := hf.2 hc
    refine z_aload_n (q := 57) (i := 2) (x := a2) dX11_gives_56 rfl rfl rfl ?_
    refine z_iload (q := 59) (i := 6) (x := x6) dX11_gives_57 rfl rfl ?_
    refine z_aload_n (q := 60) (i := 2) (x := a2) dX11_gives_59 rfl rfl rfl ?_
    refine z_iload (q := 62) (i := 6) (x := x6) dX11_gives_60 rfl rfl ?_
    refine z_iconst (q := 63) (v := 1) dX11_gives_62 rfl rfl ?_
    refine z_iadd (q := 64) dX11_gives_63 rfl ?_
    obtain ⟨n_3, g_4, hf⟩ := hf
    obtain ⟨g_5, hf⟩ := hf
    refine z_iald (q := 65) (n := n_3) g_4 g_5 dX11_gives_64 rfl ?_
    obtain ⟨g_6, hf⟩ := hf
    refine z_iast (q := 66) (n := n_3) g_4 g_6 dX11_gives_65 rfl ?_
    refine z_aload_n (q := 67) (i := 3) (x := a3) dX11_gives_66 rfl rfl rfl ?_
    refine z_iload (q := 69) (i := 6) (x := x6) dX11_gives_67 rfl rfl ?_
    refine z_aload_n (q := 70) (i := 3) (x := a3) dX11_gives_69 rfl rfl rfl ?_
    refine z_iload (q := 72) (i := 6) (x := x6) dX11_gives_70 rfl rfl ?_
    refine z_iconst (q := 73) (v := 1) dX11_gives_72 rfl rfl ?_
    refine z_iadd (q := 74) dX11_gives_73 rfl ?_
    obtain ⟨n_7, g_8, hf⟩ := hf
    obtain ⟨g_9, hf⟩ := hf
    refine z_zald (q := 75) (n := n_7) g_8 g_9 dX11_gives_74 rfl ?_
    obtain ⟨g_10, hf⟩ := hf
    obtain ⟨g_11, hf⟩ := hf
    refine z_zast (q := 76) (n := n_7) (y := ((h.sI a2 (Int32.toNatClampNeg x6) (h.I a2 (Int32.toNatClampNeg (x6 + 1)))).I a3 (Int32.toNatClampNeg (x6 + 1)))) g_8 g_10 (z_nb01 g_11) dX11_gives_75 rfl ?_
    refine z_iinc (q := 79) (i := 6) (x := x6) (v := (x6 + 1)) (ls2 := [some (.ref a0), some (.int x1), some (.ref a2), some (.ref a3), some (.int x4), some (.int x5), some (.int (x6 + 1))]) dX11_gives_76 rfl rfl (z_lt rfl) rfl rfl ?_
    refine z_goto (q := 49) dX11_gives_79 rfl ?_
    exact hf

theorem u_X11_init {l : Launch} {G : z_G} {a0 : Nat} {h : z_H} {Q : z_Q} (hst : l.stackTraces = false) (hlt : a0 < h.n)  (hf : ((h.nw (1, 48)).T a0).1 = 19 ∧ z_Ct l G m_J2_init [.ref (h.n + 6), .int 2] (((((((((((((h.nw (1, 48)).sP a0 0 (some (h.n))).nw (1, 48)).sP a0 1 (some (h.n + 1))).nw (1, 48)).sP a0 2 (some (h.n + 2))).nw (1, 48)).sP a0 3 (some (h.n + 3))).nw (3, 48)).sP a0 4 (some (h.n + 4))).nw (3, 48)).sP a0 5 (some (h.n + 5))).nw (31, 0)) (z_Qv (fun h_2 => (h_2.T a0).1 = 19 ∧ z_Ct l G m_J2_init [.ref (h_2.n), .int 2] ((h_2.sP a0 17 (some (h.n + 6))).nw (31, 0)) (z_Qv (fun h_4 => (h_4.T a0).1 = 19 ∧ (((h_4.sP a0 18 (some (h_2.n))).nw (1, 48)).T a0).1 = 19 ∧ (((((h_4.sP a0 18 (some (h_2.n))).nw (1, 48)).sP a0 19 (some (h_4.n))).nw (1, 12)).T a0).1 = 19 ∧ Q none (((((h_4.sP a0 18 (some (h_2.n))).nw (1, 48)).sP a0 19 (some (h_4.n))).nw (1, 12)).sP a0 20 (some (h_4.n + 1)))))))) : z_Ct l G m_X11_init [.ref a0] h Q := by
  refine z_Ct.of (ls := [some (.ref a0)]) hst rfl (by show plainName yX11_init.cls = true; decide +kernel) (z_le rfl) rfl ?_
  show z_V l G m_X11_init (z_Fm G m_X11_init Q) 12 362 h 0 [some (.ref a0)] []
  refine z_aload_n (q := 1) (i := 0) (x := a0) dX11_init_0 rfl rfl rfl ?_
  refine z_objInit (q := 4) dX11_init_1 rfl q369 q170 q171 ⟨z_le rfl, z_le rfl⟩ (z_le rfl) ?_
  refine z_aload_n (q := 5) (i := 0) (x := a0) dX11_init_4 rfl rfl rfl ?_
  refine z_bipush (q := 7) (v := 48) dX11_init_5 (by decide) rfl ?_
  refine z_newa 1 (q := 9) (N := 48) (rc2 := 11) (rs2 := 314) (z_lt rfl) (z_lt rfl) rfl q295 (by decide) rfl (z_le rfl) dX11_init_7 rfl rfl rfl ?_
  obtain ⟨g_1, hf⟩ := hf
  refine z_putP_F 9 0 (q := 12) (x := some (h.n)) (v := .ref (h.n)) rfl (z_lt rfl) g_1 q372 rfl rfl rfl dX11_init_9 rfl rfl rfl rfl (fun _ _ _ => rfl) ?_
  refine z_aload_n (q := 13) (i := 0) (x := a0) dX11_init_12 rfl rfl rfl ?_
  refine z_bipush (q := 15) (v := 48) dX11_init_13 (by decide) rfl ?_
  refine z_newa 1 (q := 17) (N := 48) (rc2 := 10) (rs2 := 266) (z_lt rfl) (z_lt rfl) rfl q295 (by decide) rfl (z_le rfl) dX11_init_15 rfl rfl rfl ?_
  refine z_putP_F 9 1 (q := 20) (x := some (h.n + 1)) (v := .ref (h.n + 1)) rfl (z_lt rfl) (z_nT (by show a0 ≠ h.n + 1; omega) g_1) q375 rfl rfl rfl dX11_init_17 rfl rfl rfl rfl (fun _ _ _ => rfl) ?_
  refine z_aload_n (q := 21) (i := 0) (x := a0) dX11_init_20 rfl rfl rfl ?_
  refine z_bipush (q := 23) (v := 48) dX11_init_21 (by decide) rfl ?_
  refine z_newa 1 (q := 25) (N := 48) (rc2 := 9) (rs2 := 218) (z_lt rfl) (z_lt rfl) rfl q295 (by decide) rfl (z_le rfl) dX11_init_23 rfl rfl rfl ?_
  refine z_putP_F 9 2 (q := 28) (x := some (h.n + 2)) (v := .ref (h.n + 2)) rfl (z_lt rfl) (z_nT (by show a0 ≠ h.n + 2; omega) (z_nT (by show a0 ≠ h.n + 1; omega) g_1)) q378 rfl rfl rfl dX11_init_25 rfl rfl rfl rfl (fun _ _ _ => rfl) ?_
  refine z_aload_n (q := 29) (i := 0) (x := a0) dX11_init_28 rfl rfl rfl ?_
  refine z_bipush (q := 31) (v := 48) dX11_init_29 (by decide) rfl ?_
  refine z_newa 1 (q := 33) (N := 48) (rc2 := 8) (rs2 := 170) (z_lt rfl) (z_lt rfl) rfl q295 (by decide) rfl (z_le rfl) dX11_init_31 rfl rfl rfl ?_
  refine z_putP_F 9 3 (q := 36) (x := some (h.n + 3)) (v := .ref (h.n + 3)) rfl (z_lt rfl) (z_nT (by show a0 ≠ h.n + 3; omega) (z_nT (by show a0 ≠ h.n + 2; omega) (z_nT (by show a0 ≠ h.n + 1; omega) g_1))) q380 rfl rfl rfl dX11_init_33 rfl rfl rfl rfl (fun _ _ _ => rfl) ?_
  refine z_aload_n (q := 37) (i := 0) (x := a0) dX11_init_36 rfl rfl rfl ?_
  refine z_bipush (q := 39) (v := 48) dX11_init_37 (by decide) rfl ?_
  refine z_newa 3 (q := 41) (N := 48) (rc2 := 7) (rs2 := 122) (z_lt rfl) (z_lt rfl) rfl q476 (by decide) rfl (z_le rfl) dX11_init_39 rfl rfl rfl ?_
  refine z_putP_F 9 4 (q := 44) (x := some (h.n + 4)) (v := .ref (h.n + 4)) rfl (z_lt rfl) (z_nT (by show a0 ≠ h.n + 4; omega) (z_nT (by show a0 ≠ h.n + 3; omega) (z_nT (by show a0 ≠ h.n + 2; omega) (z_nT (by show a0 ≠ h.n + 1; omega) g_1)))) q381 rfl rfl rfl dX11_init_41 rfl rfl rfl rfl (fun _ _ _ => rfl) ?_
  refine z_aload_n (q := 45) (i := 0) (x := a0) dX11_init_44 rfl rfl rfl ?_
  refine z_bipush (q := 47) (v := 48) dX11_init_45 (by decide) rfl ?_
  refine z_newa 3 (q := 49) (N := 48) (rc2 := 6) (rs2 := 74) (z_lt rfl) (z_lt rfl) rfl q476 (by decide) rfl (z_le rfl) dX11_init_47 rfl rfl rfl ?_
  refine z_putP_F 9 5 (q := 52) (x := some (h.n + 5)) (v := .ref (h.n + 5)) rfl (z_lt rfl) (z_nT (by show a0 ≠ h.n + 5; omega) (z_nT (by show a0 ≠ h.n + 4; omega) (z_nT (by show a0 ≠ h.n + 3; omega) (z_nT (by show a0 ≠ h.n + 2; omega) (z_nT (by show a0 ≠ h.n + 1; omega) g_1))))) q383 rfl rfl rfl dX11_init_49 rfl rfl rfl rfl (fun _ _ _ => rfl) ?_
  refine z_aload_n (q := 53) (i := 0) (x := a0) dX11_init_52 rfl rfl rfl ?_
  refine z_new 21 (q := 56) (rc2 := 5) (rs2 := 71) rfl q370 q303 q134 dX11_init_53 rfl rfl rfl ?_
  refine z_dup (q := 57) dX11_init_56 rfl rfl ?_
  refine z_iconst (q := 58) (v := 2) dX11_init_57 rfl rfl ?_
  refine z_cIv m_J2_init [.int 2] ((h.n + 6)) (q := 61) (rc2 := 4) (rs2 := 67) (st := [.ref (h.n + 6), .ref a0]) dX11_init_58 rfl q371 oI_J2_init rfl rfl ⟨z_le rfl, z_le rfl⟩ (z_le rfl) rfl  rfl hf (fun h_2 hf => ?_)
  obtain ⟨g_3, hf⟩ := hf
  refine z_putP_F 9 17 (q := 64) (x := some (h.n + 6)) (v := .ref (h.n + 6)) rfl (z_lt rfl) g_3 q413 rfl rfl rfl dX11_init_61 rfl rfl rfl rfl (fun _ _ _ => rfl) ?_
  refine z_aload_n (q := 65) (i := 0) (x := a0) dX11_init_64 rfl rfl rfl ?_
  refine z_new 21 (q := 68) (rc2 := 3) (rs2 := 64) rfl q370 q303 q134 dX11_init_65 rfl rfl rfl ?_
  refine z_dup (q := 69) dX11_init_68 rfl rfl ?_
  refine z_iconst (q := 70) (v := 2) dX11_init_69 rfl rfl ?_
  refine z_cIv m_J2_init [.int 2] ((h_2.n)) (q := 73) (rc2 := 2) (rs2 := 60) (st := [.ref (h_2.n), .ref a0]) dX11_init_70 rfl q371 oI_J2_init rfl rfl ⟨z_le rfl, z_le rfl⟩ (z_le rfl) rfl  rfl hf (fun h_4 hf => ?_)
  obtain ⟨g_5, hf⟩ := hf
  refine z_putP_F 9 18 (q := 76) (x := some (h_2.n)) (v := .ref (h_2.n)) rfl (z_lt rfl) g_5 q415 rfl rfl rfl dX11_init_73 rfl rfl rfl rfl (fun _ _ _ => rfl) ?_
  refine z_aload_n (q := 77) (i := 0) (x := a0) dX11_init_76 rfl rfl rfl ?_
  refine z_bipush (q := 79) (v := 48) dX11_init_77 (by decide) rfl ?_
  refine z_newa 1 (q := 81) (N := 48) (rc2 := 1) (rs2 := 12) (z_lt rfl) (z_lt rfl) rfl q295 (by decide) rfl (z_le rfl) dX11_init_79 rfl rfl rfl ?_
  obtain ⟨g_6, hf⟩ := hf
  refine z_putP_F 9 19 (q := 84) (x := some (h_4.n)) (v := .ref (h_4.n)) rfl (z_lt rfl) g_6 q417 rfl rfl rfl dX11_init_81 rfl rfl rfl rfl (fun _ _ _ => rfl) ?_
  refine z_aload_n (q := 85) (i := 0) (x := a0) dX11_init_84 rfl rfl rfl ?_
  refine z_bipush (q := 87) (v := 12) dX11_init_85 (by decide) rfl ?_
  refine z_newa 1 (q := 89) (N := 12) (rc2 := 0) (rs2 := 0) (z_lt rfl) (z_lt rfl) rfl q295 (by decide) rfl (z_le rfl) dX11_init_87 rfl rfl rfl ?_
  obtain ⟨g_7, hf⟩ := hf
  refine z_putP_F 9 20 (q := 92) (x := some (h_4.n + 1)) (v := .ref (h_4.n + 1)) rfl (z_lt rfl) g_7 q419 rfl rfl rfl dX11_init_89 rfl rfl rfl rfl (fun _ _ _ => rfl) ?_
  exact z_vret dX11_init_92 rfl hf

theorem u_X11_isRest {l : Launch} {G : z_G} {a0 : Nat} {h : z_H} {Q : z_Q} (hst : l.stackTraces = false)  (hf : z_L9 h a0 ∧ Q (some (.int (if (h.I a0 8) = 0 then (if (h.I a0 16) = 0 then 1 else 0) else 0))) h) : z_Ct l G m_X11_isRest [.ref a0] h Q := by
  refine z_Ct.of (ls := [some (.ref a0)]) hst rfl (by show plainName yX11_isRest.cls = true; decide +kernel) (z_le rfl) rfl ?_
  show z_V l G m_X11_isRest (z_Fm G m_X11_isRest Q) 0 0 h 0 [some (.ref a0)] []
  refine z_aload_n (q := 1) (i := 0) (x := a0) dX11_isRest_0 rfl rfl rfl ?_
  obtain ⟨g_1, hf⟩ := hf
  refine z_get 9 8 (q := 4) (v := .int (h.I a0 8)) rfl (z_lt rfl) (z_L9_T g_1) q391 dX11_isRest_1 rfl rfl ?_
  have hk : z_V l G m_X11_isRest (z_Fm G m_X11_isRest Q) 0 0 h 19 [some (.ref a0)] [.int (if (h.I a0 8) = 0 then (if (h.I a0 16) = 0 then 1 else 0) else 0)] := by
    exact z_zret dX11_isRest_19 rfl (z_nb01 (z_bif (z_bif z_b1 z_b0) z_b0)) hf
  refine z_if_ne (q := 7) (tgt := 18) dX11_isRest_4 rfl rfl (fun hc => ?_) (fun hc => ?_)
  · have hk := (z_ite hk).2 hc
    refine z_iconst (q := 19) (v := 0) dX11_isRest_18 rfl rfl ?_
    exact hk
  · have hk := (z_ite hk).1 hc
    refine z_aload_n (q := 8) (i := 0) (x := a0) dX11_isRest_7 rfl rfl rfl ?_
    refine z_get 9 16 (q := 11) (v := .int (h.I a0 16)) rfl (z_lt rfl) (z_L9_T g_1) q411 dX11_isRest_8 rfl rfl ?_
    refine z_if_ne (q := 14) (tgt := 18) dX11_isRest_11 rfl rfl (fun hc => ?_) (fun hc => ?_)
    · have hk := (z_ite hk).2 hc
      refine z_iconst (q := 19) (v := 0) dX11_isRest_18 rfl rfl ?_
      exact hk
    · have hk := (z_ite hk).1 hc
      refine z_iconst (q := 15) (v := 1) dX11_isRest_14 rfl rfl ?_
      refine z_goto (q := 19) dX11_isRest_15 rfl ?_
      exact hk

theorem u_X11_takes {l : Launch} {G : z_G} {a0 : Nat} {a1 : Nat} {a2 : Nat} {h : z_H} {Q : z_Q} (hst : l.stackTraces = false)  (hf : z_L9 h a0 ∧ z_ilays l G [.ref a2, .ref (a0 + 3), .int (h.I a0 8), .ref a1, .ref (a0 + 4)] h (z_Qv (fun h_2 => z_V l G m_X11_takes (z_Fm G m_X11_takes Q) 0 0 h_2 19 [some (.ref a0), none, none, some (.int 0)] []))) : z_Ct l G m_X11_takes [.ref a0, .ref a1, .ref a2] h Q := by
  refine z_Ct.of (ls := [some (.ref a0), some (.ref a1), some (.ref a2), none]) hst rfl (by show plainName yX11_takes.cls = true; decide +kernel) (z_le rfl) rfl ?_
  show z_V l G m_X11_takes (z_Fm G m_X11_takes Q) 0 0 h 0 [some (.ref a0), some (.ref a1), some (.ref a2), none] []
  refine z_aload_n (q := 1) (i := 2) (x := a2) dX11_takes_0 rfl rfl rfl ?_
  refine z_aload_n (q := 2) (i := 0) (x := a0) dX11_takes_1 rfl rfl rfl ?_
  obtain ⟨g_1, hf⟩ := hf
  refine z_get 9 2 (q := 5) (v := .ref (a0 + 3)) rfl (z_lt rfl) (z_L9_T g_1) q378 dX11_takes_2 rfl (z_fvR (fun _ _ _ => rfl) (z_L9_P2 g_1)) ?_
  refine z_aload_n (q := 6) (i := 0) (x := a0) dX11_takes_5 rfl rfl rfl ?_
  refine z_get 9 8 (q := 9) (v := .int (h.I a0 8)) rfl (z_lt rfl) (z_L9_T g_1) q391 dX11_takes_6 rfl rfl ?_
  refine z_aload_n (q := 10) (i := 1) (x := a1) dX11_takes_9 rfl rfl rfl ?_
  refine z_aload_n (q := 11) (i := 0) (x := a0) dX11_takes_10 rfl rfl rfl ?_
  refine z_get 9 3 (q := 14) (v := .ref (a0 + 4)) rfl (z_lt rfl) (z_L9_T g_1) q380 dX11_takes_11 rfl (z_fvR (fun _ _ _ => rfl) (z_L9_P3 g_1)) ?_
  refine z_ilays_call (q := 17) (st := []) dX11_takes_14 rfl q1372 hf rfl rfl (z_le rfl) (z_le rfl) (z_le rfl) (fun h_2 hf => ?_)
  refine z_iconst (q := 18) (v := 0) dX11_takes_17 rfl rfl ?_
  refine z_istore_n (q := 19) (i := 3) (ls2 := [some (.ref a0), some (.ref a1), some (.ref a2), some (.int 0)]) (x := 0) dX11_takes_18 rfl (z_lt rfl) rfl rfl ?_
  refine z_prune [true, false, false, true] (ls2 := [some (.ref a0), none, none, some (.int 0)]) rfl ?_
  exact hf

theorem b_X11_takes_19 {l : Launch} {G : z_G} {a0 : Nat} {x3 : Int32} {h : z_H} {Q : z_Q}  (hf : z_L9 h a0 ∧ ((h.I a0 8) ≤ x3 → Q none ((((((h.sI a0 11 (h.I a0 10)).sI a0 10 (-1)).sI a0 8 0).sI a0 15 0).sI a0 16 0).sI a0 14 ((h.I a0 14) + 1))) ∧ (¬ (h.I a0 8) ≤ x3 → vp_in x3 48 ∧ z_Ct l G m_X11_gets [.ref a0, .int (h.I a0 10), .int (h.I (a0 + 4) (Int32.toNatClampNeg x3)), .int 0] h (z_Qv (fun h_3 => z_V l G m_X11_takes (z_Fm G m_X11_takes Q) 0 0 h_3 19 [some (.ref a0), none, none, some (.int (x3 + 1))] [])))) : z_V l G m_X11_takes (z_Fm G m_X11_takes Q) 0 0 h 19 [some (.ref a0), none, none, some (.int x3)] [] := by
  refine z_iload_n (q := 20) (i := 3) (x := x3) dX11_takes_19 rfl rfl rfl ?_
  refine z_aload_n (q := 21) (i := 0) (x := a0) dX11_takes_20 rfl rfl rfl ?_
  obtain ⟨g_1, hf⟩ := hf
  refine z_get 9 8 (q := 24) (v := .int (h.I a0 8)) rfl (z_lt rfl) (z_L9_T g_1) q391 dX11_takes_21 rfl rfl ?_
  refine z_icmp_ge (q := 27) (tgt := 48) dX11_takes_24 rfl rfl (fun hc => ?_) (fun hc => ?_)
  · have hf := hf.1 hc
    refine z_aload_n (q := 49) (i := 0) (x := a0) dX11_takes_48 rfl rfl rfl ?_
    refine z_aload_n (q := 50) (i := 0) (x := a0) dX11_takes_49 rfl rfl rfl ?_
    refine z_get 9 10 (q := 53) (v := .int (h.I a0 10)) rfl (z_lt rfl) (z_L9_T g_1) q395 dX11_takes_50 rfl rfl ?_
    refine z_putI 9 11 (q := 56) (x := (h.I a0 10)) (v := .int (h.I a0 10)) rfl (z_lt rfl) (z_L9_T g_1) q397 rfl dX11_takes_53 rfl rfl rfl rfl (fun _ _ _ => rfl) ?_
    refine z_aload_n (q := 57) (i := 0) (x := a0) dX11_takes_56 rfl rfl rfl ?_
    refine z_iconst (q := 58) (v := (-1)) dX11_takes_57 rfl rfl ?_
    refine z_putI 9 10 (q := 61) (x := (-1)) (v := .int (-1)) rfl (z_lt rfl) (z_L9_T g_1) q395 rfl dX11_takes_58 rfl rfl rfl rfl (fun _ _ _ => rfl) ?_
    refine z_aload_n (q := 62) (i := 0) (x := a0) dX11_takes_61 rfl rfl rfl ?_
    refine z_iconst (q := 63) (v := 0) dX11_takes_62 rfl rfl ?_
    refine z_putI 9 8 (q := 66) (x := 0) (v := .int 0) rfl (z_lt rfl) (z_L9_T g_1) q391 rfl dX11_takes_63 rfl rfl rfl rfl (fun _ _ _ => rfl) ?_
    refine z_aload_n (q := 67) (i := 0) (x := a0) dX11_takes_66 rfl rfl rfl ?_
    refine z_iconst (q := 68) (v := 0) dX11_takes_67 rfl rfl ?_
    refine z_putI 9 15 (q := 71) (x := 0) (v := .int 0) rfl (z_lt rfl) (z_L9_T g_1) q409 rfl dX11_takes_68 rfl rfl rfl rfl (fun _ _ _ => rfl) ?_
    refine z_aload_n (q := 72) (i := 0) (x := a0) dX11_takes_71 rfl rfl rfl ?_
    refine z_iconst (q := 73) (v := 0) dX11_takes_72 rfl rfl ?_
    refine z_putI 9 16 (q := 76) (x := 0) (v := .int 0) rfl (z_lt rfl) (z_L9_T g_1) q411 rfl dX11_takes_73 rfl rfl rfl rfl (fun _ _ _ => rfl) ?_
    refine z_aload_n (q := 77) (i := 0) (x := a0) dX11_takes_76 rfl rfl rfl ?_
    refine z_dup (q := 78) dX11_takes_77 rfl rfl ?_
    refine z_get 9 14 (q := 81) (v := .int (h.I a0 14)) rfl (z_lt rfl) (z_L9_T g_1) q406 dX11_takes_78 rfl (congrArg Value.int (Eq.trans (z_rIf (by decide)) (Eq.trans (z_rIf (by decide)) (Eq.trans (z_rIf (by decide)) (Eq.trans (z_rIf (by decide)) (z_rIf (by decide))))))) ?_
    refine z_iconst (q := 82) (v := 1) dX11_takes_81 rfl rfl ?_
    refine z_iadd (q := 83) dX11_takes_82 rfl ?_
    refine z_putI 9 14 (q := 86) (x := ((h.I a0 14) + 1)) (v := .int ((h.I a0 14) + 1)) rfl (z_lt rfl) (z_L9_T g_1) q406 rfl dX11_takes_83 rfl rfl rfl rfl (fun _ _ _ => rfl) ?_
    exact z_vret dX11_takes_86 rfl hf
  · have hf := hf.2 hc
    refine z_aload_n (q := 28) (i := 0) (x := a0) dX11_takes_27 rfl rfl rfl ?_
    refine z_aload_n (q := 29) (i := 0) (x := a0) dX11_takes_28 rfl rfl rfl ?_
    refine z_get 9 10 (q := 32) (v := .int (h.I a0 10)) rfl (z_lt rfl) (z_L9_T g_1) q395 dX11_takes_29 rfl rfl ?_
    refine z_aload_n (q := 33) (i := 0) (x := a0) dX11_takes_32 rfl rfl rfl ?_
    refine z_get 9 3 (q := 36) (v := .ref (a0 + 4)) rfl (z_lt rfl) (z_L9_T g_1) q380 dX11_takes_33 rfl (z_fvR (fun _ _ _ => rfl) (z_L9_P3 g_1)) ?_
    refine z_iload_n (q := 37) (i := 3) (x := x3) dX11_takes_36 rfl rfl rfl ?_
    obtain ⟨g_2, hf⟩ := hf
    refine z_iald (q := 38) (n := 48) (z_L9_A3 g_1) g_2 dX11_takes_37 rfl ?_
    refine z_iconst (q := 39) (v := 0) dX11_takes_38 rfl rfl ?_
    refine z_cVv m_X11_gets [.int (h.I a0 10), .int (h.I (a0 + 4) (Int32.toNatClampNeg x3)), .int 0] (a0) (q := 42) (rc2 := 0) (rs2 := 0) (st := []) dX11_takes_39 rfl q1390 oV_X11_gets rfl rfl ⟨z_le rfl, z_le rfl⟩ (z_le rfl) (z_rcv_of 9 rfl (z_L9_T g_1) rfl) rfl  rfl hf (fun h_3 hf => ?_)
    refine z_iinc (q := 45) (i := 3) (x := x3) (v := (x3 + 1)) (ls2 := [some (.ref a0), none, none, some (.int (x3 + 1))]) dX11_takes_42 rfl rfl (z_lt rfl) rfl rfl ?_
    refine z_goto (q := 19) dX11_takes_45 rfl ?_
    exact hf

theorem u_X11_turn {l : Launch} {G : z_G} {a0 : Nat} {a1 : Nat} {a2 : Nat} {a3 : Nat} {h : z_H} {Q : z_Q} (hst : l.stackTraces = false)  (hf : z_L9 h a0 ∧ z_Ct l G m_X11_turned [.ref a0, .ref a1] h (z_Qi (fun x_2 h_3 => (x_2 = 0 → z_L9 h_3 a0 ∧ Q (some (.int (if (h_3.I a0 12) < 0 then 0 else 2))) h_3) ∧ (¬ x_2 = 0 → z_L9 h_3 a0 ∧ ((h_3.I a0 16) = 0 → z_Ct l G m_X11_takes [.ref a0, .ref a1, .ref a2] h_3 (z_Qv (fun h_5 => Q (some (.int 1)) h_5))) ∧ (¬ (h_3.I a0 16) = 0 → z_Ct l G m_X11_takes [.ref a0, .ref a1, .ref a3] h_3 (z_Qv (fun h_6 => Q (some (.int 1)) h_6))))))) : z_Ct l G m_X11_turn [.ref a0, .ref a1, .ref a2, .ref a3] h Q := by
  refine z_Ct.of (ls := [some (.ref a0), some (.ref a1), some (.ref a2), some (.ref a3)]) hst rfl (by show plainName yX11_turn.cls = true; decide +kernel) (z_le rfl) rfl ?_
  show z_V l G m_X11_turn (z_Fm G m_X11_turn Q) 0 0 h 0 [some (.ref a0), some (.ref a1), some (.ref a2), some (.ref a3)] []
  refine z_aload_n (q := 1) (i := 0) (x := a0) dX11_turn_0 rfl rfl rfl ?_
  refine z_aload_n (q := 2) (i := 1) (x := a1) dX11_turn_1 rfl rfl rfl ?_
  obtain ⟨g_1, hf⟩ := hf
  refine z_cVi m_X11_turned [.ref a1] (a0) (q := 5) (rc2 := 0) (rs2 := 0) (st := []) dX11_turn_2 rfl q1442 oV_X11_turned rfl rfl ⟨z_le rfl, z_le rfl⟩ (z_le rfl) (z_rcv_of 9 rfl (z_L9_T g_1) rfl) rfl  rfl hf (fun x_2 h_3 hf => ?_)
  refine z_if_ne (q := 8) (tgt := 21) dX11_turn_5 rfl rfl (fun hc => ?_) (fun hc => ?_)
  · have hf := hf.2 hc
    refine z_aload_n (q := 22) (i := 0) (x := a0) dX11_turn_21 rfl rfl rfl ?_
    refine z_aload_n (q := 23) (i := 1) (x := a1) dX11_turn_22 rfl rfl rfl ?_
    refine z_aload_n (q := 24) (i := 0) (x := a0) dX11_turn_23 rfl rfl rfl ?_
    obtain ⟨g_4, hf⟩ := hf
    refine z_get 9 16 (q := 27) (v := .int (h_3.I a0 16)) rfl (z_lt rfl) (z_L9_T g_4) q411 dX11_turn_24 rfl rfl ?_
    refine z_if_eq (q := 30) (tgt := 34) dX11_turn_27 rfl rfl (fun hc => ?_) (fun hc => ?_)
    · have hf := hf.1 hc
      refine z_aload_n (q := 35) (i := 2) (x := a2) dX11_turn_34 rfl rfl rfl ?_
      refine z_cVv m_X11_takes [.ref a1, .ref a2] (a0) (q := 38) (rc2 := 0) (rs2 := 0) (st := []) dX11_turn_35 rfl q1443 oV_X11_takes rfl rfl ⟨z_le rfl, z_le rfl⟩ (z_le rfl) (z_rcv_of 9 rfl (z_L9_T g_4) rfl) rfl  rfl hf (fun h_5 hf => ?_)
      refine z_iconst (q := 39) (v := 1) dX11_turn_38 rfl rfl ?_
      exact z_iret dX11_turn_39 rfl hf
    · have hf := hf.2 hc
      refine z_aload_n (q := 31) (i := 3) (x := a3) dX11_turn_30 rfl rfl rfl ?_
      refine z_goto (q := 35) dX11_turn_31 rfl ?_
      refine z_cVv m_X11_takes [.ref a1, .ref a3] (a0) (q := 38) (rc2 := 0) (rs2 := 0) (st := []) dX11_turn_35 rfl q1443 oV_X11_takes rfl rfl ⟨z_le rfl, z_le rfl⟩ (z_le rfl) (z_rcv_of 9 rfl (z_L9_T g_4) rfl) rfl  rfl hf (fun h_6 hf => ?_)
      refine z_iconst (q := 39) (v := 1) dX11_turn_38 rfl rfl ?_
      exact z_iret dX11_turn_39 rfl hf
  · have hf := hf.1 hc
    refine z_aload_n (q := 9) (i := 0) (x := a0) dX11_turn_8 rfl rfl rfl ?_
    obtain ⟨g_7, hf⟩ := hf
    refine z_get 9 12 (q := 12) (v := .int (h_3.I a0 12)) rfl (z_lt rfl) (z_L9_T g_7) q400 dX11_turn_9 rfl rfl ?_
    have hk : z_V l G m_X11_turn (z_Fm G m_X11_turn Q) 0 0 h_3 20 [some (.ref a0), some (.ref a1), some (.ref a2), some (.ref a3)] [.int (if (h_3.I a0 12) < 0 then 0 else 2)] := by
      exact z_iret dX11_turn_20 rfl hf
    refine z_if_lt (q := 15) (tgt := 19) dX11_turn_12 rfl rfl (fun hc => ?_) (fun hc => ?_)
    · have hk := (z_ite hk).1 hc
      refine z_iconst (q := 20) (v := 0) dX11_turn_19 rfl rfl ?_
      exact hk
    · have hk := (z_ite hk).2 hc
      refine z_iconst (q := 16) (v := 2) dX11_turn_15 rfl rfl ?_
      refine z_goto (q := 20) dX11_turn_16 rfl ?_
      exact hk

theorem u_X11_turned {l : Launch} {G : z_G} {a0 : Nat} {a1 : Nat} {h : z_H} {Q : z_Q} (hst : l.stackTraces = false)  (hf : z_L9 h a0 ∧ ((h.I a0 12) < 0 → z_Ct l G m_X11_cards [.ref a0, .int (h.I a0 11)] h (z_Qi (fun x_2 h_3 => (x_2 = 0 → z_L9 h_3 a0 ∧ Q (some (.int 0)) (h_3.sI a0 12 (1 - (h_3.I a0 11)))) ∧ (¬ x_2 = 0 → z_L9 h_3 a0 ∧ z_Ct l G m_X11_turnsUp [.ref a0] h_3 (z_Qv (fun h_5 => z_L9 h_5 a0 ∧ vp_in ((h_5.I a0 8) - 1) 48 ∧ ∃ n_8, h_5.T a1 = (1, n_8) ∧ vp_in (h_5.I (a0 + 3) (Int32.toNatClampNeg ((h_5.I a0 8) - 1))) n_8 ∧ ∀ v_11 : Int32, v_11 = (h_5.I a1 (Int32.toNatClampNeg (h_5.I (a0 + 3) (Int32.toNatClampNeg ((h_5.I a0 8) - 1))))) → (v_11 ≤ 0 → ((h_5.I a0 9) = 0 → Q (some (.int 0)) (h_5.sI a0 11 (1 - (h_5.I a0 11)))) ∧ (¬ (h_5.I a0 9) = 0 → Q (some (.int (if ((h_5.I a0 9) - 1) = 0 then 1 else 0))) (h_5.sI a0 9 ((h_5.I a0 9) - 1)))) ∧ (¬ v_11 ≤ 0 → ((h_5.I a0 9) ≤ 0 → Q (some (.int 0)) (((h_5.sI a0 9 v_11).sI a0 10 (h_5.I a0 11)).sI a0 11 (1 - (h_5.I a0 11)))) ∧ (¬ (h_5.I a0 9) ≤ 0 → Q (some (.int 0)) ((((h_5.sI a0 15 ((h_5.I a0 15) + 1)).sI a0 9 v_11).sI a0 10 (h_5.I a0 11)).sI a0 11 (1 - (h_5.I a0 11))))))))))) ∧ (¬ (h.I a0 12) < 0 → Q (some (.int 0)) h)) : z_Ct l G m_X11_turned [.ref a0, .ref a1] h Q := by
  refine z_Ct.of (ls := [some (.ref a0), some (.ref a1), none]) hst rfl (by show plainName yX11_turned.cls = true; decide +kernel) (z_le rfl) rfl ?_
  show z_V l G m_X11_turned (z_Fm G m_X11_turned Q) 0 0 h 0 [some (.ref a0), some (.ref a1), none] []
  refine z_aload_n (q := 1) (i := 0) (x := a0) dX11_turned_0 rfl rfl rfl ?_
  obtain ⟨g_1, hf⟩ := hf
  refine z_get 9 12 (q := 4) (v := .int (h.I a0 12)) rfl (z_lt rfl) (z_L9_T g_1) q400 dX11_turned_1 rfl rfl ?_
  refine z_if_lt (q := 7) (tgt := 9) dX11_turned_4 rfl rfl (fun hc => ?_) (fun hc => ?_)
  · have hf := hf.1 hc
    refine z_aload_n (q := 10) (i := 0) (x := a0) dX11_turned_9 rfl rfl rfl ?_
    refine z_aload_n (q := 11) (i := 0) (x := a0) dX11_turned_10 rfl rfl rfl ?_
    refine z_get 9 11 (q := 14) (v := .int (h.I a0 11)) rfl (z_lt rfl) (z_L9_T g_1) q397 dX11_turned_11 rfl rfl ?_
    refine z_cVi m_X11_cards [.int (h.I a0 11)] (a0) (q := 17) (rc2 := 0) (rs2 := 0) (st := []) dX11_turned_14 rfl q1319 oV_X11_cards rfl rfl ⟨z_le rfl, z_le rfl⟩ (z_le rfl) (z_rcv_of 9 rfl (z_L9_T g_1) rfl) rfl  rfl hf (fun x_2 h_3 hf => ?_)
    refine z_if_ne (q := 20) (tgt := 32) dX11_turned_17 rfl rfl (fun hc => ?_) (fun hc => ?_)
    · have hf := hf.2 hc
      refine z_aload_n (q := 33) (i := 0) (x := a0) dX11_turned_32 rfl rfl rfl ?_
      obtain ⟨g_4, hf⟩ := hf
      refine z_cVv m_X11_turnsUp [] (a0) (q := 36) (rc2 := 0) (rs2 := 0) (st := []) dX11_turned_33 rfl q1320 oV_X11_turnsUp rfl rfl ⟨z_le rfl, z_le rfl⟩ (z_le rfl) (z_rcv_of 9 rfl (z_L9_T g_4) rfl) rfl  rfl hf (fun h_5 hf => ?_)
      refine z_aload_n (q := 37) (i := 1) (x := a1) dX11_turned_36 rfl rfl rfl ?_
      refine z_aload_n (q := 38) (i := 0) (x := a0) dX11_turned_37 rfl rfl rfl ?_
      obtain ⟨g_6, hf⟩ := hf
      refine z_get 9 2 (q := 41) (v := .ref (a0 + 3)) rfl (z_lt rfl) (z_L9_T g_6) q378 dX11_turned_38 rfl (z_fvR (fun _ _ _ => rfl) (z_L9_P2 g_6)) ?_
      refine z_aload_n (q := 42) (i := 0) (x := a0) dX11_turned_41 rfl rfl rfl ?_
      refine z_get 9 8 (q := 45) (v := .int (h_5.I a0 8)) rfl (z_lt rfl) (z_L9_T g_6) q391 dX11_turned_42 rfl rfl ?_
      refine z_iconst (q := 46) (v := 1) dX11_turned_45 rfl rfl ?_
      refine z_isub (q := 47) dX11_turned_46 rfl ?_
      obtain ⟨g_7, hf⟩ := hf
      refine z_iald (q := 48) (n := 48) (z_L9_A2 g_6) g_7 dX11_turned_47 rfl ?_
      obtain ⟨n_8, g_9, hf⟩ := hf
      obtain ⟨g_10, hf⟩ := hf
      refine z_iald (q := 49) (n := n_8) g_9 g_10 dX11_turned_48 rfl ?_
      refine z_nmI (fun v_11 hv_12 => ?_)
      have hf := hf v_11 hv_12
      refine z_istore_n (q := 50) (i := 2) (ls2 := [some (.ref a0), some (.ref a1), some (.int v_11)]) (x := v_11) dX11_turned_49 rfl (z_lt rfl) rfl rfl ?_
      refine z_iload_n (q := 51) (i := 2) (x := v_11) dX11_turned_50 rfl rfl rfl ?_
      refine z_if_le (q := 54) (tgt := 96) dX11_turned_51 rfl rfl (fun hc => ?_) (fun hc => ?_)
      · have hf := hf.1 hc
        refine z_aload_n (q := 97) (i := 0) (x := a0) dX11_turned_96 rfl rfl rfl ?_
        refine z_get 9 9 (q := 100) (v := .int (h_5.I a0 9)) rfl (z_lt rfl) (z_L9_T g_6) q393 dX11_turned_97 rfl rfl ?_
        refine z_if_ne (q := 103) (tgt := 115) dX11_turned_100 rfl rfl (fun hc => ?_) (fun hc => ?_)
        · have hf := hf.2 hc
          refine z_aload_n (q := 116) (i := 0) (x := a0) dX11_turned_115 rfl rfl rfl ?_
          refine z_dup (q := 117) dX11_turned_116 rfl rfl ?_
          refine z_get 9 9 (q := 120) (v := .int (h_5.I a0 9)) rfl (z_lt rfl) (z_L9_T g_6) q393 dX11_turned_117 rfl rfl ?_
          refine z_iconst (q := 121) (v := 1) dX11_turned_120 rfl rfl ?_
          refine z_isub (q := 122) dX11_turned_121 rfl ?_
          refine z_putI 9 9 (q := 125) (x := ((h_5.I a0 9) - 1)) (v := .int ((h_5.I a0 9) - 1)) rfl (z_lt rfl) (z_L9_T g_6) q393 rfl dX11_turned_122 rfl rfl rfl rfl (fun _ _ _ => rfl) ?_
          refine z_aload_n (q := 126) (i := 0) (x := a0) dX11_turned_125 rfl rfl rfl ?_
          refine z_get 9 9 (q := 129) (v := .int ((h_5.I a0 9) - 1)) rfl (z_lt rfl) (z_L9_T g_6) q393 dX11_turned_126 rfl (congrArg Value.int z_rIs) ?_
          have hk : z_V l G m_X11_turned (z_Fm G m_X11_turned Q) 0 0 (h_5.sI a0 9 ((h_5.I a0 9) - 1)) 137 [some (.ref a0), some (.ref a1), some (.int v_11)] [.int (if ((h_5.I a0 9) - 1) = 0 then 1 else 0)] := by
            exact z_zret dX11_turned_137 rfl (z_nb01 (z_bif z_b1 z_b0)) hf
          refine z_if_ne (q := 132) (tgt := 136) dX11_turned_129 rfl rfl (fun hc => ?_) (fun hc => ?_)
          · have hk := (z_ite hk).2 hc
            refine z_iconst (q := 137) (v := 0) dX11_turned_136 rfl rfl ?_
            exact hk
          · have hk := (z_ite hk).1 hc
            refine z_iconst (q := 133) (v := 1) dX11_turned_132 rfl rfl ?_
            refine z_goto (q := 137) dX11_turned_133 rfl ?_
            exact hk
        · have hf := hf.1 hc
          refine z_aload_n (q := 104) (i := 0) (x := a0) dX11_turned_103 rfl rfl rfl ?_
          refine z_iconst (q := 105) (v := 1) dX11_turned_104 rfl rfl ?_
          refine z_aload_n (q := 106) (i := 0) (x := a0) dX11_turned_105 rfl rfl rfl ?_
          refine z_get 9 11 (q := 109) (v := .int (h_5.I a0 11)) rfl (z_lt rfl) (z_L9_T g_6) q397 dX11_turned_106 rfl rfl ?_
          refine z_isub (q := 110) dX11_turned_109 rfl ?_
          refine z_putI 9 11 (q := 113) (x := (1 - (h_5.I a0 11))) (v := .int (1 - (h_5.I a0 11))) rfl (z_lt rfl) (z_L9_T g_6) q397 rfl dX11_turned_110 rfl rfl rfl rfl (fun _ _ _ => rfl) ?_
          refine z_iconst (q := 114) (v := 0) dX11_turned_113 rfl rfl ?_
          exact z_zret dX11_turned_114 rfl (z_nb01 z_b0) hf
      · have hf := hf.2 hc
        refine z_aload_n (q := 55) (i := 0) (x := a0) dX11_turned_54 rfl rfl rfl ?_
        refine z_get 9 9 (q := 58) (v := .int (h_5.I a0 9)) rfl (z_lt rfl) (z_L9_T g_6) q393 dX11_turned_55 rfl rfl ?_
        refine z_if_le (q := 61) (tgt := 71) dX11_turned_58 rfl rfl (fun hc => ?_) (fun hc => ?_)
        · have hf := hf.1 hc
          refine z_aload_n (q := 72) (i := 0) (x := a0) dX11_turned_71 rfl rfl rfl ?_
          refine z_iload_n (q := 73) (i := 2) (x := v_11) dX11_turned_72 rfl rfl rfl ?_
          refine z_putI 9 9 (q := 76) (x := v_11) (v := .int v_11) rfl (z_lt rfl) (z_L9_T g_6) q393 rfl dX11_turned_73 rfl rfl rfl rfl (fun _ _ _ => rfl) ?_
          refine z_aload_n (q := 77) (i := 0) (x := a0) dX11_turned_76 rfl rfl rfl ?_
          refine z_aload_n (q := 78) (i := 0) (x := a0) dX11_turned_77 rfl rfl rfl ?_
          refine z_get 9 11 (q := 81) (v := .int (h_5.I a0 11)) rfl (z_lt rfl) (z_L9_T g_6) q397 dX11_turned_78 rfl (congrArg Value.int (z_rIf (by decide))) ?_
          refine z_putI 9 10 (q := 84) (x := (h_5.I a0 11)) (v := .int (h_5.I a0 11)) rfl (z_lt rfl) (z_L9_T g_6) q395 rfl dX11_turned_81 rfl rfl rfl rfl (fun _ _ _ => rfl) ?_
          refine z_aload_n (q := 85) (i := 0) (x := a0) dX11_turned_84 rfl rfl rfl ?_
          refine z_iconst (q := 86) (v := 1) dX11_turned_85 rfl rfl ?_
          refine z_aload_n (q := 87) (i := 0) (x := a0) dX11_turned_86 rfl rfl rfl ?_
          refine z_get 9 11 (q := 90) (v := .int (h_5.I a0 11)) rfl (z_lt rfl) (z_L9_T g_6) q397 dX11_turned_87 rfl (congrArg Value.int (Eq.trans (z_rIf (by decide)) (z_rIf (by decide)))) ?_
          refine z_isub (q := 91) dX11_turned_90 rfl ?_
          refine z_putI 9 11 (q := 94) (x := (1 - (h_5.I a0 11))) (v := .int (1 - (h_5.I a0 11))) rfl (z_lt rfl) (z_L9_T g_6) q397 rfl dX11_turned_91 rfl rfl rfl rfl (fun _ _ _ => rfl) ?_
          refine z_iconst (q := 95) (v := 0) dX11_turned_94 rfl rfl ?_
          exact z_zret dX11_turned_95 rfl (z_nb01 z_b0) hf
        · have hf := hf.2 hc
          refine z_aload_n (q := 62) (i := 0) (x := a0) dX11_turned_61 rfl rfl rfl ?_
          refine z_dup (q := 63) dX11_turned_62 rfl rfl ?_
          refine z_get 9 15 (q := 66) (v := .int (h_5.I a0 15)) rfl (z_lt rfl) (z_L9_T g_6) q409 dX11_turned_63 rfl rfl ?_
          refine z_iconst (q := 67) (v := 1) dX11_turned_66 rfl rfl ?_
          refine z_iadd (q := 68) dX11_turned_67 rfl ?_
          refine z_putI 9 15 (q := 71) (x := ((h_5.I a0 15) + 1)) (v := .int ((h_5.I a0 15) + 1)) rfl (z_lt rfl) (z_L9_T g_6) q409 rfl dX11_turned_68 rfl rfl rfl rfl (fun _ _ _ => rfl) ?_
          refine z_aload_n (q := 72) (i := 0) (x := a0) dX11_turned_71 rfl rfl rfl ?_
          refine z_iload_n (q := 73) (i := 2) (x := v_11) dX11_turned_72 rfl rfl rfl ?_
          refine z_putI 9 9 (q := 76) (x := v_11) (v := .int v_11) rfl (z_lt rfl) (z_L9_T g_6) q393 rfl dX11_turned_73 rfl rfl rfl rfl (fun _ _ _ => rfl) ?_
          refine z_aload_n (q := 77) (i := 0) (x := a0) dX11_turned_76 rfl rfl rfl ?_
          refine z_aload_n (q := 78) (i := 0) (x := a0) dX11_turned_77 rfl rfl rfl ?_
          refine z_get 9 11 (q := 81) (v := .int (h_5.I a0 11)) rfl (z_lt rfl) (z_L9_T g_6) q397 dX11_turned_78 rfl (congrArg Value.int (Eq.trans (z_rIf (by decide)) (z_rIf (by decide)))) ?_
          refine z_putI 9 10 (q := 84) (x := (h_5.I a0 11)) (v := .int (h_5.I a0 11)) rfl (z_lt rfl) (z_L9_T g_6) q395 rfl dX11_turned_81 rfl rfl rfl rfl (fun _ _ _ => rfl) ?_
          refine z_aload_n (q := 85) (i := 0) (x := a0) dX11_turned_84 rfl rfl rfl ?_
          refine z_iconst (q := 86) (v := 1) dX11_turned_85 rfl rfl ?_
          refine z_aload_n (q := 87) (i := 0) (x := a0) dX11_turned_86 rfl rfl rfl ?_
          refine z_get 9 11 (q := 90) (v := .int (h_5.I a0 11)) rfl (z_lt rfl) (z_L9_T g_6) q397 dX11_turned_87 rfl (congrArg Value.int (Eq.trans (z_rIf (by decide)) (Eq.trans (z_rIf (by decide)) (z_rIf (by decide))))) ?_
          refine z_isub (q := 91) dX11_turned_90 rfl ?_
          refine z_putI 9 11 (q := 94) (x := (1 - (h_5.I a0 11))) (v := .int (1 - (h_5.I a0 11))) rfl (z_lt rfl) (z_L9_T g_6) q397 rfl dX11_turned_91 rfl rfl rfl rfl (fun _ _ _ => rfl) ?_
          refine z_iconst (q := 95) (v := 0) dX11_turned_94 rfl rfl ?_
          exact z_zret dX11_turned_95 rfl (z_nb01 z_b0) hf
    · have hf := hf.1 hc
      refine z_aload_n (q := 21) (i := 0) (x := a0) dX11_turned_20 rfl rfl rfl ?_
      refine z_iconst (q := 22) (v := 1) dX11_turned_21 rfl rfl ?_
      refine z_aload_n (q := 23) (i := 0) (x := a0) dX11_turned_22 rfl rfl rfl ?_
      obtain ⟨g_13, hf⟩ := hf
      refine z_get 9 11 (q := 26) (v := .int (h_3.I a0 11)) rfl (z_lt rfl) (z_L9_T g_13) q397 dX11_turned_23 rfl rfl ?_
      refine z_isub (q := 27) dX11_turned_26 rfl ?_
      refine z_putI 9 12 (q := 30) (x := (1 - (h_3.I a0 11))) (v := .int (1 - (h_3.I a0 11))) rfl (z_lt rfl) (z_L9_T g_13) q400 rfl dX11_turned_27 rfl rfl rfl rfl (fun _ _ _ => rfl) ?_
      refine z_iconst (q := 31) (v := 0) dX11_turned_30 rfl rfl ?_
      exact z_zret dX11_turned_31 rfl (z_nb01 z_b0) hf
  · have hf := hf.2 hc
    refine z_iconst (q := 8) (v := 0) dX11_turned_7 rfl rfl ?_
    exact z_zret dX11_turned_8 rfl (z_nb01 z_b0) hf

theorem u_X11_turnsUp {l : Launch} {G : z_G} {a0 : Nat} {h : z_H} {Q : z_Q} (hst : l.stackTraces = false)  (hf : z_L9 h a0 ∧ z_Ct l G m_X11_gives [.ref a0, .int (h.I a0 11)] (h.sI a0 8 ((h.I a0 8) + 1)) (z_Qi (fun x_2 h_3 => ∃ n_4, h_3.T (a0 + 3) = (1, n_4) ∧ vp_in (h.I a0 8) n_4 ∧ z_L9 h_3 a0 ∧ Q none ((h_3.sI (a0 + 3) (Int32.toNatClampNeg (h.I a0 8)) x_2).sI a0 13 ((h_3.I a0 13) + 1))))) : z_Ct l G m_X11_turnsUp [.ref a0] h Q := by
  refine z_Ct.of (ls := [some (.ref a0)]) hst rfl (by show plainName yX11_turnsUp.cls = true; decide +kernel) (z_le rfl) rfl ?_
  show z_V l G m_X11_turnsUp (z_Fm G m_X11_turnsUp Q) 0 0 h 0 [some (.ref a0)] []
  refine z_aload_n (q := 1) (i := 0) (x := a0) dX11_turnsUp_0 rfl rfl rfl ?_
  obtain ⟨g_1, hf⟩ := hf
  refine z_get 9 2 (q := 4) (v := .ref (a0 + 3)) rfl (z_lt rfl) (z_L9_T g_1) q378 dX11_turnsUp_1 rfl (z_fvR (fun _ _ _ => rfl) (z_L9_P2 g_1)) ?_
  refine z_aload_n (q := 5) (i := 0) (x := a0) dX11_turnsUp_4 rfl rfl rfl ?_
  refine z_dup (q := 6) dX11_turnsUp_5 rfl rfl ?_
  refine z_get 9 8 (q := 9) (v := .int (h.I a0 8)) rfl (z_lt rfl) (z_L9_T g_1) q391 dX11_turnsUp_6 rfl rfl ?_
  refine z_dup_x1 (q := 10) dX11_turnsUp_9 rfl rfl rfl ?_
  refine z_iconst (q := 11) (v := 1) dX11_turnsUp_10 rfl rfl ?_
  refine z_iadd (q := 12) dX11_turnsUp_11 rfl ?_
  refine z_putI 9 8 (q := 15) (x := ((h.I a0 8) + 1)) (v := .int ((h.I a0 8) + 1)) rfl (z_lt rfl) (z_L9_T g_1) q391 rfl dX11_turnsUp_12 rfl rfl rfl rfl (fun _ _ _ => rfl) ?_
  refine z_aload_n (q := 16) (i := 0) (x := a0) dX11_turnsUp_15 rfl rfl rfl ?_
  refine z_aload_n (q := 17) (i := 0) (x := a0) dX11_turnsUp_16 rfl rfl rfl ?_
  refine z_get 9 11 (q := 20) (v := .int (h.I a0 11)) rfl (z_lt rfl) (z_L9_T g_1) q397 dX11_turnsUp_17 rfl (congrArg Value.int (z_rIf (by decide))) ?_
  refine z_cVi m_X11_gives [.int (h.I a0 11)] (a0) (q := 23) (rc2 := 0) (rs2 := 0) (st := [.int (h.I a0 8), .ref (a0 + 3)]) dX11_turnsUp_20 rfl q1324 oV_X11_gives rfl rfl ⟨z_le rfl, z_le rfl⟩ (z_le rfl) (z_rcv_of 9 rfl (z_L9_T g_1) rfl) rfl  rfl hf (fun x_2 h_3 hf => ?_)
  obtain ⟨n_4, g_5, hf⟩ := hf
  obtain ⟨g_6, hf⟩ := hf
  refine z_iast (q := 24) (n := n_4) g_5 g_6 dX11_turnsUp_23 rfl ?_
  refine z_aload_n (q := 25) (i := 0) (x := a0) dX11_turnsUp_24 rfl rfl rfl ?_
  refine z_dup (q := 26) dX11_turnsUp_25 rfl rfl ?_
  obtain ⟨g_7, hf⟩ := hf
  refine z_get 9 13 (q := 29) (v := .int (h_3.I a0 13)) rfl (z_lt rfl) (z_L9_T g_7) q403 dX11_turnsUp_26 rfl (congrArg Value.int (z_rIa (by omega))) ?_
  refine z_iconst (q := 30) (v := 1) dX11_turnsUp_29 rfl rfl ?_
  refine z_iadd (q := 31) dX11_turnsUp_30 rfl ?_
  refine z_putI 9 13 (q := 34) (x := ((h_3.I a0 13) + 1)) (v := .int ((h_3.I a0 13) + 1)) rfl (z_lt rfl) (z_L9_T g_7) q403 rfl dX11_turnsUp_31 rfl rfl rfl rfl (fun _ _ _ => rfl) ?_
  exact z_vret dX11_turnsUp_34 rfl hf

theorem u_X11_worth {l : Launch} {G : z_G} {a0 : Nat} {x1 : Int32} {a2 : Nat} {h : z_H} {Q : z_Q} (hst : l.stackTraces = false)  (hf : z_V l G m_X11_worth (z_Fm G m_X11_worth Q) 0 0 h 5 [some (.ref a0), some (.int x1), some (.ref a2), some (.int 0), some (.int 0)] []) : z_Ct l G m_X11_worth [.ref a0, .int x1, .ref a2] h Q := by
  refine z_Ct.of (ls := [some (.ref a0), some (.int x1), some (.ref a2), none, none]) hst rfl (by show plainName yX11_worth.cls = true; decide +kernel) (z_le rfl) rfl ?_
  show z_V l G m_X11_worth (z_Fm G m_X11_worth Q) 0 0 h 0 [some (.ref a0), some (.int x1), some (.ref a2), none, none] []
  refine z_iconst (q := 1) (v := 0) dX11_worth_0 rfl rfl ?_
  refine z_istore_n (q := 2) (i := 3) (ls2 := [some (.ref a0), some (.int x1), some (.ref a2), some (.int 0), none]) (x := 0) dX11_worth_1 rfl (z_lt rfl) rfl rfl ?_
  refine z_iconst (q := 3) (v := 0) dX11_worth_2 rfl rfl ?_
  refine z_istore (q := 5) (i := 4) (ls2 := [some (.ref a0), some (.int x1), some (.ref a2), some (.int 0), some (.int 0)]) (x := 0) dX11_worth_3 (z_lt rfl) rfl rfl ?_
  exact hf

theorem b_X11_worth_5 {l : Launch} {G : z_G} {a0 : Nat} {x1 : Int32} {a2 : Nat} {x3 : Int32} {x4 : Int32} {h : z_H} {Q : z_Q}  (hf : z_L9 h a0 ∧ z_Ct l G m_X11_cards [.ref a0, .int x1] h (z_Qi (fun x_2 h_3 => (x_2 ≤ x4 → Q (some (.int x3)) h_3) ∧ (¬ x_2 ≤ x4 → z_L9 h_3 a0 ∧ z_Ct l G m_X11_card [.ref a0, .int x1, .int x4] h_3 (z_Qi (fun x_5 h_6 => ∃ n_7, h_6.T a2 = (1, n_7) ∧ vp_in x_5 n_7 ∧ ∀ v_10 : Int32, v_10 = (x3 + (h_6.I a2 (Int32.toNatClampNeg x_5))) → z_V l G m_X11_worth (z_Fm G m_X11_worth Q) 0 0 h_6 5 [some (.ref a0), some (.int x1), some (.ref a2), some (.int v_10), some (.int (x4 + 1))] [])))))) : z_V l G m_X11_worth (z_Fm G m_X11_worth Q) 0 0 h 5 [some (.ref a0), some (.int x1), some (.ref a2), some (.int x3), some (.int x4)] [] := by
  refine z_iload (q := 7) (i := 4) (x := x4) dX11_worth_5 rfl rfl ?_
  refine z_aload_n (q := 8) (i := 0) (x := a0) dX11_worth_7 rfl rfl rfl ?_
  refine z_iload_n (q := 9) (i := 1) (x := x1) dX11_worth_8 rfl rfl rfl ?_
  obtain ⟨g_1, hf⟩ := hf
  refine z_cVi m_X11_cards [.int x1] (a0) (q := 12) (rc2 := 0) (rs2 := 0) (st := [.int x4]) dX11_worth_9 rfl q1319 oV_X11_cards rfl rfl ⟨z_le rfl, z_le rfl⟩ (z_le rfl) (z_rcv_of 9 rfl (z_L9_T g_1) rfl) rfl  rfl hf (fun x_2 h_3 hf => ?_)
  refine z_icmp_ge (q := 15) (tgt := 33) dX11_worth_12 rfl rfl (fun hc => ?_) (fun hc => ?_)
  · have hf := hf.1 hc
    refine z_iload_n (q := 34) (i := 3) (x := x3) dX11_worth_33 rfl rfl rfl ?_
    exact z_iret dX11_worth_34 rfl hf
  · have hf := hf.2 hc
    refine z_iload_n (q := 16) (i := 3) (x := x3) dX11_worth_15 rfl rfl rfl ?_
    refine z_aload_n (q := 17) (i := 2) (x := a2) dX11_worth_16 rfl rfl rfl ?_
    refine z_aload_n (q := 18) (i := 0) (x := a0) dX11_worth_17 rfl rfl rfl ?_
    refine z_iload_n (q := 19) (i := 1) (x := x1) dX11_worth_18 rfl rfl rfl ?_
    refine z_iload (q := 21) (i := 4) (x := x4) dX11_worth_19 rfl rfl ?_
    obtain ⟨g_4, hf⟩ := hf
    refine z_cVi m_X11_card [.int x1, .int x4] (a0) (q := 24) (rc2 := 0) (rs2 := 0) (st := [.ref a2, .int x3]) dX11_worth_21 rfl q1498 oV_X11_card rfl rfl ⟨z_le rfl, z_le rfl⟩ (z_le rfl) (z_rcv_of 9 rfl (z_L9_T g_4) rfl) rfl  rfl hf (fun x_5 h_6 hf => ?_)
    obtain ⟨n_7, g_8, hf⟩ := hf
    obtain ⟨g_9, hf⟩ := hf
    refine z_iald (q := 25) (n := n_7) g_8 g_9 dX11_worth_24 rfl ?_
    refine z_iadd (q := 26) dX11_worth_25 rfl ?_
    refine z_nmI (fun v_10 hv_11 => ?_)
    have hf := hf v_10 hv_11
    refine z_istore_n (q := 27) (i := 3) (ls2 := [some (.ref a0), some (.int x1), some (.ref a2), some (.int v_10), some (.int x4)]) (x := v_10) dX11_worth_26 rfl (z_lt rfl) rfl rfl ?_
    refine z_iinc (q := 30) (i := 4) (x := x4) (v := (x4 + 1)) (ls2 := [some (.ref a0), some (.int x1), some (.ref a2), some (.int v_10), some (.int (x4 + 1))]) dX11_worth_27 rfl rfl (z_lt rfl) rfl rfl ?_
    refine z_goto (q := 5) dX11_worth_30 rfl ?_
    exact hf

theorem u_X12_init {l : Launch} {G : z_G} {a0 : Nat} {h : z_H} {Q : z_Q} (hst : l.stackTraces = false) (hlt : a0 < h.n)  (hf : ((h.nw (1, 24)).T a0).1 = 20 ∧ Q none ((h.nw (1, 24)).sP a0 0 (some (h.n)))) : z_Ct l G m_X12_init [.ref a0] h Q := by
  refine z_Ct.of (ls := [some (.ref a0)]) hst rfl (by show plainName yX12_init.cls = true; decide +kernel) (z_le rfl) rfl ?_
  show z_V l G m_X12_init (z_Fm G m_X12_init Q) 1 24 h 0 [some (.ref a0)] []
  refine z_aload_n (q := 1) (i := 0) (x := a0) dX12_init_0 rfl rfl rfl ?_
  refine z_objInit (q := 4) dX12_init_1 rfl q482 q170 q171 ⟨z_le rfl, z_le rfl⟩ (z_le rfl) ?_
  refine z_aload_n (q := 5) (i := 0) (x := a0) dX12_init_4 rfl rfl rfl ?_
  refine z_bipush (q := 7) (v := 24) dX12_init_5 (by decide) rfl ?_
  refine z_newa 1 (q := 9) (N := 24) (rc2 := 0) (rs2 := 0) (z_lt rfl) (z_lt rfl) rfl q295 (by decide) rfl (z_le rfl) dX12_init_7 rfl rfl rfl ?_
  obtain ⟨g_1, hf⟩ := hf
  refine z_putP_F 10 0 (q := 12) (x := some (h.n)) (v := .ref (h.n)) rfl (z_lt rfl) g_1 q483 rfl rfl rfl dX12_init_9 rfl rfl rfl rfl (fun _ _ _ => rfl) ?_
  exact z_vret dX12_init_12 rfl hf

theorem u_X14_init {l : Launch} {G : z_G} {a0 : Nat} {x1 : Int32} {x2 : Int32} {h : z_H} {Q : z_Q} (hst : l.stackTraces = false)  (hf : z_Ct l G m_J11_init [.ref a0, .null, .null, .int 0, .int 0] h (z_Qv (fun h_1 => (h_1.T a0).1 = 22 ∧ Q none (h_1.sI a0 6 (x1 + (16 * x2)))))) : z_Ct l G m_X14_init [.ref a0, .int x1, .int x2] h Q := by
  refine z_Ct.of (ls := [some (.ref a0), some (.int x1), some (.int x2)]) hst rfl (by show plainName yX14_init.cls = true; decide +kernel) (z_le rfl) rfl ?_
  show z_V l G m_X14_init (z_Fm G m_X14_init Q) 0 0 h 0 [some (.ref a0), some (.int x1), some (.int x2)] []
  refine z_aload_n (q := 1) (i := 0) (x := a0) dX14_init_0 rfl rfl rfl ?_
  refine z_null (q := 2) dX14_init_1 rfl ?_
  refine z_null (q := 3) dX14_init_2 rfl ?_
  refine z_iconst (q := 4) (v := 0) dX14_init_3 rfl rfl ?_
  refine z_iconst (q := 5) (v := 0) dX14_init_4 rfl rfl ?_
  refine z_cIv m_J11_init [.null, .null, .int 0, .int 0] (a0) (q := 8) (rc2 := 0) (rs2 := 0) (st := []) dX14_init_5 rfl q774 oI_J11_init rfl rfl ⟨z_le rfl, z_le rfl⟩ (z_le rfl) rfl  rfl hf (fun h_1 hf => ?_)
  refine z_aload_n (q := 9) (i := 0) (x := a0) dX14_init_8 rfl rfl rfl ?_
  refine z_iload_n (q := 10) (i := 1) (x := x1) dX14_init_9 rfl rfl rfl ?_
  refine z_bipush (q := 12) (v := 16) dX14_init_10 (by decide) rfl ?_
  refine z_iload_n (q := 13) (i := 2) (x := x2) dX14_init_12 rfl rfl rfl ?_
  refine z_imul (q := 14) dX14_init_13 rfl ?_
  refine z_iadd (q := 15) dX14_init_14 rfl ?_
  obtain ⟨g_2, hf⟩ := hf
  refine z_putI_F 12 6 (q := 18) (x := (x1 + (16 * x2))) (v := .int (x1 + (16 * x2))) rfl (z_lt rfl) g_2 q783 rfl rfl rfl dX14_init_15 rfl rfl rfl rfl (fun _ _ _ => rfl) ?_
  exact z_vret dX14_init_18 rfl hf

theorem u_X15_init {l : Launch} {G : z_G} {a0 : Nat} {h : z_H} {Q : z_Q} (hst : l.stackTraces = false)  (hf : Q none h) : z_Ct l G m_X15_init [.ref a0] h Q := by
  refine z_Ct.of (ls := [some (.ref a0)]) hst rfl (by show plainName yX15_init.cls = true; decide +kernel) (z_le rfl) rfl ?_
  show z_V l G m_X15_init (z_Fm G m_X15_init Q) 0 0 h 0 [some (.ref a0)] []
  refine z_aload_n (q := 1) (i := 0) (x := a0) dX15_init_0 rfl rfl rfl ?_
  refine z_objInit (q := 4) dX15_init_1 rfl q852 q170 q171 ⟨z_le rfl, z_le rfl⟩ (z_le rfl) ?_
  exact z_vret dX15_init_4 rfl hf

theorem u_X16_init {l : Launch} {G : z_G} {a0 : Nat} {x1 : Int32} {h : z_H} {Q : z_Q} (hst : l.stackTraces = false)  (hf : z_Ct l G m_X15_init [.ref a0] h (z_Qv (fun h_1 => (h_1.T a0).1 = 23 ∧ Q none (h_1.sI a0 0 x1)))) : z_Ct l G m_X16_init [.ref a0, .int x1] h Q := by
  refine z_Ct.of (ls := [some (.ref a0), some (.int x1)]) hst rfl (by show plainName yX16_init.cls = true; decide +kernel) (z_le rfl) rfl ?_
  show z_V l G m_X16_init (z_Fm G m_X16_init Q) 0 0 h 0 [some (.ref a0), some (.int x1)] []
  refine z_aload_n (q := 1) (i := 0) (x := a0) dX16_init_0 rfl rfl rfl ?_
  refine z_cINv m_X15_init [] (a0) (q := 4) (rc2 := 0) (rs2 := 0) (st := []) dX16_init_1 rfl (z_nwm q849 rfl) oI_X15_init rfl rfl ⟨z_le rfl, z_le rfl⟩ (z_le rfl) rfl  rfl hf (fun h_1 hf => ?_)
  refine z_aload_n (q := 5) (i := 0) (x := a0) dX16_init_4 rfl rfl rfl ?_
  refine z_iload_n (q := 6) (i := 1) (x := x1) dX16_init_5 rfl rfl rfl ?_
  obtain ⟨g_2, hf⟩ := hf
  refine z_putI_F 13 0 (q := 9) (x := x1) (v := .int x1) rfl (z_lt rfl) g_2 q853 rfl rfl rfl dX16_init_6 rfl rfl rfl rfl (fun _ _ _ => rfl) ?_
  exact z_vret dX16_init_9 rfl hf

theorem u_X16_worked {l : Launch} {G : z_G} {a0 : Nat} {a1 : Nat} {h : z_H} {Q : z_Q} (hst : l.stackTraces = false)  (hf : (h.T a0).1 = 23 ∧ Q (some (.int (h.I a0 0))) h) : z_Ct l G m_X16_worked [.ref a0, .ref a1] h Q := by
  refine z_Ct.of (ls := [some (.ref a0), some (.ref a1)]) hst rfl (by show plainName yX16_worked.cls = true; decide +kernel) (z_le rfl) rfl ?_
  show z_V l G m_X16_worked (z_Fm G m_X16_worked Q) 0 0 h 0 [some (.ref a0), some (.ref a1)] []
  refine z_aload_n (q := 1) (i := 0) (x := a0) dX16_worked_0 rfl rfl rfl ?_
  obtain ⟨g_1, hf⟩ := hf
  refine z_get 13 0 (q := 4) (v := .int (h.I a0 0)) rfl (z_lt rfl) g_1 q853 dX16_worked_1 rfl rfl ?_
  exact z_iret dX16_worked_4 rfl hf

theorem u_X17_init {l : Launch} {G : z_G} {a0 : Nat} {x1 : Int32} {h : z_H} {Q : z_Q} (hst : l.stackTraces = false)  (hf : z_Ct l G m_X15_init [.ref a0] h (z_Qv (fun h_1 => (h_1.T a0).1 = 24 ∧ Q none (h_1.sI a0 0 x1)))) : z_Ct l G m_X17_init [.ref a0, .int x1] h Q := by
  refine z_Ct.of (ls := [some (.ref a0), some (.int x1)]) hst rfl (by show plainName yX17_init.cls = true; decide +kernel) (z_le rfl) rfl ?_
  show z_V l G m_X17_init (z_Fm G m_X17_init Q) 0 0 h 0 [some (.ref a0), some (.int x1)] []
  refine z_aload_n (q := 1) (i := 0) (x := a0) dX17_init_0 rfl rfl rfl ?_
  refine z_cINv m_X15_init [] (a0) (q := 4) (rc2 := 0) (rs2 := 0) (st := []) dX17_init_1 rfl (z_nwm q862 rfl) oI_X15_init rfl rfl ⟨z_le rfl, z_le rfl⟩ (z_le rfl) rfl  rfl hf (fun h_1 hf => ?_)
  refine z_aload_n (q := 5) (i := 0) (x := a0) dX17_init_4 rfl rfl rfl ?_
  refine z_iload_n (q := 6) (i := 1) (x := x1) dX17_init_5 rfl rfl rfl ?_
  obtain ⟨g_2, hf⟩ := hf
  refine z_putI_F 14 0 (q := 9) (x := x1) (v := .int x1) rfl (z_lt rfl) g_2 q863 rfl rfl rfl dX17_init_6 rfl rfl rfl rfl (fun _ _ _ => rfl) ?_
  exact z_vret dX17_init_9 rfl hf

theorem u_X17_worked {l : Launch} {G : z_G} {a0 : Nat} {a1 : Nat} {h : z_H} {Q : z_Q} (hst : l.stackTraces = false)  (hf : (h.T a0).1 = 24 ∧ ∃ n_2, h.T a1 = (1, n_2) ∧ vp_in (h.I a0 0) n_2 ∧ Q (some (.int (h.I a1 (Int32.toNatClampNeg (h.I a0 0))))) h) : z_Ct l G m_X17_worked [.ref a0, .ref a1] h Q := by
  refine z_Ct.of (ls := [some (.ref a0), some (.ref a1)]) hst rfl (by show plainName yX17_worked.cls = true; decide +kernel) (z_le rfl) rfl ?_
  show z_V l G m_X17_worked (z_Fm G m_X17_worked Q) 0 0 h 0 [some (.ref a0), some (.ref a1)] []
  refine z_aload_n (q := 1) (i := 1) (x := a1) dX17_worked_0 rfl rfl rfl ?_
  refine z_aload_n (q := 2) (i := 0) (x := a0) dX17_worked_1 rfl rfl rfl ?_
  obtain ⟨g_1, hf⟩ := hf
  refine z_get 14 0 (q := 5) (v := .int (h.I a0 0)) rfl (z_lt rfl) g_1 q863 dX17_worked_2 rfl rfl ?_
  obtain ⟨n_2, g_3, hf⟩ := hf
  obtain ⟨g_4, hf⟩ := hf
  refine z_iald (q := 6) (n := n_2) g_3 g_4 dX17_worked_5 rfl ?_
  exact z_iret dX17_worked_6 rfl hf

theorem u_X18_init {l : Launch} {G : z_G} {a0 : Nat} {a1 : Nat} {h : z_H} {Q : z_Q} (hst : l.stackTraces = false)  (hf : z_Ct l G m_X15_init [.ref a0] h (z_Qv (fun h_1 => (h_1.T a0).1 = 25 ∧ Q none (h_1.sP a0 0 (some a1))))) : z_Ct l G m_X18_init [.ref a0, .ref a1] h Q := by
  refine z_Ct.of (ls := [some (.ref a0), some (.ref a1)]) hst rfl (by show plainName yX18_init.cls = true; decide +kernel) (z_le rfl) rfl ?_
  show z_V l G m_X18_init (z_Fm G m_X18_init Q) 0 0 h 0 [some (.ref a0), some (.ref a1)] []
  refine z_aload_n (q := 1) (i := 0) (x := a0) dX18_init_0 rfl rfl rfl ?_
  refine z_cINv m_X15_init [] (a0) (q := 4) (rc2 := 0) (rs2 := 0) (st := []) dX18_init_1 rfl (z_nwm q872 rfl) oI_X15_init rfl rfl ⟨z_le rfl, z_le rfl⟩ (z_le rfl) rfl  rfl hf (fun h_1 hf => ?_)
  refine z_aload_n (q := 5) (i := 0) (x := a0) dX18_init_4 rfl rfl rfl ?_
  refine z_aload_n (q := 6) (i := 1) (x := a1) dX18_init_5 rfl rfl rfl ?_
  obtain ⟨g_2, hf⟩ := hf
  refine z_putP_F 15 0 (q := 9) (x := some a1) (v := .ref a1) rfl (z_lt rfl) g_2 q873 rfl rfl rfl dX18_init_6 rfl rfl rfl rfl (fun _ _ _ => rfl) ?_
  exact z_vret dX18_init_9 rfl hf

theorem u_X18_worked {l : Launch} {G : z_G} {d : Nat} {a0 : Nat} {a1 : Nat} {h : z_H} {Q : z_Q} (hst : l.stackTraces = false)  (hf : (h.T a0).1 = 25 ∧ ∃ b_2, (h.P a0 0) = some b_2 ∧ z_iworked l G d [.ref b_2, .ref a1] h (z_Qi (fun x_5 h_4 => Q (some (.int (if x_5 = 0 then 1 else 0))) h_4))) : z_Ct l G (m_X18_worked (d + 1)) [.ref a0, .ref a1] h Q := by
  refine z_Ct.of (ls := [some (.ref a0), some (.ref a1)]) hst rfl (by show plainName yX18_worked.cls = true; decide +kernel) (z_le rfl) rfl ?_
  show z_V l G (m_X18_worked (d + 1)) (z_Fm G (m_X18_worked (d + 1)) Q) 0 0 h 0 [some (.ref a0), some (.ref a1)] []
  refine z_aload_n (q := 1) (i := 0) (x := a0) dX18_worked_0 rfl rfl rfl ?_
  obtain ⟨g_1, hf⟩ := hf
  obtain ⟨b_2, g_3, hf⟩ := hf
  refine z_get 15 0 (q := 4) (v := .ref b_2) rfl (z_lt rfl) g_1 q873 dX18_worked_1 rfl (z_fvR (fun _ _ _ => rfl) g_3) ?_
  refine z_aload_n (q := 5) (i := 1) (x := a1) dX18_worked_4 rfl rfl rfl ?_
  refine z_iworked_call (d := d) (q := 8) (st := []) dX18_worked_5 rfl q1543 hf rfl rfl (by simp only [z_M.d, m_X18_worked]; omega) (by simp only [z_M.lo, m_X18_worked]; omega) (z_le rfl) (fun x_5 h_4 hf => ?_)
  have hk : z_V l G (m_X18_worked (d + 1)) (z_Fm G (m_X18_worked (d + 1)) Q) 0 0 h_4 16 [some (.ref a0), some (.ref a1)] [.int (if x_5 = 0 then 1 else 0)] := by
    exact z_iret dX18_worked_16 rfl hf
  refine z_if_ne (q := 11) (tgt := 15) dX18_worked_8 rfl rfl (fun hc => ?_) (fun hc => ?_)
  · have hk := (z_ite hk).2 hc
    refine z_iconst (q := 16) (v := 0) dX18_worked_15 rfl rfl ?_
    exact hk
  · have hk := (z_ite hk).1 hc
    refine z_iconst (q := 12) (v := 1) dX18_worked_11 rfl rfl ?_
    refine z_goto (q := 16) dX18_worked_12 rfl ?_
    exact hk

theorem u_X19_init {l : Launch} {G : z_G} {a0 : Nat} {x1 : Int32} {a2 : Nat} {a3 : Nat} {h : z_H} {Q : z_Q} (hst : l.stackTraces = false)  (hf : z_Ct l G m_X15_init [.ref a0] h (z_Qv (fun h_1 => (h_1.T a0).1 = 26 ∧ ((narrow .char (.int x1) = .int x1 ∧ fits .char (.int x1) = true)) ∧ Q none (((h_1.sI a0 0 x1).sP a0 1 (some a2)).sP a0 2 (some a3))))) : z_Ct l G m_X19_init [.ref a0, .int x1, .ref a2, .ref a3] h Q := by
  refine z_Ct.of (ls := [some (.ref a0), some (.int x1), some (.ref a2), some (.ref a3)]) hst rfl (by show plainName yX19_init.cls = true; decide +kernel) (z_le rfl) rfl ?_
  show z_V l G m_X19_init (z_Fm G m_X19_init Q) 0 0 h 0 [some (.ref a0), some (.int x1), some (.ref a2), some (.ref a3)] []
  refine z_aload_n (q := 1) (i := 0) (x := a0) dX19_init_0 rfl rfl rfl ?_
  refine z_cINv m_X15_init [] (a0) (q := 4) (rc2 := 0) (rs2 := 0) (st := []) dX19_init_1 rfl (z_nwm q886 rfl) oI_X15_init rfl rfl ⟨z_le rfl, z_le rfl⟩ (z_le rfl) rfl  rfl hf (fun h_1 hf => ?_)
  refine z_aload_n (q := 5) (i := 0) (x := a0) dX19_init_4 rfl rfl rfl ?_
  refine z_iload_n (q := 6) (i := 1) (x := x1) dX19_init_5 rfl rfl rfl ?_
  obtain ⟨g_2, hf⟩ := hf
  obtain ⟨g_3, hf⟩ := hf
  refine z_putI_F 16 0 (q := 9) (x := x1) (v := .int x1) rfl (z_lt rfl) g_2 q887 rfl rfl rfl dX19_init_6 rfl rfl g_3.1 g_3.2 (fun _ _ _ => rfl) ?_
  refine z_aload_n (q := 10) (i := 0) (x := a0) dX19_init_9 rfl rfl rfl ?_
  refine z_aload_n (q := 11) (i := 2) (x := a2) dX19_init_10 rfl rfl rfl ?_
  refine z_putP_F 16 1 (q := 14) (x := some a2) (v := .ref a2) rfl (z_lt rfl) g_2 q888 rfl rfl rfl dX19_init_11 rfl rfl rfl rfl (fun _ _ _ => rfl) ?_
  refine z_aload_n (q := 15) (i := 0) (x := a0) dX19_init_14 rfl rfl rfl ?_
  refine z_aload_n (q := 16) (i := 3) (x := a3) dX19_init_15 rfl rfl rfl ?_
  refine z_putP_F 16 2 (q := 19) (x := some a3) (v := .ref a3) rfl (z_lt rfl) g_2 q889 rfl rfl rfl dX19_init_16 rfl rfl rfl rfl (fun _ _ _ => rfl) ?_
  exact z_vret dX19_init_19 rfl hf

theorem u_X19_worked {l : Launch} {G : z_G} {d : Nat} {a0 : Nat} {a1 : Nat} {h : z_H} {Q : z_Q} (hst : l.stackTraces = false)  (hf : (h.T a0).1 = 26 ∧ ∃ b_2, (h.P a0 1) = some b_2 ∧ z_iworked l G d [.ref b_2, .ref a1] h (z_Qi (fun x_5 h_4 => (h_4.T a0).1 = 26 ∧ ∃ b_7, (h_4.P a0 2) = some b_7 ∧ z_iworked l G d [.ref b_7, .ref a1] h_4 (z_Qi (fun x_10 h_9 => (h_9.T a0).1 = 26 ∧ ((h_9.I a0 0) = 38 → Q (some (.int (if x_5 = 0 then 0 else (if x_10 = 0 then 0 else 1)))) h_9) ∧ ((h_9.I a0 0) = 42 → Q (some (.int (x_5 * x_10))) h_9) ∧ ((h_9.I a0 0) = 43 → Q (some (.int (x_5 + x_10))) h_9) ∧ ((h_9.I a0 0) = 45 → Q (some (.int (x_5 - x_10))) h_9) ∧ ((h_9.I a0 0) = 60 → Q (some (.int (if x_10 ≤ x_5 then 0 else 1))) h_9) ∧ ((h_9.I a0 0) = 61 → Q (some (.int (if x_5 = x_10 then 1 else 0))) h_9) ∧ (¬ (h_9.I a0 0) = 38 ∧ ¬ (h_9.I a0 0) = 42 ∧ ¬ (h_9.I a0 0) = 43 ∧ ¬ (h_9.I a0 0) = 45 ∧ ¬ (h_9.I a0 0) = 60 ∧ ¬ (h_9.I a0 0) = 61 → Q (some (.int (if x_5 = 0 then (if x_10 = 0 then 0 else 1) else 1))) h_9)))))) : z_Ct l G (m_X19_worked (d + 1)) [.ref a0, .ref a1] h Q := by
  refine z_Ct.of (ls := [some (.ref a0), some (.ref a1), none, none]) hst rfl (by show plainName yX19_worked.cls = true; decide +kernel) (z_le rfl) rfl ?_
  show z_V l G (m_X19_worked (d + 1)) (z_Fm G (m_X19_worked (d + 1)) Q) 0 0 h 0 [some (.ref a0), some (.ref a1), none, none] []
  refine z_aload_n (q := 1) (i := 0) (x := a0) dX19_worked_0 rfl rfl rfl ?_
  obtain ⟨g_1, hf⟩ := hf
  obtain ⟨b_2, g_3, hf⟩ := hf
  refine z_get 16 1 (q := 4) (v := .ref b_2) rfl (z_lt rfl) g_1 q888 dX19_worked_1 rfl (z_fvR (fun _ _ _ => rfl) g_3) ?_
  refine z_aload_n (q := 5) (i := 1) (x := a1) dX19_worked_4 rfl rfl rfl ?_
  refine z_iworked_call (d := d) (q := 8) (st := []) dX19_worked_5 rfl q1546 hf rfl rfl (by simp only [z_M.d, m_X19_worked]; omega) (by simp only [z_M.lo, m_X19_worked]; omega) (z_le rfl) (fun x_5 h_4 hf => ?_)
  refine z_istore_n (q := 9) (i := 2) (ls2 := [some (.ref a0), some (.ref a1), some (.int x_5), none]) (x := x_5) dX19_worked_8 rfl (z_lt rfl) rfl rfl ?_
  refine z_aload_n (q := 10) (i := 0) (x := a0) dX19_worked_9 rfl rfl rfl ?_
  obtain ⟨g_6, hf⟩ := hf
  obtain ⟨b_7, g_8, hf⟩ := hf
  refine z_get 16 2 (q := 13) (v := .ref b_7) rfl (z_lt rfl) g_6 q889 dX19_worked_10 rfl (z_fvR (fun _ _ _ => rfl) g_8) ?_
  refine z_aload_n (q := 14) (i := 1) (x := a1) dX19_worked_13 rfl rfl rfl ?_
  refine z_iworked_call (d := d) (q := 17) (st := []) dX19_worked_14 rfl q1546 hf rfl rfl (by simp only [z_M.d, m_X19_worked]; omega) (by simp only [z_M.lo, m_X19_worked]; omega) (z_le rfl) (fun x_10 h_9 hf => ?_)
  refine z_istore_n (q := 18) (i := 3) (ls2 := [some (.ref a0), some (.ref a1), some (.int x_5), some (.int x_10)]) (x := x_10) dX19_worked_17 rfl (z_lt rfl) rfl rfl ?_
  refine z_aload_n (q := 19) (i := 0) (x := a0) dX19_worked_18 rfl rfl rfl ?_
  obtain ⟨g_11, hf⟩ := hf
  refine z_get 16 0 (q := 22) (v := .int (h_9.I a0 0)) rfl (z_lt rfl) g_11 q887 dX19_worked_19 rfl rfl ?_
  rcases Decidable.em ((h_9.I a0 0) = 38) with hc | hc0
  · have hf := hf.1 hc
    refine z_lookup (q := 114) dX19_worked_22 (by decide) (by rw [hc]; try rfl) rfl ?_
    refine z_iload_n (q := 115) (i := 2) (x := x_5) dX19_worked_114 rfl rfl rfl ?_
    have hk : z_V l G (m_X19_worked (d + 1)) (z_Fm G (m_X19_worked (d + 1)) Q) 0 0 h_9 127 [some (.ref a0), some (.ref a1), some (.int x_5), some (.int x_10)] [.int (if x_5 = 0 then 0 else (if x_10 = 0 then 0 else 1))] := by
      exact z_iret dX19_worked_127 rfl hf
    refine z_if_eq (q := 118) (tgt := 126) dX19_worked_115 rfl rfl (fun hc => ?_) (fun hc => ?_)
    · have hk := (z_ite hk).1 hc
      refine z_iconst (q := 127) (v := 0) dX19_worked_126 rfl rfl ?_
      exact hk
    · have hk := (z_ite hk).2 hc
      refine z_iload_n (q := 119) (i := 3) (x := x_10) dX19_worked_118 rfl rfl rfl ?_
      refine z_if_eq (q := 122) (tgt := 126) dX19_worked_119 rfl rfl (fun hc => ?_) (fun hc => ?_)
      · have hk := (z_ite hk).1 hc
        refine z_iconst (q := 127) (v := 0) dX19_worked_126 rfl rfl ?_
        exact hk
      · have hk := (z_ite hk).2 hc
        refine z_iconst (q := 123) (v := 1) dX19_worked_122 rfl rfl ?_
        refine z_goto (q := 127) dX19_worked_123 rfl ?_
        exact hk
  rcases Decidable.em ((h_9.I a0 0) = 42) with hc | hc1
  · have hf := hf.2.1 hc
    refine z_lookup (q := 88) dX19_worked_22 (by decide) (by rw [hc]; try rfl) rfl ?_
    refine z_iload_n (q := 89) (i := 2) (x := x_5) dX19_worked_88 rfl rfl rfl ?_
    refine z_iload_n (q := 90) (i := 3) (x := x_10) dX19_worked_89 rfl rfl rfl ?_
    refine z_imul (q := 91) dX19_worked_90 rfl ?_
    exact z_iret dX19_worked_91 rfl hf
  rcases Decidable.em ((h_9.I a0 0) = 43) with hc | hc2
  · have hf := hf.2.2.1 hc
    refine z_lookup (q := 80) dX19_worked_22 (by decide) (by rw [hc]; try rfl) rfl ?_
    refine z_iload_n (q := 81) (i := 2) (x := x_5) dX19_worked_80 rfl rfl rfl ?_
    refine z_iload_n (q := 82) (i := 3) (x := x_10) dX19_worked_81 rfl rfl rfl ?_
    refine z_iadd (q := 83) dX19_worked_82 rfl ?_
    exact z_iret dX19_worked_83 rfl hf
  rcases Decidable.em ((h_9.I a0 0) = 45) with hc | hc3
  · have hf := hf.2.2.2.1 hc
    refine z_lookup (q := 84) dX19_worked_22 (by decide) (by rw [hc]; try rfl) rfl ?_
    refine z_iload_n (q := 85) (i := 2) (x := x_5) dX19_worked_84 rfl rfl rfl ?_
    refine z_iload_n (q := 86) (i := 3) (x := x_10) dX19_worked_85 rfl rfl rfl ?_
    refine z_isub (q := 87) dX19_worked_86 rfl ?_
    exact z_iret dX19_worked_87 rfl hf
  rcases Decidable.em ((h_9.I a0 0) = 60) with hc | hc4
  · have hf := hf.2.2.2.2.1 hc
    refine z_lookup (q := 92) dX19_worked_22 (by decide) (by rw [hc]; try rfl) rfl ?_
    refine z_iload_n (q := 93) (i := 2) (x := x_5) dX19_worked_92 rfl rfl rfl ?_
    refine z_iload_n (q := 94) (i := 3) (x := x_10) dX19_worked_93 rfl rfl rfl ?_
    have hk : z_V l G (m_X19_worked (d + 1)) (z_Fm G (m_X19_worked (d + 1)) Q) 0 0 h_9 102 [some (.ref a0), some (.ref a1), some (.int x_5), some (.int x_10)] [.int (if x_10 ≤ x_5 then 0 else 1)] := by
      exact z_iret dX19_worked_102 rfl hf
    refine z_icmp_ge (q := 97) (tgt := 101) dX19_worked_94 rfl rfl (fun hc => ?_) (fun hc => ?_)
    · have hk := (z_ite hk).1 hc
      refine z_iconst (q := 102) (v := 0) dX19_worked_101 rfl rfl ?_
      exact hk
    · have hk := (z_ite hk).2 hc
      refine z_iconst (q := 98) (v := 1) dX19_worked_97 rfl rfl ?_
      refine z_goto (q := 102) dX19_worked_98 rfl ?_
      exact hk
  rcases Decidable.em ((h_9.I a0 0) = 61) with hc | hc5
  · have hf := hf.2.2.2.2.2.1 hc
    refine z_lookup (q := 103) dX19_worked_22 (by decide) (by rw [hc]; try rfl) rfl ?_
    refine z_iload_n (q := 104) (i := 2) (x := x_5) dX19_worked_103 rfl rfl rfl ?_
    refine z_iload_n (q := 105) (i := 3) (x := x_10) dX19_worked_104 rfl rfl rfl ?_
    have hk : z_V l G (m_X19_worked (d + 1)) (z_Fm G (m_X19_worked (d + 1)) Q) 0 0 h_9 113 [some (.ref a0), some (.ref a1), some (.int x_5), some (.int x_10)] [.int (if x_5 = x_10 then 1 else 0)] := by
      exact z_iret dX19_worked_113 rfl hf
    refine z_icmp_ne (q := 108) (tgt := 112) dX19_worked_105 rfl rfl (fun hc => ?_) (fun hc => ?_)
    · have hk := (z_ite hk).2 hc
      refine z_iconst (q := 113) (v := 0) dX19_worked_112 rfl rfl ?_
      exact hk
    · have hk := (z_ite hk).1 hc
      refine z_iconst (q := 109) (v := 1) dX19_worked_108 rfl rfl ?_
      refine z_goto (q := 113) dX19_worked_109 rfl ?_
      exact hk
  have hf := hf.2.2.2.2.2.2 ⟨hc0, hc1, hc2, hc3, hc4, hc5⟩
  refine z_lookup (q := 128) dX19_worked_22 (by decide) (off := 106) ?_ rfl ?_
  · simp only [Op.lookupswitch.offset, if_neg (fun z : (38 : Int) = _ => lv_neT hc0 (a := 38) (by decide) z.symm), if_neg (fun z : (42 : Int) = _ => lv_neT hc1 (a := 42) (by decide) z.symm), if_neg (fun z : (43 : Int) = _ => lv_neT hc2 (a := 43) (by decide) z.symm), if_neg (fun z : (45 : Int) = _ => lv_neT hc3 (a := 45) (by decide) z.symm), if_neg (fun z : (60 : Int) = _ => lv_neT hc4 (a := 60) (by decide) z.symm), if_neg (fun z : (61 : Int) = _ => lv_neT hc5 (a := 61) (by decide) z.symm)]
  · skip
    refine z_iload_n (q := 129) (i := 2) (x := x_5) dX19_worked_128 rfl rfl rfl ?_
    have hk : z_V l G (m_X19_worked (d + 1)) (z_Fm G (m_X19_worked (d + 1)) Q) 0 0 h_9 141 [some (.ref a0), some (.ref a1), some (.int x_5), some (.int x_10)] [.int (if x_5 = 0 then (if x_10 = 0 then 0 else 1) else 1)] := by
      exact z_iret dX19_worked_141 rfl hf
    refine z_if_ne (q := 132) (tgt := 136) dX19_worked_129 rfl rfl (fun hc => ?_) (fun hc => ?_)
    · have hk := (z_ite hk).2 hc
      refine z_iconst (q := 137) (v := 1) dX19_worked_136 rfl rfl ?_
      refine z_goto (q := 141) dX19_worked_137 rfl ?_
      exact hk
    · have hk := (z_ite hk).1 hc
      refine z_iload_n (q := 133) (i := 3) (x := x_10) dX19_worked_132 rfl rfl rfl ?_
      refine z_if_eq (q := 136) (tgt := 140) dX19_worked_133 rfl rfl (fun hc => ?_) (fun hc => ?_)
      · have hk := (z_ite hk).1 hc
        refine z_iconst (q := 141) (v := 0) dX19_worked_140 rfl rfl ?_
        exact hk
      · have hk := (z_ite hk).2 hc
        refine z_iconst (q := 137) (v := 1) dX19_worked_136 rfl rfl ?_
        refine z_goto (q := 141) dX19_worked_137 rfl ?_
        exact hk

theorem u_X20_init {l : Launch} {G : z_G} {a0 : Nat} {h : z_H} {Q : z_Q} (hst : l.stackTraces = false) (hlt : a0 < h.n)  (hf : z_Ct l G m_X12_init [.ref (h.n)] (h.nw (20, 0)) (z_Qv (fun h_1 => (h_1.T a0).1 = 27 ∧ z_Ct l G m_X12_init [.ref (h_1.n)] ((h_1.sP a0 0 (some (h.n))).nw (20, 0)) (z_Qv (fun h_3 => (h_3.T a0).1 = 27 ∧ Q none (h_3.sP a0 1 (some (h_1.n)))))))) : z_Ct l G m_X20_init [.ref a0] h Q := by
  refine z_Ct.of (ls := [some (.ref a0)]) hst rfl (by show plainName yX20_init.cls = true; decide +kernel) (z_le rfl) rfl ?_
  show z_V l G m_X20_init (z_Fm G m_X20_init Q) 4 52 h 0 [some (.ref a0)] []
  refine z_aload_n (q := 1) (i := 0) (x := a0) dX20_init_0 rfl rfl rfl ?_
  refine z_objInit (q := 4) dX20_init_1 rfl q1223 q170 q171 ⟨z_le rfl, z_le rfl⟩ (z_le rfl) ?_
  refine z_aload_n (q := 5) (i := 0) (x := a0) dX20_init_4 rfl rfl rfl ?_
  refine z_new 10 (q := 8) (rc2 := 3) (rs2 := 50) rfl q1224 q478 q136 dX20_init_5 rfl rfl rfl ?_
  refine z_dup (q := 9) dX20_init_8 rfl rfl ?_
  refine z_cINv m_X12_init [] ((h.n)) (q := 12) (rc2 := 2) (rs2 := 26) (st := [.ref (h.n), .ref a0]) dX20_init_9 rfl (z_nwm q1225 rfl) oI_X12_init rfl rfl ⟨z_le rfl, z_le rfl⟩ (z_le rfl) rfl  rfl hf (fun h_1 hf => ?_)
  obtain ⟨g_2, hf⟩ := hf
  refine z_putP_F 17 0 (q := 15) (x := some (h.n)) (v := .ref (h.n)) rfl (z_lt rfl) g_2 q1226 rfl rfl rfl dX20_init_12 rfl rfl rfl rfl (fun _ _ _ => rfl) ?_
  refine z_aload_n (q := 16) (i := 0) (x := a0) dX20_init_15 rfl rfl rfl ?_
  refine z_new 10 (q := 19) (rc2 := 1) (rs2 := 24) rfl q1224 q478 q136 dX20_init_16 rfl rfl rfl ?_
  refine z_dup (q := 20) dX20_init_19 rfl rfl ?_
  refine z_cINv m_X12_init [] ((h_1.n)) (q := 23) (rc2 := 0) (rs2 := 0) (st := [.ref (h_1.n), .ref a0]) dX20_init_20 rfl (z_nwm q1225 rfl) oI_X12_init rfl rfl ⟨z_le rfl, z_le rfl⟩ (z_le rfl) rfl  rfl hf (fun h_3 hf => ?_)
  obtain ⟨g_4, hf⟩ := hf
  refine z_putP_F 17 1 (q := 26) (x := some (h_1.n)) (v := .ref (h_1.n)) rfl (z_lt rfl) g_4 q1229 rfl rfl rfl dX20_init_23 rfl rfl rfl rfl (fun _ _ _ => rfl) ?_
  exact z_vret dX20_init_26 rfl hf

theorem u_X21_init {l : Launch} {G : z_G} {a0 : Nat} {x1 : Int32} {x2 : Int32} {x3 : Int32} {x4 : Int32} {h : z_H} {Q : z_Q} (hst : l.stackTraces = false)  (hf : (h.T a0).1 = 28 ∧ Q none ((((h.sI a0 0 x1).sI a0 1 x2).sI a0 2 x3).sI a0 3 x4)) : z_Ct l G m_X21_init [.ref a0, .int x1, .int x2, .int x3, .int x4] h Q := by
  refine z_Ct.of (ls := [some (.ref a0), some (.int x1), some (.int x2), some (.int x3), some (.int x4)]) hst rfl (by show plainName yX21_init.cls = true; decide +kernel) (z_le rfl) rfl ?_
  show z_V l G m_X21_init (z_Fm G m_X21_init Q) 0 0 h 0 [some (.ref a0), some (.int x1), some (.int x2), some (.int x3), some (.int x4)] []
  refine z_aload_n (q := 1) (i := 0) (x := a0) dX21_init_0 rfl rfl rfl ?_
  refine z_objInit (q := 4) dX21_init_1 rfl q1345 q170 q171 ⟨z_le rfl, z_le rfl⟩ (z_le rfl) ?_
  refine z_aload_n (q := 5) (i := 0) (x := a0) dX21_init_4 rfl rfl rfl ?_
  refine z_iload_n (q := 6) (i := 1) (x := x1) dX21_init_5 rfl rfl rfl ?_
  obtain ⟨g_1, hf⟩ := hf
  refine z_putI_F 18 0 (q := 9) (x := x1) (v := .int x1) rfl (z_lt rfl) g_1 q1346 rfl rfl rfl dX21_init_6 rfl rfl rfl rfl (fun _ _ _ => rfl) ?_
  refine z_aload_n (q := 10) (i := 0) (x := a0) dX21_init_9 rfl rfl rfl ?_
  refine z_iload_n (q := 11) (i := 2) (x := x2) dX21_init_10 rfl rfl rfl ?_
  refine z_putI_F 18 1 (q := 14) (x := x2) (v := .int x2) rfl (z_lt rfl) g_1 q1348 rfl rfl rfl dX21_init_11 rfl rfl rfl rfl (fun _ _ _ => rfl) ?_
  refine z_aload_n (q := 15) (i := 0) (x := a0) dX21_init_14 rfl rfl rfl ?_
  refine z_iload_n (q := 16) (i := 3) (x := x3) dX21_init_15 rfl rfl rfl ?_
  refine z_putI_F 18 2 (q := 19) (x := x3) (v := .int x3) rfl (z_lt rfl) g_1 q1350 rfl rfl rfl dX21_init_16 rfl rfl rfl rfl (fun _ _ _ => rfl) ?_
  refine z_aload_n (q := 20) (i := 0) (x := a0) dX21_init_19 rfl rfl rfl ?_
  refine z_iload (q := 22) (i := 4) (x := x4) dX21_init_20 rfl rfl ?_
  refine z_putI_F 18 3 (q := 25) (x := x4) (v := .int x4) rfl (z_lt rfl) g_1 q1352 rfl rfl rfl dX21_init_22 rfl rfl rfl rfl (fun _ _ _ => rfl) ?_
  exact z_vret dX21_init_25 rfl hf

theorem u_X22_init {l : Launch} {G : z_G} {a0 : Nat} {x1 : Int32} {x2 : Int32} {x3 : Int32} {h : z_H} {Q : z_Q} (hst : l.stackTraces = false)  (hf : (h.T a0).1 = 29 ∧ Q none (((h.sI a0 0 x1).sI a0 1 x2).sI a0 2 x3)) : z_Ct l G m_X22_init [.ref a0, .int x1, .int x2, .int x3] h Q := by
  refine z_Ct.of (ls := [some (.ref a0), some (.int x1), some (.int x2), some (.int x3)]) hst rfl (by show plainName yX22_init.cls = true; decide +kernel) (z_le rfl) rfl ?_
  show z_V l G m_X22_init (z_Fm G m_X22_init Q) 0 0 h 0 [some (.ref a0), some (.int x1), some (.int x2), some (.int x3)] []
  refine z_aload_n (q := 1) (i := 0) (x := a0) dX22_init_0 rfl rfl rfl ?_
  refine z_objInit (q := 4) dX22_init_1 rfl q1559 q170 q171 ⟨z_le rfl, z_le rfl⟩ (z_le rfl) ?_
  refine z_aload_n (q := 5) (i := 0) (x := a0) dX22_init_4 rfl rfl rfl ?_
  refine z_iload_n (q := 6) (i := 1) (x := x1) dX22_init_5 rfl rfl rfl ?_
  obtain ⟨g_1, hf⟩ := hf
  refine z_putI_F 19 0 (q := 9) (x := x1) (v := .int x1) rfl (z_lt rfl) g_1 q1560 rfl rfl rfl dX22_init_6 rfl rfl rfl rfl (fun _ _ _ => rfl) ?_
  refine z_aload_n (q := 10) (i := 0) (x := a0) dX22_init_9 rfl rfl rfl ?_
  refine z_iload_n (q := 11) (i := 2) (x := x2) dX22_init_10 rfl rfl rfl ?_
  refine z_putI_F 19 1 (q := 14) (x := x2) (v := .int x2) rfl (z_lt rfl) g_1 q1562 rfl rfl rfl dX22_init_11 rfl rfl rfl rfl (fun _ _ _ => rfl) ?_
  refine z_aload_n (q := 15) (i := 0) (x := a0) dX22_init_14 rfl rfl rfl ?_
  refine z_iload_n (q := 16) (i := 3) (x := x3) dX22_init_15 rfl rfl rfl ?_
  refine z_putI_F 19 2 (q := 19) (x := x3) (v := .int x3) rfl (z_lt rfl) g_1 q1564 rfl rfl rfl dX22_init_16 rfl rfl rfl rfl (fun _ _ _ => rfl) ?_
  exact z_vret dX22_init_19 rfl hf

theorem u_X23_init {l : Launch} {G : z_G} {a0 : Nat} {h : z_H} {Q : z_Q} (hst : l.stackTraces = false) (hlt : a0 < h.n)  (hf : z_Ct l G m_X11_init [.ref (h.n)] (h.nw (19, 0)) (z_Qv (fun h_1 => (h_1.T a0).1 = 30 ∧ z_Ct l G m_X12_init [.ref (h_1.n)] ((h_1.sP a0 0 (some (h.n))).nw (20, 0)) (z_Qv (fun h_3 => (h_3.T a0).1 = 30 ∧ z_Ct l G m_X12_init [.ref (h_3.n)] ((h_3.sP a0 1 (some (h_1.n))).nw (20, 0)) (z_Qv (fun h_5 => (h_5.T a0).1 = 30 ∧ Q none (h_5.sP a0 2 (some (h_3.n)))))))))) : z_Ct l G m_X23_init [.ref a0] h Q := by
  refine z_Ct.of (ls := [some (.ref a0)]) hst rfl (by show plainName yX23_init.cls = true; decide +kernel) (z_le rfl) rfl ?_
  show z_V l G m_X23_init (z_Fm G m_X23_init Q) 17 438 h 0 [some (.ref a0)] []
  refine z_aload_n (q := 1) (i := 0) (x := a0) dX23_init_0 rfl rfl rfl ?_
  refine z_objInit (q := 4) dX23_init_1 rfl q1650 q170 q171 ⟨z_le rfl, z_le rfl⟩ (z_le rfl) ?_
  refine z_aload_n (q := 5) (i := 0) (x := a0) dX23_init_4 rfl rfl rfl ?_
  refine z_new 9 (q := 8) (rc2 := 16) (rs2 := 414) rfl q1651 q365 q135 dX23_init_5 rfl rfl rfl ?_
  refine z_dup (q := 9) dX23_init_8 rfl rfl ?_
  refine z_cINv m_X11_init [] ((h.n)) (q := 12) (rc2 := 4) (rs2 := 52) (st := [.ref (h.n), .ref a0]) dX23_init_9 rfl (z_nwm q1652 rfl) oI_X11_init rfl rfl ⟨z_le rfl, z_le rfl⟩ (z_le rfl) rfl  rfl hf (fun h_1 hf => ?_)
  obtain ⟨g_2, hf⟩ := hf
  refine z_putP_F 20 0 (q := 15) (x := some (h.n)) (v := .ref (h.n)) rfl (z_lt rfl) g_2 q1655 rfl rfl rfl dX23_init_12 rfl rfl rfl rfl (fun _ _ _ => rfl) ?_
  refine z_aload_n (q := 16) (i := 0) (x := a0) dX23_init_15 rfl rfl rfl ?_
  refine z_new 10 (q := 19) (rc2 := 3) (rs2 := 50) rfl q1653 q478 q136 dX23_init_16 rfl rfl rfl ?_
  refine z_dup (q := 20) dX23_init_19 rfl rfl ?_
  refine z_cINv m_X12_init [] ((h_1.n)) (q := 23) (rc2 := 2) (rs2 := 26) (st := [.ref (h_1.n), .ref a0]) dX23_init_20 rfl (z_nwm q1654 rfl) oI_X12_init rfl rfl ⟨z_le rfl, z_le rfl⟩ (z_le rfl) rfl  rfl hf (fun h_3 hf => ?_)
  obtain ⟨g_4, hf⟩ := hf
  refine z_putP_F 20 1 (q := 26) (x := some (h_1.n)) (v := .ref (h_1.n)) rfl (z_lt rfl) g_4 q1657 rfl rfl rfl dX23_init_23 rfl rfl rfl rfl (fun _ _ _ => rfl) ?_
  refine z_aload_n (q := 27) (i := 0) (x := a0) dX23_init_26 rfl rfl rfl ?_
  refine z_new 10 (q := 30) (rc2 := 1) (rs2 := 24) rfl q1653 q478 q136 dX23_init_27 rfl rfl rfl ?_
  refine z_dup (q := 31) dX23_init_30 rfl rfl ?_
  refine z_cINv m_X12_init [] ((h_3.n)) (q := 34) (rc2 := 0) (rs2 := 0) (st := [.ref (h_3.n), .ref a0]) dX23_init_31 rfl (z_nwm q1654 rfl) oI_X12_init rfl rfl ⟨z_le rfl, z_le rfl⟩ (z_le rfl) rfl  rfl hf (fun h_5 hf => ?_)
  obtain ⟨g_6, hf⟩ := hf
  refine z_putP_F 20 2 (q := 37) (x := some (h_3.n)) (v := .ref (h_3.n)) rfl (z_lt rfl) g_6 q1659 rfl rfl rfl dX23_init_34 rfl rfl rfl rfl (fun _ _ _ => rfl) ?_
  exact z_vret dX23_init_37 rfl hf

theorem u_X2_at {l : Launch} {G : z_G} {a0 : Nat} {x1 : Int32} {h : z_H} {Q : z_Q} (hst : l.stackTraces = false)  (hf : (h.T a0).1 = 11 ∧ ((h.I a0 1) ≤ x1 → Q (some (.int 0)) h) ∧ (¬ (h.I a0 1) ≤ x1 → ∃ b_4, (h.P a0 0) = some b_4 ∧ ∃ n_6, h.T b_4 = (2, n_6) ∧ vp_in x1 n_6 ∧ Q (some (.int (h.I b_4 (Int32.toNatClampNeg x1)))) h)) : z_Ct l G m_X2_at [.ref a0, .int x1] h Q := by
  refine z_Ct.of (ls := [some (.ref a0), some (.int x1)]) hst rfl (by show plainName yX2_at.cls = true; decide +kernel) (z_le rfl) rfl ?_
  show z_V l G m_X2_at (z_Fm G m_X2_at Q) 0 0 h 0 [some (.ref a0), some (.int x1)] []
  refine z_iload_n (q := 1) (i := 1) (x := x1) dX2_at_0 rfl rfl rfl ?_
  refine z_aload_n (q := 2) (i := 0) (x := a0) dX2_at_1 rfl rfl rfl ?_
  obtain ⟨g_1, hf⟩ := hf
  refine z_get 1 1 (q := 5) (v := .int (h.I a0 1)) rfl (z_lt rfl) g_1 q179 dX2_at_2 rfl rfl ?_
  refine z_icmp_ge (q := 8) (tgt := 17) dX2_at_5 rfl rfl (fun hc => ?_) (fun hc => ?_)
  · have hf := hf.1 hc
    refine z_iconst (q := 18) (v := 0) dX2_at_17 rfl rfl ?_
    exact z_iret dX2_at_18 rfl hf
  · have hf := hf.2 hc
    refine z_aload_n (q := 9) (i := 0) (x := a0) dX2_at_8 rfl rfl rfl ?_
    obtain ⟨b_4, g_5, hf⟩ := hf
    refine z_get 1 0 (q := 12) (v := .ref b_4) rfl (z_lt rfl) g_1 q178 dX2_at_9 rfl (z_fvR (fun _ _ _ => rfl) g_5) ?_
    refine z_iload_n (q := 13) (i := 1) (x := x1) dX2_at_12 rfl rfl rfl ?_
    obtain ⟨n_6, g_7, hf⟩ := hf
    obtain ⟨g_8, hf⟩ := hf
    refine z_bald (q := 14) (n := n_6) g_7 g_8 dX2_at_13 rfl ?_
    refine z_goto (q := 18) dX2_at_14 rfl ?_
    exact z_iret dX2_at_18 rfl hf

theorem u_X2_begin {l : Launch} {G : z_G} {a0 : Nat} {a1 : Nat} {x2 : Int32} {h : z_H} {Q : z_Q} (hst : l.stackTraces = false)  (hf : (h.T a0).1 = 11 ∧ z_Ct l G m_X2_next [.ref a0] ((((h.sP a0 0 (some a1)).sI a0 1 x2).sI a0 2 0).sI a0 6 0) (z_Qv (fun h_2 => Q none h_2))) : z_Ct l G m_X2_begin [.ref a0, .ref a1, .int x2] h Q := by
  refine z_Ct.of (ls := [some (.ref a0), some (.ref a1), some (.int x2)]) hst rfl (by show plainName yX2_begin.cls = true; decide +kernel) (z_le rfl) rfl ?_
  show z_V l G m_X2_begin (z_Fm G m_X2_begin Q) 0 0 h 0 [some (.ref a0), some (.ref a1), some (.int x2)] []
  refine z_aload_n (q := 1) (i := 0) (x := a0) dX2_begin_0 rfl rfl rfl ?_
  refine z_aload_n (q := 2) (i := 1) (x := a1) dX2_begin_1 rfl rfl rfl ?_
  obtain ⟨g_1, hf⟩ := hf
  refine z_putP 1 0 (q := 5) (x := some a1) (v := .ref a1) rfl (z_lt rfl) g_1 q178 rfl dX2_begin_2 rfl rfl rfl rfl (fun _ _ _ => rfl) ?_
  refine z_aload_n (q := 6) (i := 0) (x := a0) dX2_begin_5 rfl rfl rfl ?_
  refine z_iload_n (q := 7) (i := 2) (x := x2) dX2_begin_6 rfl rfl rfl ?_
  refine z_putI 1 1 (q := 10) (x := x2) (v := .int x2) rfl (z_lt rfl) g_1 q179 rfl dX2_begin_7 rfl rfl rfl rfl (fun _ _ _ => rfl) ?_
  refine z_aload_n (q := 11) (i := 0) (x := a0) dX2_begin_10 rfl rfl rfl ?_
  refine z_iconst (q := 12) (v := 0) dX2_begin_11 rfl rfl ?_
  refine z_putI 1 2 (q := 15) (x := 0) (v := .int 0) rfl (z_lt rfl) g_1 q180 rfl dX2_begin_12 rfl rfl rfl rfl (fun _ _ _ => rfl) ?_
  refine z_aload_n (q := 16) (i := 0) (x := a0) dX2_begin_15 rfl rfl rfl ?_
  refine z_iconst (q := 17) (v := 0) dX2_begin_16 rfl rfl ?_
  refine z_putI 1 6 (q := 20) (x := 0) (v := .int 0) rfl (z_lt rfl) g_1 q184 rfl dX2_begin_17 rfl rfl rfl rfl (fun _ _ _ => rfl) ?_
  refine z_aload_n (q := 21) (i := 0) (x := a0) dX2_begin_20 rfl rfl rfl ?_
  refine z_cVv m_X2_next [] (a0) (q := 24) (rc2 := 0) (rs2 := 0) (st := []) dX2_begin_21 rfl q593 oV_X2_next rfl rfl ⟨z_le rfl, z_le rfl⟩ (z_le rfl) (z_rcv_of 1 rfl g_1 rfl) rfl  rfl hf (fun h_2 hf => ?_)
  exact z_vret dX2_begin_24 rfl hf

theorem u_X2_book {l : Launch} {G : z_G} {mc ms : Nat} {a0 : Nat} {a1 : Nat} {h : z_H} {Q : z_Q} {X : z_QX} (hst : l.stackTraces = false)  (hf : (h.T a0).1 = 11 ∧ ∃ rc_2, mc = rc_2 + 1 ∧ ∃ rs_4, ms = rs_4 + 3 ∧ ∃ rc_6, rc_2 = rc_6 + 1 ∧ ∃ rs_8, rs_4 = rs_8 + 4 ∧ z_Ct l G m_J2_init [.ref (h.n), .int 4] ((h.sP a0 7 (some a1)).nw (31, 0)) (z_Qv (fun h_10 => z_V l G (m_X2_book mc ms) (z_Fx G (m_X2_book mc ms) Q X) rc_6 rs_8 h_10 14 [some (.ref a0), none, some (.ref (h.n)), none] []))) : z_Cz l G (m_X2_book mc ms) [.ref a0, .ref a1] h Q X := by
  refine z_Cz.of (ls := [some (.ref a0), some (.ref a1), none, none]) hst rfl (by show plainName yX2_book.cls = true; decide +kernel) (z_le rfl) rfl ?_
  show z_V l G (m_X2_book mc ms) (z_Fx G (m_X2_book mc ms) Q X) mc ms h 0 [some (.ref a0), some (.ref a1), none, none] []
  refine z_aload_n (q := 1) (i := 0) (x := a0) dX2_book_0 rfl rfl rfl ?_
  refine z_aload_n (q := 2) (i := 1) (x := a1) dX2_book_1 rfl rfl rfl ?_
  obtain ⟨g_1, hf⟩ := hf
  refine z_putP 1 7 (q := 5) (x := some a1) (v := .ref a1) rfl (z_lt rfl) g_1 q185 rfl dX2_book_2 rfl rfl rfl rfl (fun _ _ _ => rfl) ?_
  obtain ⟨rc_2, g_3, hf⟩ := hf
  obtain ⟨rs_4, g_5, hf⟩ := hf
  refine z_new 21 (q := 8) (rc2 := rc_2) (rs2 := rs_4) rfl q1215 q303 q134 dX2_book_5 rfl g_3 g_5 ?_
  refine z_dup (q := 9) dX2_book_8 rfl rfl ?_
  refine z_iconst (q := 10) (v := 4) dX2_book_9 rfl rfl ?_
  obtain ⟨rc_6, g_7, hf⟩ := hf
  obtain ⟨rs_8, g_9, hf⟩ := hf
  refine z_cIv m_J2_init [.int 4] ((h.n)) (q := 13) (rc2 := rc_6) (rs2 := rs_8) (st := [.ref (h.n)]) dX2_book_10 rfl q1216 oI_J2_init rfl rfl ⟨z_le rfl, z_le rfl⟩ (z_le rfl) g_7  g_9 hf (fun h_10 hf => ?_)
  refine z_astore_n (q := 14) (i := 2) (ls2 := [some (.ref a0), some (.ref a1), some (.ref (h.n)), none]) (x := (h.n)) dX2_book_13 rfl (z_lt rfl) rfl rfl ?_
  refine z_prune [true, false, true, false] (ls2 := [some (.ref a0), none, some (.ref (h.n)), none]) rfl ?_
  exact hf

theorem b_X2_book_14 {l : Launch} {G : z_G} {mc ms : Nat} {rc rs : Nat} {a0 : Nat} {a2 : Nat} {h : z_H} {Q : z_Q} {X : z_QX}  (hf : (h.T a0).1 = 11 ∧ ((h.I a0 3) = 0 → Q (some (.ref a2)) h) ∧ (¬ (h.I a0 3) = 0 → z_Ct l G m_X2_which [.ref a0, .ref (G.sk 10)] h (z_Qi (fun x_2 h_3 => (0 ≤ x_2 → (h_3.T a2).1 = 31 ∧ z_Ct l G m_J2_size [.ref a2] h_3 (z_Qi (fun x_5 h_6 => (x_5 = 12 → ∃ rc_69, rc = rc_69 + 1 ∧ ∃ rs_71, rs = rs_71 + 7 ∧ (h_6.T a0).1 = 11 ∧ z_Ct l G m_X2_wrong [.ref a0, .int 5] h_6 (z_Qr (fun b_74 h_75 => (h_75.T b_74).1 = 22 ∧ X "BeggarHeaps$Wrong" b_74 h_75))) ∧ (¬ x_5 = 12 → (h_6.T a0).1 = 11 ∧ z_Ct l G m_X2_next [.ref a0] h_6 (z_Qv (fun h_8 => ∃ rc_9, rc = rc_9 + 1 ∧ ∃ rs_11, rs = rs_11 + 3 ∧ ∃ rc_13, rc_9 = rc_13 + 4 ∧ ∃ rs_15, rs_11 = rs_15 + 52 ∧ z_Ct l G m_X20_init [.ref (h_8.n)] (h_8.nw (27, 0)) (z_Qv (fun h_17 => z_L17 h_17 (h_8.n) ∧ ∃ mc_19, ∃ ms_20, ∃ rc_21, rc_13 = rc_21 + mc_19 ∧ ∃ rs_23, rs_15 = rs_23 + ms_20 ∧ (h_17.T a0).1 = 11 ∧ z_Cz l G (m_X2_row mc_19 ms_20) [.ref a0, .ref ((h_8.n) + 1), .int 6] h_17 (z_Qv (fun h_26 => ∃ rc_27, rc_21 = rc_27 + 1 ∧ ∃ rs_29, rs_23 = rs_29 + 7 ∧ (h_26.T a0).1 = 11 ∧ z_Cz l G m_X2_need [.ref a0, .int 44] h_26 (z_Qv (fun h_32 => z_L17 h_32 (h_8.n) ∧ ∃ mc_34, ∃ ms_35, ∃ rc_36, rc_27 = rc_36 + mc_34 ∧ ∃ rs_38, rs_29 = rs_38 + ms_35 ∧ (h_32.T a0).1 = 11 ∧ z_Cz l G (m_X2_row mc_34 ms_35) [.ref a0, .ref ((h_8.n) + 3), .int 6] h_32 (z_Qv (fun h_41 => ∃ rc_42, rc_36 = rc_42 + 1 ∧ ∃ rs_44, rs_38 = rs_44 + 7 ∧ (h_41.T a0).1 = 11 ∧ z_Cz l G m_X2_need_2 [.ref a0, .ref (G.sk 9)] h_41 (z_Qv (fun h_47 => ∃ rc_48, rc_42 = rc_48 + 1 ∧ ∃ rs_50, rs_44 = rs_50 + 7 ∧ (h_47.T a0).1 = 11 ∧ z_Cz l G m_X2_one [.ref a0, .ref (G.sk 11)] h_47 (z_Qi (fun x_53 h_54 => z_L17 h_54 (h_8.n) ∧ ∃ rc_56, rc_48 = rc_56 + 1 ∧ ∃ rs_58, rs_50 = rs_58 + 7 ∧ (h_54.T a0).1 = 11 ∧ z_Cz l G m_X2_need [.ref a0, .int 59] (h_54.sI (h_8.n) 2 x_53) (z_Qv (fun h_61 => ∃ rc_62, rc_56 = rc_62 + 1 ∧ ∃ rs_64, rs_58 = rs_64 + 64 ∧ (h_61.T a2).1 = 31 ∧ z_Ct l G m_J2_add [.ref a2, .ref (h_8.n)] h_61 (z_Qi (fun x_67 h_68 => z_V l G (m_X2_book mc ms) (z_Fx G (m_X2_book mc ms) Q X) rc_62 rs_64 h_68 14 [some (.ref a0), none, some (.ref a2), none] [])))) X)) X)) X)) X)) X)) X)))))))) ∧ (¬ 0 ≤ x_2 → ∃ rc_77, rc = rc_77 + 1 ∧ ∃ rs_79, rs = rs_79 + 7 ∧ (h_3.T a0).1 = 11 ∧ z_Ct l G m_X2_wrong [.ref a0, .int 1] h_3 (z_Qr (fun b_82 h_83 => (h_83.T b_82).1 = 22 ∧ X "BeggarHeaps$Wrong" b_82 h_83))))))) : z_V l G (m_X2_book mc ms) (z_Fx G (m_X2_book mc ms) Q X) rc rs h 14 [some (.ref a0), none, some (.ref a2), none] [] := by
  refine z_aload_n (q := 15) (i := 0) (x := a0) dX2_book_14 rfl rfl rfl ?_
  obtain ⟨g_1, hf⟩ := hf
  refine z_get 1 3 (q := 18) (v := .int (h.I a0 3)) rfl (z_lt rfl) g_1 q181 dX2_book_15 rfl rfl ?_
  refine z_if_eq (q := 21) (tgt := 120) dX2_book_18 rfl rfl (fun hc => ?_) (fun hc => ?_)
  · have hf := hf.1 hc
    refine z_aload_n (q := 121) (i := 2) (x := a2) dX2_book_120 rfl rfl rfl ?_
    refine z_V.x ?_
    exact z_aret (r := some a2) rfl dX2_book_121 rfl (Or.inl ⟨_, rfl⟩) hf
  · have hf := hf.2 hc
    refine z_aload_n (q := 22) (i := 0) (x := a0) dX2_book_21 rfl rfl rfl ?_
    refine z_ldcS (q := 24) (j := 10) dX2_book_22 rfl rfl rfl ?_
    refine z_cVi m_X2_which [.ref (G.sk 10)] (a0) (q := 27) (rc2 := rc) (rs2 := rs) (st := []) dX2_book_24 rfl q701 oV_X2_which rfl rfl ⟨z_le rfl, z_le rfl⟩ (z_le rfl) (z_rcv_of 1 rfl g_1 rfl) rfl  rfl hf (fun x_2 h_3 hf => ?_)
    refine z_if_ge (q := 30) (tgt := 36) dX2_book_27 rfl rfl (fun hc => ?_) (fun hc => ?_)
    · have hf := hf.1 hc
      refine z_aload_n (q := 37) (i := 2) (x := a2) dX2_book_36 rfl rfl rfl ?_
      obtain ⟨g_4, hf⟩ := hf
      refine z_cVi m_J2_size [] (a2) (q := 40) (rc2 := rc) (rs2 := rs) (st := []) dX2_book_37 rfl q804 oV_J2_size rfl rfl ⟨z_le rfl, z_le rfl⟩ (z_le rfl) (z_rcv_of 21 rfl g_4 rfl) rfl  rfl hf (fun x_5 h_6 hf => ?_)
      refine z_bipush (q := 42) (v := 12) dX2_book_40 (by decide) rfl ?_
      refine z_icmp_ne (q := 45) (tgt := 51) dX2_book_42 rfl rfl (fun hc => ?_) (fun hc => ?_)
      · have hf := hf.2 hc
        refine z_aload_n (q := 52) (i := 0) (x := a0) dX2_book_51 rfl rfl rfl ?_
        obtain ⟨g_7, hf⟩ := hf
        refine z_cVv m_X2_next [] (a0) (q := 55) (rc2 := rc) (rs2 := rs) (st := []) dX2_book_52 rfl q593 oV_X2_next rfl rfl ⟨z_le rfl, z_le rfl⟩ (z_le rfl) (z_rcv_of 1 rfl g_7 rfl) rfl  rfl hf (fun h_8 hf => ?_)
        obtain ⟨rc_9, g_10, hf⟩ := hf
        obtain ⟨rs_11, g_12, hf⟩ := hf
        refine z_new 17 (q := 58) (rc2 := rc_9) (rs2 := rs_11) rfl q1218 q1219 q159 dX2_book_55 rfl g_10 g_12 ?_
        refine z_dup (q := 59) dX2_book_58 rfl rfl ?_
        obtain ⟨rc_13, g_14, hf⟩ := hf
        obtain ⟨rs_15, g_16, hf⟩ := hf
        refine z_cINv m_X20_init [] ((h_8.n)) (q := 62) (rc2 := rc_13) (rs2 := rs_15) (st := [.ref (h_8.n)]) dX2_book_59 rfl (z_nwm q1220 rfl) oI_X20_init rfl rfl ⟨z_le rfl, z_le rfl⟩ (z_le rfl) g_14  g_16 hf (fun h_17 hf => ?_)
        refine z_astore_n (q := 63) (i := 3) (ls2 := [some (.ref a0), none, some (.ref a2), some (.ref (h_8.n))]) (x := (h_8.n)) dX2_book_62 rfl (z_lt rfl) rfl rfl ?_
        refine z_aload_n (q := 64) (i := 0) (x := a0) dX2_book_63 rfl rfl rfl ?_
        refine z_aload_n (q := 65) (i := 3) (x := (h_8.n)) dX2_book_64 rfl rfl rfl ?_
        obtain ⟨g_18, hf⟩ := hf
        refine z_getN 17 0 (q := 68) (v := .ref ((h_8.n) + 1)) rfl (z_lt rfl) (z_L17_T g_18) (z_nwm q1227 rfl) dX2_book_65 rfl (z_fvR (fun _ _ _ => rfl) (z_L17_P0 g_18)) ?_
        refine z_bipush (q := 70) (v := 6) dX2_book_68 (by decide) rfl ?_
        obtain ⟨mc_19, hf⟩ := hf
        obtain ⟨ms_20, hf⟩ := hf
        obtain ⟨rc_21, g_22, hf⟩ := hf
        obtain ⟨rs_23, g_24, hf⟩ := hf
        obtain ⟨g_25, hf⟩ := hf
        refine z_cXv (m_X2_row mc_19 ms_20) [.ref ((h_8.n) + 1), .int 6] (a0) (q := 73) (rc2 := rc_21) (rs2 := rs_23) (st := []) dX2_book_70 rfl q1199 (oV_X2_row _ _) rfl rfl ⟨z_le rfl, z_le rfl⟩ (z_le rfl) (z_rcv_of 1 rfl g_25 rfl) g_22  g_24 hf (fun C0 x h1 hX => z_out rfl hX) (fun h_26 hf => ?_)
        refine z_aload_n (q := 74) (i := 0) (x := a0) dX2_book_73 rfl rfl rfl ?_
        refine z_bipush (q := 76) (v := 44) dX2_book_74 (by decide) rfl ?_
        obtain ⟨rc_27, g_28, hf⟩ := hf
        obtain ⟨rs_29, g_30, hf⟩ := hf
        obtain ⟨g_31, hf⟩ := hf
        refine z_cXv m_X2_need [.int 44] (a0) (q := 79) (rc2 := rc_27) (rs2 := rs_29) (st := []) dX2_book_76 rfl q877 oV_X2_need rfl rfl ⟨z_le rfl, z_le rfl⟩ (z_le rfl) (z_rcv_of 1 rfl g_31 rfl) g_28  g_30 hf (fun C0 x h1 hX => z_out rfl hX) (fun h_32 hf => ?_)
        refine z_aload_n (q := 80) (i := 0) (x := a0) dX2_book_79 rfl rfl rfl ?_
        refine z_aload_n (q := 81) (i := 3) (x := (h_8.n)) dX2_book_80 rfl rfl rfl ?_
        obtain ⟨g_33, hf⟩ := hf
        refine z_getN 17 1 (q := 84) (v := .ref ((h_8.n) + 3)) rfl (z_lt rfl) (z_L17_T g_33) (z_nwm q1230 rfl) dX2_book_81 rfl (z_fvR (fun _ _ _ => rfl) (z_L17_P1 g_33)) ?_
        refine z_bipush (q := 86) (v := 6) dX2_book_84 (by decide) rfl ?_
        obtain ⟨mc_34, hf⟩ := hf
        obtain ⟨ms_35, hf⟩ := hf
        obtain ⟨rc_36, g_37, hf⟩ := hf
        obtain ⟨rs_38, g_39, hf⟩ := hf
        obtain ⟨g_40, hf⟩ := hf
        refine z_cXv (m_X2_row mc_34 ms_35) [.ref ((h_8.n) + 3), .int 6] (a0) (q := 89) (rc2 := rc_36) (rs2 := rs_38) (st := []) dX2_book_86 rfl q1199 (oV_X2_row _ _) rfl rfl ⟨z_le rfl, z_le rfl⟩ (z_le rfl) (z_rcv_of 1 rfl g_40 rfl) g_37  g_39 hf (fun C0 x h1 hX => z_out rfl hX) (fun h_41 hf => ?_)
        refine z_aload_n (q := 90) (i := 0) (x := a0) dX2_book_89 rfl rfl rfl ?_
        refine z_ldcS (q := 92) (j := 9) dX2_book_90 rfl rfl rfl ?_
        obtain ⟨rc_42, g_43, hf⟩ := hf
        obtain ⟨rs_44, g_45, hf⟩ := hf
        obtain ⟨g_46, hf⟩ := hf
        refine z_cXv m_X2_need_2 [.ref (G.sk 9)] (a0) (q := 95) (rc2 := rc_42) (rs2 := rs_44) (st := []) dX2_book_92 rfl q1096 oV_X2_need_2 rfl rfl ⟨z_le rfl, z_le rfl⟩ (z_le rfl) (z_rcv_of 1 rfl g_46 rfl) g_43  g_45 hf (fun C0 x h1 hX => z_out rfl hX) (fun h_47 hf => ?_)
        refine z_aload_n (q := 96) (i := 3) (x := (h_8.n)) dX2_book_95 rfl rfl rfl ?_
        refine z_aload_n (q := 97) (i := 0) (x := a0) dX2_book_96 rfl rfl rfl ?_
        refine z_ldcS (q := 99) (j := 11) dX2_book_97 rfl rfl rfl ?_
        obtain ⟨rc_48, g_49, hf⟩ := hf
        obtain ⟨rs_50, g_51, hf⟩ := hf
        obtain ⟨g_52, hf⟩ := hf
        refine z_cXi m_X2_one [.ref (G.sk 11)] (a0) (q := 102) (rc2 := rc_48) (rs2 := rs_50) (st := [.ref (h_8.n)]) dX2_book_99 rfl q809 oV_X2_one rfl rfl ⟨z_le rfl, z_le rfl⟩ (z_le rfl) (z_rcv_of 1 rfl g_52 rfl) g_49  g_51 hf (fun C0 x h1 hX => z_out rfl hX) (fun x_53 h_54 hf => ?_)
        obtain ⟨g_55, hf⟩ := hf
        refine z_putIN 17 2 (q := 105) (x := x_53) (v := .int x_53) rfl (z_lt rfl) (z_L17_T g_55) (z_nwm q1232 rfl) rfl dX2_book_102 rfl rfl rfl rfl (fun _ _ _ => rfl) ?_
        refine z_aload_n (q := 106) (i := 0) (x := a0) dX2_book_105 rfl rfl rfl ?_
        refine z_bipush (q := 108) (v := 59) dX2_book_106 (by decide) rfl ?_
        obtain ⟨rc_56, g_57, hf⟩ := hf
        obtain ⟨rs_58, g_59, hf⟩ := hf
        obtain ⟨g_60, hf⟩ := hf
        refine z_cXv m_X2_need [.int 59] (a0) (q := 111) (rc2 := rc_56) (rs2 := rs_58) (st := []) dX2_book_108 rfl q877 oV_X2_need rfl rfl ⟨z_le rfl, z_le rfl⟩ (z_le rfl) (z_rcv_of 1 rfl g_60 rfl) g_57  g_59 hf (fun C0 x h1 hX => z_out rfl hX) (fun h_61 hf => ?_)
        refine z_aload_n (q := 112) (i := 2) (x := a2) dX2_book_111 rfl rfl rfl ?_
        refine z_aload_n (q := 113) (i := 3) (x := (h_8.n)) dX2_book_112 rfl rfl rfl ?_
        obtain ⟨rc_62, g_63, hf⟩ := hf
        obtain ⟨rs_64, g_65, hf⟩ := hf
        obtain ⟨g_66, hf⟩ := hf
        refine z_cVi m_J2_add [.ref (h_8.n)] (a2) (q := 116) (rc2 := rc_62) (rs2 := rs_64) (st := []) dX2_book_113 rfl q1100 oV_J2_add rfl rfl ⟨z_le rfl, z_le rfl⟩ (z_le rfl) (z_rcv_of 21 rfl g_66 rfl) g_63  g_65 hf (fun x_67 h_68 hf => ?_)
        refine z_pop (q := 117) dX2_book_116 rfl rfl ?_
        refine z_goto (q := 14) dX2_book_117 rfl ?_
        refine z_prune [true, false, true, false] (ls2 := [some (.ref a0), none, some (.ref a2), none]) rfl ?_
        exact hf
      · have hf := hf.1 hc
        refine z_aload_n (q := 46) (i := 0) (x := a0) dX2_book_45 rfl rfl rfl ?_
        refine z_iconst (q := 47) (v := 5) dX2_book_46 rfl rfl ?_
        obtain ⟨rc_69, g_70, hf⟩ := hf
        obtain ⟨rs_71, g_72, hf⟩ := hf
        obtain ⟨g_73, hf⟩ := hf
        refine z_cVr m_X2_wrong [.int 5] (a0) (q := 50) (rc2 := rc_69) (rs2 := rs_71) (st := []) dX2_book_47 rfl q727 oV_X2_wrong rfl rfl ⟨z_le rfl, z_le rfl⟩ (z_le rfl) (z_rcv_of 1 rfl g_73 rfl) g_70  g_72 hf (fun b_74 h_75 hf => ?_)
        obtain ⟨g_76, hf⟩ := hf
        exact z_athrow (c := 12) rfl g_76 dX2_book_50 (z_out rfl hf)
    · have hf := hf.2 hc
      refine z_aload_n (q := 31) (i := 0) (x := a0) dX2_book_30 rfl rfl rfl ?_
      refine z_iconst (q := 32) (v := 1) dX2_book_31 rfl rfl ?_
      obtain ⟨rc_77, g_78, hf⟩ := hf
      obtain ⟨rs_79, g_80, hf⟩ := hf
      obtain ⟨g_81, hf⟩ := hf
      refine z_cVr m_X2_wrong [.int 1] (a0) (q := 35) (rc2 := rc_77) (rs2 := rs_79) (st := []) dX2_book_32 rfl q727 oV_X2_wrong rfl rfl ⟨z_le rfl, z_le rfl⟩ (z_le rfl) (z_rcv_of 1 rfl g_81 rfl) g_78  g_80 hf (fun b_82 h_83 hf => ?_)
      obtain ⟨g_84, hf⟩ := hf
      exact z_athrow (c := 12) rfl g_84 dX2_book_35 (z_out rfl hf)

theorem u_X2_deal {l : Launch} {G : z_G} {mc ms : Nat} {a0 : Nat} {a1 : Nat} {h : z_H} {Q : z_Q} {X : z_QX} (hst : l.stackTraces = false)  (hf : (h.T a0).1 = 11 ∧ ∃ rc_2, mc = rc_2 + 1 ∧ ∃ rs_4, ms = rs_4 + 2 ∧ z_V l G (m_X2_deal mc ms) (z_Fx G (m_X2_deal mc ms) Q X) rc_2 rs_4 ((h.sP a0 7 (some a1)).nw (9, 2)) 10 [some (.ref a0), none, some (.ref (h.n)), none] []) : z_Cz l G (m_X2_deal mc ms) [.ref a0, .ref a1] h Q X := by
  refine z_Cz.of (ls := [some (.ref a0), some (.ref a1), none, none]) hst rfl (by show plainName yX2_deal.cls = true; decide +kernel) (z_le rfl) rfl ?_
  show z_V l G (m_X2_deal mc ms) (z_Fx G (m_X2_deal mc ms) Q X) mc ms h 0 [some (.ref a0), some (.ref a1), none, none] []
  refine z_aload_n (q := 1) (i := 0) (x := a0) dX2_deal_0 rfl rfl rfl ?_
  refine z_aload_n (q := 2) (i := 1) (x := a1) dX2_deal_1 rfl rfl rfl ?_
  obtain ⟨g_1, hf⟩ := hf
  refine z_putP 1 7 (q := 5) (x := some a1) (v := .ref a1) rfl (z_lt rfl) g_1 q185 rfl dX2_deal_2 rfl rfl rfl rfl (fun _ _ _ => rfl) ?_
  refine z_iconst (q := 6) (v := 2) dX2_deal_5 rfl rfl ?_
  obtain ⟨rc_2, g_3, hf⟩ := hf
  obtain ⟨rs_4, g_5, hf⟩ := hf
  refine z_newq 9 (q := 9) (N := 2) (rc2 := rc_2) (rs2 := rs_4) (by decide) rfl (by simp [z_ao]) q1196 (by decide) rfl (z_le rfl) dX2_deal_6 rfl g_3 g_5 ?_
  refine z_astore_n (q := 10) (i := 2) (ls2 := [some (.ref a0), some (.ref a1), some (.ref (h.n)), none]) (x := (h.n)) dX2_deal_9 rfl (z_lt rfl) rfl rfl ?_
  refine z_prune [true, false, true, false] (ls2 := [some (.ref a0), none, some (.ref (h.n)), none]) rfl ?_
  exact hf

theorem b_X2_deal_10 {l : Launch} {G : z_G} {mc ms : Nat} {rc rs : Nat} {a0 : Nat} {a2 : Nat} {h : z_H} {Q : z_Q} {X : z_QX}  (hf : (h.T a0).1 = 11 ∧ ((h.I a0 3) = 0 → Q (some (.ref a2)) h) ∧ (¬ (h.I a0 3) = 0 → z_Ct l G m_X2_which [.ref a0, .ref (G.sk 3)] h (z_Qi (fun x_2 h_3 => (0 ≤ x_2 → ∃ n_4, h_3.T a2 = (9, n_4) ∧ vp_in x_2 n_4 ∧ ((h_3.P a2 (Int32.toNatClampNeg x_2)) = none → (h_3.T a0).1 = 11 ∧ z_Ct l G m_X2_next [.ref a0] h_3 (z_Qv (fun h_10 => ∃ rc_11, rc = rc_11 + 1 ∧ ∃ rs_13, rs = rs_13 + 2 ∧ ∃ rc_15, rc_11 = rc_15 + 1 ∧ ∃ rs_17, rs_13 = rs_17 + 24 ∧ z_Ct l G m_X12_init [.ref (h_10.n)] (h_10.nw (20, 0)) (z_Qv (fun h_19 => ∃ n_20, h_19.T a2 = (9, n_20) ∧ vp_in x_2 n_20 ∧ z_L10 h_19 (h_10.n) ∧ vp_in x_2 n_20 ∧ ∃ b_25, some (h_10.n) = some b_25 ∧ ∃ mc_27, ∃ ms_28, ∃ rc_29, rc_15 = rc_29 + mc_27 ∧ ∃ rs_31, rs_17 = rs_31 + ms_28 ∧ (h_19.T a0).1 = 11 ∧ z_Cz l G (m_X2_row mc_27 ms_28) [.ref a0, .ref b_25, .int 24] (h_19.sP a2 (Int32.toNatClampNeg x_2) (some (h_10.n))) (z_Qv (fun h_34 => ∃ rc_35, rc_29 = rc_35 + 1 ∧ ∃ rs_37, rs_31 = rs_37 + 7 ∧ (h_34.T a0).1 = 11 ∧ z_Cz l G m_X2_need [.ref a0, .int 59] h_34 (z_Qv (fun h_40 => z_V l G (m_X2_deal mc ms) (z_Fx G (m_X2_deal mc ms) Q X) rc_35 rs_37 h_40 10 [some (.ref a0), none, some (.ref a2), none] [])) X)) X))))) ∧ (∀ b_7, (h_3.P a2 (Int32.toNatClampNeg x_2)) = some b_7 → ∃ rc_41, rc = rc_41 + 1 ∧ ∃ rs_43, rs = rs_43 + 7 ∧ (h_3.T a0).1 = 11 ∧ z_Ct l G m_X2_wrong [.ref a0, .int 3] h_3 (z_Qr (fun b_46 h_47 => (h_47.T b_46).1 = 22 ∧ X "BeggarHeaps$Wrong" b_46 h_47)))) ∧ (¬ 0 ≤ x_2 → ∃ rc_49, rc = rc_49 + 1 ∧ ∃ rs_51, rs = rs_51 + 7 ∧ (h_3.T a0).1 = 11 ∧ z_Ct l G m_X2_wrong [.ref a0, .int 1] h_3 (z_Qr (fun b_54 h_55 => (h_55.T b_54).1 = 22 ∧ X "BeggarHeaps$Wrong" b_54 h_55))))))) : z_V l G (m_X2_deal mc ms) (z_Fx G (m_X2_deal mc ms) Q X) rc rs h 10 [some (.ref a0), none, some (.ref a2), none] [] := by
  refine z_aload_n (q := 11) (i := 0) (x := a0) dX2_deal_10 rfl rfl rfl ?_
  obtain ⟨g_1, hf⟩ := hf
  refine z_get 1 3 (q := 14) (v := .int (h.I a0 3)) rfl (z_lt rfl) g_1 q181 dX2_deal_11 rfl rfl ?_
  refine z_if_eq (q := 17) (tgt := 78) dX2_deal_14 rfl rfl (fun hc => ?_) (fun hc => ?_)
  · have hf := hf.1 hc
    refine z_aload_n (q := 79) (i := 2) (x := a2) dX2_deal_78 rfl rfl rfl ?_
    refine z_V.x ?_
    exact z_aret (r := some a2) rfl dX2_deal_79 rfl (Or.inr ⟨_, rfl⟩) hf
  · have hf := hf.2 hc
    refine z_aload_n (q := 18) (i := 0) (x := a0) dX2_deal_17 rfl rfl rfl ?_
    refine z_ldcS (q := 20) (j := 3) dX2_deal_18 rfl rfl rfl ?_
    refine z_cVi m_X2_which [.ref (G.sk 3)] (a0) (q := 23) (rc2 := rc) (rs2 := rs) (st := []) dX2_deal_20 rfl q701 oV_X2_which rfl rfl ⟨z_le rfl, z_le rfl⟩ (z_le rfl) (z_rcv_of 1 rfl g_1 rfl) rfl  rfl hf (fun x_2 h_3 hf => ?_)
    refine z_istore_n (q := 24) (i := 3) (ls2 := [some (.ref a0), none, some (.ref a2), some (.int x_2)]) (x := x_2) dX2_deal_23 rfl (z_lt rfl) rfl rfl ?_
    refine z_iload_n (q := 25) (i := 3) (x := x_2) dX2_deal_24 rfl rfl rfl ?_
    refine z_if_ge (q := 28) (tgt := 34) dX2_deal_25 rfl rfl (fun hc => ?_) (fun hc => ?_)
    · have hf := hf.1 hc
      refine z_aload_n (q := 35) (i := 2) (x := a2) dX2_deal_34 rfl rfl rfl ?_
      refine z_iload_n (q := 36) (i := 3) (x := x_2) dX2_deal_35 rfl rfl rfl ?_
      obtain ⟨n_4, g_5, hf⟩ := hf
      obtain ⟨g_6, hf⟩ := hf
      refine z_aald (q := 37) (n := n_4) (v := va_rf (h_3.P a2 (Int32.toNatClampNeg x_2))) g_5 (by decide) g_6 dX2_deal_36 rfl rfl ?_
      rcases z_nn (h_3.P a2 (Int32.toNatClampNeg x_2)) with hn | ⟨b_7, g_8⟩
      · have hf := hf.1 hn
        refine z_topq hn ?_
        refine z_ifnullN (q := 46) dX2_deal_37 rfl ?_
        refine z_aload_n (q := 47) (i := 0) (x := a0) dX2_deal_46 rfl rfl rfl ?_
        obtain ⟨g_9, hf⟩ := hf
        refine z_cVv m_X2_next [] (a0) (q := 50) (rc2 := rc) (rs2 := rs) (st := []) dX2_deal_47 rfl q593 oV_X2_next rfl rfl ⟨z_le rfl, z_le rfl⟩ (z_le rfl) (z_rcv_of 1 rfl g_9 rfl) rfl  rfl hf (fun h_10 hf => ?_)
        refine z_aload_n (q := 51) (i := 2) (x := a2) dX2_deal_50 rfl rfl rfl ?_
        refine z_iload_n (q := 52) (i := 3) (x := x_2) dX2_deal_51 rfl rfl rfl ?_
        obtain ⟨rc_11, g_12, hf⟩ := hf
        obtain ⟨rs_13, g_14, hf⟩ := hf
        refine z_new 10 (q := 55) (rc2 := rc_11) (rs2 := rs_13) rfl q1196 q478 q136 dX2_deal_52 rfl g_12 g_14 ?_
        refine z_dup (q := 56) dX2_deal_55 rfl rfl ?_
        obtain ⟨rc_15, g_16, hf⟩ := hf
        obtain ⟨rs_17, g_18, hf⟩ := hf
        refine z_cINv m_X12_init [] ((h_10.n)) (q := 59) (rc2 := rc_15) (rs2 := rs_17) (st := [.ref (h_10.n), .int x_2, .ref a2]) dX2_deal_56 rfl (z_nwm q1198 rfl) oI_X12_init rfl rfl ⟨z_le rfl, z_le rfl⟩ (z_le rfl) g_16  g_18 hf (fun h_19 hf => ?_)
        obtain ⟨n_20, g_21, hf⟩ := hf
        obtain ⟨g_22, hf⟩ := hf
        obtain ⟨g_23, hf⟩ := hf
        refine z_aast (q := 60) (c := 10) (n := n_20) g_21 (by decide) (z_L10_T g_23) ⟨_, rfl, _, rfl, Or.inl rfl⟩ g_22 dX2_deal_59 rfl ?_
        refine z_aload_n (q := 61) (i := 0) (x := a0) dX2_deal_60 rfl rfl rfl ?_
        refine z_aload_n (q := 62) (i := 2) (x := a2) dX2_deal_61 rfl rfl rfl ?_
        refine z_iload_n (q := 63) (i := 3) (x := x_2) dX2_deal_62 rfl rfl rfl ?_
        obtain ⟨g_24, hf⟩ := hf
        obtain ⟨b_25, g_26, hf⟩ := hf
        refine z_aald (q := 64) (n := n_20) (v := .ref b_25) g_21 (by decide) g_24 dX2_deal_63 rfl (z_rfR (Eq.trans z_rPs g_26)) ?_
        refine z_bipush (q := 66) (v := 24) dX2_deal_64 (by decide) rfl ?_
        obtain ⟨mc_27, hf⟩ := hf
        obtain ⟨ms_28, hf⟩ := hf
        obtain ⟨rc_29, g_30, hf⟩ := hf
        obtain ⟨rs_31, g_32, hf⟩ := hf
        obtain ⟨g_33, hf⟩ := hf
        refine z_cXv (m_X2_row mc_27 ms_28) [.ref b_25, .int 24] (a0) (q := 69) (rc2 := rc_29) (rs2 := rs_31) (st := []) dX2_deal_66 rfl q1199 (oV_X2_row _ _) rfl rfl ⟨z_le rfl, z_le rfl⟩ (z_le rfl) (z_rcv_of 1 rfl g_33 rfl) g_30  g_32 hf (fun C0 x h1 hX => z_out rfl hX) (fun h_34 hf => ?_)
        refine z_aload_n (q := 70) (i := 0) (x := a0) dX2_deal_69 rfl rfl rfl ?_
        refine z_bipush (q := 72) (v := 59) dX2_deal_70 (by decide) rfl ?_
        obtain ⟨rc_35, g_36, hf⟩ := hf
        obtain ⟨rs_37, g_38, hf⟩ := hf
        obtain ⟨g_39, hf⟩ := hf
        refine z_cXv m_X2_need [.int 59] (a0) (q := 75) (rc2 := rc_35) (rs2 := rs_37) (st := []) dX2_deal_72 rfl q877 oV_X2_need rfl rfl ⟨z_le rfl, z_le rfl⟩ (z_le rfl) (z_rcv_of 1 rfl g_39 rfl) g_36  g_38 hf (fun C0 x h1 hX => z_out rfl hX) (fun h_40 hf => ?_)
        refine z_goto (q := 10) dX2_deal_75 rfl ?_
        refine z_prune [true, false, true, false] (ls2 := [some (.ref a0), none, some (.ref a2), none]) rfl ?_
        exact hf
      · have hf := hf.2 b_7 g_8
        refine z_topq g_8 ?_
        refine z_ifnull (q := 40) dX2_deal_37 rfl ?_
        refine z_aload_n (q := 41) (i := 0) (x := a0) dX2_deal_40 rfl rfl rfl ?_
        refine z_iconst (q := 42) (v := 3) dX2_deal_41 rfl rfl ?_
        obtain ⟨rc_41, g_42, hf⟩ := hf
        obtain ⟨rs_43, g_44, hf⟩ := hf
        obtain ⟨g_45, hf⟩ := hf
        refine z_cVr m_X2_wrong [.int 3] (a0) (q := 45) (rc2 := rc_41) (rs2 := rs_43) (st := []) dX2_deal_42 rfl q727 oV_X2_wrong rfl rfl ⟨z_le rfl, z_le rfl⟩ (z_le rfl) (z_rcv_of 1 rfl g_45 rfl) g_42  g_44 hf (fun b_46 h_47 hf => ?_)
        obtain ⟨g_48, hf⟩ := hf
        exact z_athrow (c := 12) rfl g_48 dX2_deal_45 (z_out rfl hf)
    · have hf := hf.2 hc
      refine z_aload_n (q := 29) (i := 0) (x := a0) dX2_deal_28 rfl rfl rfl ?_
      refine z_iconst (q := 30) (v := 1) dX2_deal_29 rfl rfl ?_
      obtain ⟨rc_49, g_50, hf⟩ := hf
      obtain ⟨rs_51, g_52, hf⟩ := hf
      obtain ⟨g_53, hf⟩ := hf
      refine z_cVr m_X2_wrong [.int 1] (a0) (q := 33) (rc2 := rc_49) (rs2 := rs_51) (st := []) dX2_deal_30 rfl q727 oV_X2_wrong rfl rfl ⟨z_le rfl, z_le rfl⟩ (z_le rfl) (z_rcv_of 1 rfl g_53 rfl) g_50  g_52 hf (fun b_54 h_55 hf => ?_)
      obtain ⟨g_56, hf⟩ := hf
      exact z_athrow (c := 12) rfl g_56 dX2_deal_33 (z_out rfl hf)

theorem u_X2_expression {l : Launch} {G : z_G} {d : Nat} {mc ms : Nat} {a0 : Nat} {h : z_H} {Q : z_Q} {X : z_QX} (hst : l.stackTraces = false)  (hf : ∃ mc_1, ∃ ms_2, ∃ rc_3, mc = rc_3 + mc_1 ∧ ∃ rs_5, ms = rs_5 + ms_2 ∧ (h.T a0).1 = 11 ∧ z_Cz l G (m_X2_test d mc_1 ms_2) [.ref a0] h (z_Qr (fun b_8 h_9 => z_V l G (m_X2_expression d mc ms) (z_Fx G (m_X2_expression d mc ms) Q X) rc_3 rs_5 h_9 5 [some (.ref a0), some (.ref b_8), none] [])) X) : z_Cz l G (m_X2_expression d mc ms) [.ref a0] h Q X := by
  refine z_Cz.of (ls := [some (.ref a0), none, none]) hst rfl (by show plainName yX2_expression.cls = true; decide +kernel) (z_le rfl) rfl ?_
  show z_V l G (m_X2_expression d mc ms) (z_Fx G (m_X2_expression d mc ms) Q X) mc ms h 0 [some (.ref a0), none, none] []
  refine z_aload_n (q := 1) (i := 0) (x := a0) dX2_expression_0 rfl rfl rfl ?_
  obtain ⟨mc_1, hf⟩ := hf
  obtain ⟨ms_2, hf⟩ := hf
  obtain ⟨rc_3, g_4, hf⟩ := hf
  obtain ⟨rs_5, g_6, hf⟩ := hf
  obtain ⟨g_7, hf⟩ := hf
  refine z_cXr (m_X2_test d mc_1 ms_2) [] (a0) (q := 4) (rc2 := rc_3) (rs2 := rs_5) (st := []) dX2_expression_1 rfl q818 (oV_X2_test _ _ _) rfl rfl (z_room_of (by first | exact z_le rfl | (simp only [z_M.d, z_M.nL, z_M.lo, m_X2_test, m_X2_expression]; omega)) (by first | exact z_le rfl | (simp only [z_M.d, z_M.nL, z_M.lo, m_X2_test, m_X2_expression]; omega))) (z_le rfl) (z_rcv_of 1 rfl g_7 rfl) g_4  g_6 hf (fun C0 x h1 hX => z_out rfl hX) (fun b_8 h_9 hf => ?_)
  refine z_astore_n (q := 5) (i := 1) (ls2 := [some (.ref a0), some (.ref b_8), none]) (x := b_8) dX2_expression_4 rfl (z_lt rfl) rfl rfl ?_
  exact hf

theorem b_X2_expression_5 {l : Launch} {G : z_G} {d : Nat} {mc ms : Nat} {rc rs : Nat} {a0 : Nat} {a1 : Nat} {h : z_H} {Q : z_Q} {X : z_QX}  (hf : (h.T a0).1 = 11 ∧ z_Ct l G m_X2_which [.ref a0, .ref (G.sk 6)] h (z_Qi (fun x_2 h_3 => (0 ≤ x_2 → (h_3.T a0).1 = 11 ∧ z_Ct l G m_X2_next [.ref a0] h_3 (z_Qv (fun h_5 => ∃ rc_6, rc = rc_6 + 1 ∧ ∃ rs_8, rs = rs_8 + 3 ∧ ∃ mc_10, ∃ ms_11, ∃ rc_12, rc_6 = rc_12 + mc_10 ∧ ∃ rs_14, rs_8 = rs_14 + ms_11 ∧ ((h_5.nw (26, 0)).T a0).1 = 11 ∧ z_Cz l G (m_X2_test d mc_10 ms_11) [.ref a0] (h_5.nw (26, 0)) (z_Qr (fun b_17 h_18 => z_Ct l G m_X19_init [.ref (h_5.n), .int (if x_2 = 0 then 38 else 124), .ref a1, .ref b_17] h_18 (z_Qv (fun h_19 => z_V l G (m_X2_expression d mc ms) (z_Fx G (m_X2_expression d mc ms) Q X) rc_12 rs_14 h_19 5 [some (.ref a0), some (.ref (h_5.n)), none] [])))) X))) ∧ (¬ 0 ≤ x_2 → Q (some (.ref a1)) h_3)))) : z_V l G (m_X2_expression d mc ms) (z_Fx G (m_X2_expression d mc ms) Q X) rc rs h 5 [some (.ref a0), some (.ref a1), none] [] := by
  refine z_aload_n (q := 6) (i := 0) (x := a0) dX2_expression_5 rfl rfl rfl ?_
  refine z_ldcS (q := 8) (j := 6) dX2_expression_6 rfl rfl rfl ?_
  obtain ⟨g_1, hf⟩ := hf
  refine z_cVi m_X2_which [.ref (G.sk 6)] (a0) (q := 11) (rc2 := rc) (rs2 := rs) (st := []) dX2_expression_8 rfl q701 oV_X2_which rfl rfl (z_room_of (by first | exact z_le rfl | (simp only [z_M.d, z_M.nL, z_M.lo, m_X2_which, m_X2_expression]; omega)) (by first | exact z_le rfl | (simp only [z_M.d, z_M.nL, z_M.lo, m_X2_which, m_X2_expression]; omega))) (z_le rfl) (z_rcv_of 1 rfl g_1 rfl) rfl  rfl hf (fun x_2 h_3 hf => ?_)
  refine z_istore_n (q := 12) (i := 2) (ls2 := [some (.ref a0), some (.ref a1), some (.int x_2)]) (x := x_2) dX2_expression_11 rfl (z_lt rfl) rfl rfl ?_
  refine z_iload_n (q := 13) (i := 2) (x := x_2) dX2_expression_12 rfl rfl rfl ?_
  refine z_if_ge (q := 16) (tgt := 18) dX2_expression_13 rfl rfl (fun hc => ?_) (fun hc => ?_)
  · have hf := hf.1 hc
    refine z_aload_n (q := 19) (i := 0) (x := a0) dX2_expression_18 rfl rfl rfl ?_
    obtain ⟨g_4, hf⟩ := hf
    refine z_cVv m_X2_next [] (a0) (q := 22) (rc2 := rc) (rs2 := rs) (st := []) dX2_expression_19 rfl q593 oV_X2_next rfl rfl (z_room_of (by first | exact z_le rfl | (simp only [z_M.d, z_M.nL, z_M.lo, m_X2_next, m_X2_expression]; omega)) (by first | exact z_le rfl | (simp only [z_M.d, z_M.nL, z_M.lo, m_X2_next, m_X2_expression]; omega))) (z_le rfl) (z_rcv_of 1 rfl g_4 rfl) rfl  rfl hf (fun h_5 hf => ?_)
    obtain ⟨rc_6, g_7, hf⟩ := hf
    obtain ⟨rs_8, g_9, hf⟩ := hf
    refine z_new 16 (q := 25) (rc2 := rc_6) (rs2 := rs_8) rfl q881 q882 q152 dX2_expression_22 rfl g_7 g_9 ?_
    refine z_dup (q := 26) dX2_expression_25 rfl rfl ?_
    refine z_iload_n (q := 27) (i := 2) (x := x_2) dX2_expression_26 rfl rfl rfl ?_
    have hk : z_V l G (m_X2_expression d mc ms) (z_Fx G (m_X2_expression d mc ms) Q X) rc_6 rs_8 (h_5.nw (26, 0)) 37 [some (.ref a0), some (.ref a1), some (.int x_2)] [.int (if x_2 = 0 then 38 else 124), .ref (h_5.n), .ref (h_5.n)] := by
      refine z_aload_n (q := 38) (i := 1) (x := a1) dX2_expression_37 rfl rfl rfl ?_
      refine z_aload_n (q := 39) (i := 0) (x := a0) dX2_expression_38 rfl rfl rfl ?_
      obtain ⟨mc_10, hf⟩ := hf
      obtain ⟨ms_11, hf⟩ := hf
      obtain ⟨rc_12, g_13, hf⟩ := hf
      obtain ⟨rs_14, g_15, hf⟩ := hf
      obtain ⟨g_16, hf⟩ := hf
      refine z_cXr (m_X2_test d mc_10 ms_11) [] (a0) (q := 42) (rc2 := rc_12) (rs2 := rs_14) (st := [.ref a1, .int (if x_2 = 0 then 38 else 124), .ref (h_5.n), .ref (h_5.n)]) dX2_expression_39 rfl q818 (oV_X2_test _ _ _) rfl rfl (z_room_of (by first | exact z_le rfl | (simp only [z_M.d, z_M.nL, z_M.lo, m_X2_test, m_X2_expression]; omega)) (by first | exact z_le rfl | (simp only [z_M.d, z_M.nL, z_M.lo, m_X2_test, m_X2_expression]; omega))) (z_le rfl) (z_rcv_of 1 rfl g_16 rfl) g_13  g_15 hf (fun C0 x h1 hX => z_out rfl hX) (fun b_17 h_18 hf => ?_)
      refine z_cIv m_X19_init [.int (if x_2 = 0 then 38 else 124), .ref a1, .ref b_17] ((h_5.n)) (q := 45) (rc2 := rc_12) (rs2 := rs_14) (st := [.ref (h_5.n)]) dX2_expression_42 rfl q883 oI_X19_init rfl rfl (z_room_of (by first | exact z_le rfl | (simp only [z_M.d, z_M.nL, z_M.lo, m_X19_init, m_X2_expression]; omega)) (by first | exact z_le rfl | (simp only [z_M.d, z_M.nL, z_M.lo, m_X19_init, m_X2_expression]; omega))) (z_le rfl) rfl  rfl hf (fun h_19 hf => ?_)
      refine z_astore_n (q := 46) (i := 1) (ls2 := [some (.ref a0), some (.ref (h_5.n)), some (.int x_2)]) (x := (h_5.n)) dX2_expression_45 rfl (z_lt rfl) rfl rfl ?_
      refine z_goto (q := 5) dX2_expression_46 rfl ?_
      refine z_prune [true, true, false] (ls2 := [some (.ref a0), some (.ref (h_5.n)), none]) rfl ?_
      exact hf
    refine z_if_ne (q := 30) (tgt := 35) dX2_expression_27 rfl rfl (fun hc => ?_) (fun hc => ?_)
    · have hk := (z_ite hk).2 hc
      refine z_bipush (q := 37) (v := 124) dX2_expression_35 (by decide) rfl ?_
      exact hk
    · have hk := (z_ite hk).1 hc
      refine z_bipush (q := 32) (v := 38) dX2_expression_30 (by decide) rfl ?_
      refine z_goto (q := 37) dX2_expression_32 rfl ?_
      exact hk
  · have hf := hf.2 hc
    refine z_aload_n (q := 17) (i := 1) (x := a1) dX2_expression_16 rfl rfl rfl ?_
    refine z_V.x ?_
    exact z_aret (r := some a1) rfl dX2_expression_17 rfl (Or.inl ⟨_, rfl⟩) hf

theorem u_X2_init {l : Launch} {G : z_G} {a0 : Nat} {h : z_H} {Q : z_Q} (hst : l.stackTraces = false)  (hf : Q none h) : z_Ct l G m_X2_init [.ref a0] h Q := by
  refine z_Ct.of (ls := [some (.ref a0)]) hst rfl (by show plainName yX2_init.cls = true; decide +kernel) (z_le rfl) rfl ?_
  show z_V l G m_X2_init (z_Fm G m_X2_init Q) 0 0 h 0 [some (.ref a0)] []
  refine z_aload_n (q := 1) (i := 0) (x := a0) dX2_init_0 rfl rfl rfl ?_
  refine z_objInit (q := 4) dX2_init_1 rfl q177 q170 q171 ⟨z_le rfl, z_le rfl⟩ (z_le rfl) ?_
  exact z_vret dX2_init_4 rfl hf

theorem u_X2_isDigit {l : Launch} {G : z_G} {x0 : Int32} {h : z_H} {Q : z_Q} (hst : l.stackTraces = false)  (hf : Q (some (.int (if x0 < 48 then 0 else (if 57 < x0 then 0 else 1)))) h) : z_Ct l G m_X2_isDigit [.int x0] h Q := by
  refine z_Ct.of (ls := [some (.int x0)]) hst rfl (by show plainName yX2_isDigit.cls = true; decide +kernel) (z_le rfl) rfl ?_
  show z_V l G m_X2_isDigit (z_Fm G m_X2_isDigit Q) 0 0 h 0 [some (.int x0)] []
  refine z_iload_n (q := 1) (i := 0) (x := x0) dX2_isDigit_0 rfl rfl rfl ?_
  refine z_bipush (q := 3) (v := 48) dX2_isDigit_1 (by decide) rfl ?_
  have hk : z_V l G m_X2_isDigit (z_Fm G m_X2_isDigit Q) 0 0 h 17 [some (.int x0)] [.int (if x0 < 48 then 0 else (if 57 < x0 then 0 else 1))] := by
    exact z_zret dX2_isDigit_17 rfl (z_nb01 (z_bif z_b0 (z_bif z_b0 z_b1))) hf
  refine z_icmp_lt (q := 6) (tgt := 16) dX2_isDigit_3 rfl rfl (fun hc => ?_) (fun hc => ?_)
  · have hk := (z_ite hk).1 hc
    refine z_iconst (q := 17) (v := 0) dX2_isDigit_16 rfl rfl ?_
    exact hk
  · have hk := (z_ite hk).2 hc
    refine z_iload_n (q := 7) (i := 0) (x := x0) dX2_isDigit_6 rfl rfl rfl ?_
    refine z_bipush (q := 9) (v := 57) dX2_isDigit_7 (by decide) rfl ?_
    refine z_icmp_gt (q := 12) (tgt := 16) dX2_isDigit_9 rfl rfl (fun hc => ?_) (fun hc => ?_)
    · have hk := (z_ite hk).1 hc
      refine z_iconst (q := 17) (v := 0) dX2_isDigit_16 rfl rfl ?_
      exact hk
    · have hk := (z_ite hk).2 hc
      refine z_iconst (q := 13) (v := 1) dX2_isDigit_12 rfl rfl ?_
      refine z_goto (q := 17) dX2_isDigit_13 rfl ?_
      exact hk

theorem u_X2_isLetter {l : Launch} {G : z_G} {x0 : Int32} {h : z_H} {Q : z_Q} (hst : l.stackTraces = false)  (hf : Q (some (.int (if x0 < 97 then 0 else (if 122 < x0 then 0 else 1)))) h) : z_Ct l G m_X2_isLetter [.int x0] h Q := by
  refine z_Ct.of (ls := [some (.int x0)]) hst rfl (by show plainName yX2_isLetter.cls = true; decide +kernel) (z_le rfl) rfl ?_
  show z_V l G m_X2_isLetter (z_Fm G m_X2_isLetter Q) 0 0 h 0 [some (.int x0)] []
  refine z_iload_n (q := 1) (i := 0) (x := x0) dX2_isLetter_0 rfl rfl rfl ?_
  refine z_bipush (q := 3) (v := 97) dX2_isLetter_1 (by decide) rfl ?_
  have hk : z_V l G m_X2_isLetter (z_Fm G m_X2_isLetter Q) 0 0 h 17 [some (.int x0)] [.int (if x0 < 97 then 0 else (if 122 < x0 then 0 else 1))] := by
    exact z_zret dX2_isLetter_17 rfl (z_nb01 (z_bif z_b0 (z_bif z_b0 z_b1))) hf
  refine z_icmp_lt (q := 6) (tgt := 16) dX2_isLetter_3 rfl rfl (fun hc => ?_) (fun hc => ?_)
  · have hk := (z_ite hk).1 hc
    refine z_iconst (q := 17) (v := 0) dX2_isLetter_16 rfl rfl ?_
    exact hk
  · have hk := (z_ite hk).2 hc
    refine z_iload_n (q := 7) (i := 0) (x := x0) dX2_isLetter_6 rfl rfl rfl ?_
    refine z_bipush (q := 9) (v := 122) dX2_isLetter_7 (by decide) rfl ?_
    refine z_icmp_gt (q := 12) (tgt := 16) dX2_isLetter_9 rfl rfl (fun hc => ?_) (fun hc => ?_)
    · have hk := (z_ite hk).1 hc
      refine z_iconst (q := 17) (v := 0) dX2_isLetter_16 rfl rfl ?_
      exact hk
    · have hk := (z_ite hk).2 hc
      refine z_iconst (q := 13) (v := 1) dX2_isLetter_12 rfl rfl ?_
      refine z_goto (q := 17) dX2_isLetter_13 rfl ?_
      exact hk

theorem u_X2_isSign {l : Launch} {G : z_G} {a0 : Nat} {x1 : Int32} {h : z_H} {Q : z_Q} (hst : l.stackTraces = false)  (hf : (h.T a0).1 = 11 ∧ ((h.I a0 3) = 3 → ∃ b_4, (h.P a0 0) = some b_4 ∧ ∃ n_6, h.T b_4 = (2, n_6) ∧ vp_in (h.I a0 4) n_6 ∧ Q (some (.int (if (h.I b_4 (Int32.toNatClampNeg (h.I a0 4))) = x1 then 1 else 0))) h) ∧ (¬ (h.I a0 3) = 3 → Q (some (.int 0)) h)) : z_Ct l G m_X2_isSign [.ref a0, .int x1] h Q := by
  refine z_Ct.of (ls := [some (.ref a0), some (.int x1)]) hst rfl (by show plainName yX2_isSign.cls = true; decide +kernel) (z_le rfl) rfl ?_
  show z_V l G m_X2_isSign (z_Fm G m_X2_isSign Q) 0 0 h 0 [some (.ref a0), some (.int x1)] []
  refine z_aload_n (q := 1) (i := 0) (x := a0) dX2_isSign_0 rfl rfl rfl ?_
  obtain ⟨g_1, hf⟩ := hf
  refine z_get 1 3 (q := 4) (v := .int (h.I a0 3)) rfl (z_lt rfl) g_1 q181 dX2_isSign_1 rfl rfl ?_
  refine z_iconst (q := 5) (v := 3) dX2_isSign_4 rfl rfl ?_
  refine z_icmp_ne (q := 8) (tgt := 25) dX2_isSign_5 rfl rfl (fun hc => ?_) (fun hc => ?_)
  · have hf := hf.2 hc
    refine z_iconst (q := 26) (v := 0) dX2_isSign_25 rfl rfl ?_
    exact z_zret dX2_isSign_26 rfl (z_nb01 z_b0) hf
  · have hf := hf.1 hc
    refine z_aload_n (q := 9) (i := 0) (x := a0) dX2_isSign_8 rfl rfl rfl ?_
    obtain ⟨b_4, g_5, hf⟩ := hf
    refine z_get 1 0 (q := 12) (v := .ref b_4) rfl (z_lt rfl) g_1 q178 dX2_isSign_9 rfl (z_fvR (fun _ _ _ => rfl) g_5) ?_
    refine z_aload_n (q := 13) (i := 0) (x := a0) dX2_isSign_12 rfl rfl rfl ?_
    refine z_get 1 4 (q := 16) (v := .int (h.I a0 4)) rfl (z_lt rfl) g_1 q182 dX2_isSign_13 rfl rfl ?_
    obtain ⟨n_6, g_7, hf⟩ := hf
    obtain ⟨g_8, hf⟩ := hf
    refine z_bald (q := 17) (n := n_6) g_7 g_8 dX2_isSign_16 rfl ?_
    refine z_iload_n (q := 18) (i := 1) (x := x1) dX2_isSign_17 rfl rfl rfl ?_
    have hk : z_V l G m_X2_isSign (z_Fm G m_X2_isSign Q) 0 0 h 26 [some (.ref a0), some (.int x1)] [.int (if (h.I b_4 (Int32.toNatClampNeg (h.I a0 4))) = x1 then 1 else 0)] := by
      exact z_zret dX2_isSign_26 rfl (z_nb01 (z_bif z_b1 z_b0)) hf
    refine z_icmp_ne (q := 21) (tgt := 25) dX2_isSign_18 rfl rfl (fun hc => ?_) (fun hc => ?_)
    · have hk := (z_ite hk).2 hc
      refine z_iconst (q := 26) (v := 0) dX2_isSign_25 rfl rfl ?_
      exact hk
    · have hk := (z_ite hk).1 hc
      refine z_iconst (q := 22) (v := 1) dX2_isSign_21 rfl rfl ?_
      refine z_goto (q := 26) dX2_isSign_22 rfl ?_
      exact hk

theorem u_X2_isTold {l : Launch} {G : z_G} {a0 : Nat} {x1 : Int32} {h : z_H} {Q : z_Q} (hst : l.stackTraces = false)  (hf : (x1 = 0 → (h.T a0).1 = 11 ∧ ∃ b_28, (h.P a0 7) = some b_28 ∧ z_L8 h b_28 ∧ Q (some (.int (if (h.I b_28 3) < 0 then 0 else 1))) h) ∧ (¬ x1 = 0 → (x1 = 1 → (h.T a0).1 = 11 ∧ ∃ b_24, (h.P a0 7) = some b_24 ∧ z_L8 h b_24 ∧ Q (some (.int (if (h.I b_24 4) < 0 then 0 else 1))) h) ∧ (¬ x1 = 1 → (x1 = 2 → (h.T a0).1 = 11 ∧ ∃ b_18, (h.P a0 7) = some b_18 ∧ z_L8 h b_18 ∧ ((h.P b_18 6) = none → Q (some (.int 0)) h) ∧ (∀ b_21, (h.P b_18 6) = some b_21 → Q (some (.int 1)) h)) ∧ (¬ x1 = 2 → (x1 = 3 → (h.T a0).1 = 11 ∧ ∃ b_14, (h.P a0 7) = some b_14 ∧ z_L8 h b_14 ∧ Q (some (.int (if (h.I b_14 5) < 0 then 0 else 1))) h) ∧ (¬ x1 = 3 → Q (some (.int 0)) h))))) : z_Ct l G m_X2_isTold [.ref a0, .int x1] h Q := by
  refine z_Ct.of (ls := [some (.ref a0), some (.int x1)]) hst rfl (by show plainName yX2_isTold.cls = true; decide +kernel) (z_le rfl) rfl ?_
  show z_V l G m_X2_isTold (z_Fm G m_X2_isTold Q) 0 0 h 0 [some (.ref a0), some (.int x1)] []
  refine z_iload_n (q := 1) (i := 1) (x := x1) dX2_isTold_0 rfl rfl rfl ?_
  refine z_if_ne (q := 4) (tgt := 22) dX2_isTold_1 rfl rfl (fun hc => ?_) (fun hc => ?_)
  · have hf := hf.2 hc
    refine z_iload_n (q := 23) (i := 1) (x := x1) dX2_isTold_22 rfl rfl rfl ?_
    refine z_iconst (q := 24) (v := 1) dX2_isTold_23 rfl rfl ?_
    refine z_icmp_ne (q := 27) (tgt := 45) dX2_isTold_24 rfl rfl (fun hc => ?_) (fun hc => ?_)
    · have hf := hf.2 hc
      refine z_iload_n (q := 46) (i := 1) (x := x1) dX2_isTold_45 rfl rfl rfl ?_
      refine z_iconst (q := 47) (v := 2) dX2_isTold_46 rfl rfl ?_
      refine z_icmp_ne (q := 50) (tgt := 68) dX2_isTold_47 rfl rfl (fun hc => ?_) (fun hc => ?_)
      · have hf := hf.2 hc
        refine z_iload_n (q := 69) (i := 1) (x := x1) dX2_isTold_68 rfl rfl rfl ?_
        refine z_iconst (q := 70) (v := 3) dX2_isTold_69 rfl rfl ?_
        refine z_icmp_ne (q := 73) (tgt := 87) dX2_isTold_70 rfl rfl (fun hc => ?_) (fun hc => ?_)
        · have hf := hf.2 hc
          refine z_iconst (q := 88) (v := 0) dX2_isTold_87 rfl rfl ?_
          exact z_zret dX2_isTold_88 rfl (z_nb01 z_b0) hf
        · have hf := hf.1 hc
          refine z_aload_n (q := 74) (i := 0) (x := a0) dX2_isTold_73 rfl rfl rfl ?_
          obtain ⟨g_13, hf⟩ := hf
          obtain ⟨b_14, g_15, hf⟩ := hf
          refine z_get 1 7 (q := 77) (v := .ref b_14) rfl (z_lt rfl) g_13 q185 dX2_isTold_74 rfl (z_fvR (fun _ _ _ => rfl) g_15) ?_
          obtain ⟨g_16, hf⟩ := hf
          refine z_getN 8 5 (q := 80) (v := .int (h.I b_14 5)) rfl (z_lt rfl) (z_L8_T g_16) (z_nwm q344 rfl) dX2_isTold_77 rfl rfl ?_
          have hk : z_V l G m_X2_isTold (z_Fm G m_X2_isTold Q) 0 0 h 88 [some (.ref a0), some (.int x1)] [.int (if (h.I b_14 5) < 0 then 0 else 1)] := by
            exact z_zret dX2_isTold_88 rfl (z_nb01 (z_bif z_b0 z_b1)) hf
          refine z_if_lt (q := 83) (tgt := 87) dX2_isTold_80 rfl rfl (fun hc => ?_) (fun hc => ?_)
          · have hk := (z_ite hk).1 hc
            refine z_iconst (q := 88) (v := 0) dX2_isTold_87 rfl rfl ?_
            exact hk
          · have hk := (z_ite hk).2 hc
            refine z_iconst (q := 84) (v := 1) dX2_isTold_83 rfl rfl ?_
            refine z_goto (q := 88) dX2_isTold_84 rfl ?_
            exact hk
      · have hf := hf.1 hc
        refine z_aload_n (q := 51) (i := 0) (x := a0) dX2_isTold_50 rfl rfl rfl ?_
        obtain ⟨g_17, hf⟩ := hf
        obtain ⟨b_18, g_19, hf⟩ := hf
        refine z_get 1 7 (q := 54) (v := .ref b_18) rfl (z_lt rfl) g_17 q185 dX2_isTold_51 rfl (z_fvR (fun _ _ _ => rfl) g_19) ?_
        obtain ⟨g_20, hf⟩ := hf
        refine z_getN 8 6 (q := 57) (v := va_rf (h.P b_18 6)) rfl (z_lt rfl) (z_L8_T g_20) (z_nwm q345 rfl) dX2_isTold_54 rfl rfl ?_
        rcases z_nn (h.P b_18 6) with hn | ⟨b_21, g_22⟩
        · have hf := hf.1 hn
          refine z_topq hn ?_
          refine z_ifnullN (q := 64) dX2_isTold_57 rfl ?_
          refine z_iconst (q := 65) (v := 0) dX2_isTold_64 rfl rfl ?_
          refine z_goto (q := 88) dX2_isTold_65 rfl ?_
          exact z_zret dX2_isTold_88 rfl (z_nb01 z_b0) hf
        · have hf := hf.2 b_21 g_22
          refine z_topq g_22 ?_
          refine z_ifnull (q := 60) dX2_isTold_57 rfl ?_
          refine z_iconst (q := 61) (v := 1) dX2_isTold_60 rfl rfl ?_
          refine z_goto (q := 88) dX2_isTold_61 rfl ?_
          exact z_zret dX2_isTold_88 rfl (z_nb01 z_b1) hf
    · have hf := hf.1 hc
      refine z_aload_n (q := 28) (i := 0) (x := a0) dX2_isTold_27 rfl rfl rfl ?_
      obtain ⟨g_23, hf⟩ := hf
      obtain ⟨b_24, g_25, hf⟩ := hf
      refine z_get 1 7 (q := 31) (v := .ref b_24) rfl (z_lt rfl) g_23 q185 dX2_isTold_28 rfl (z_fvR (fun _ _ _ => rfl) g_25) ?_
      obtain ⟨g_26, hf⟩ := hf
      refine z_getN 8 4 (q := 34) (v := .int (h.I b_24 4)) rfl (z_lt rfl) (z_L8_T g_26) (z_nwm q342 rfl) dX2_isTold_31 rfl rfl ?_
      have hk : z_V l G m_X2_isTold (z_Fm G m_X2_isTold Q) 0 0 h 88 [some (.ref a0), some (.int x1)] [.int (if (h.I b_24 4) < 0 then 0 else 1)] := by
        exact z_zret dX2_isTold_88 rfl (z_nb01 (z_bif z_b0 z_b1)) hf
      refine z_if_lt (q := 37) (tgt := 41) dX2_isTold_34 rfl rfl (fun hc => ?_) (fun hc => ?_)
      · have hk := (z_ite hk).1 hc
        refine z_iconst (q := 42) (v := 0) dX2_isTold_41 rfl rfl ?_
        refine z_goto (q := 88) dX2_isTold_42 rfl ?_
        exact hk
      · have hk := (z_ite hk).2 hc
        refine z_iconst (q := 38) (v := 1) dX2_isTold_37 rfl rfl ?_
        refine z_goto (q := 88) dX2_isTold_38 rfl ?_
        exact hk
  · have hf := hf.1 hc
    refine z_aload_n (q := 5) (i := 0) (x := a0) dX2_isTold_4 rfl rfl rfl ?_
    obtain ⟨g_27, hf⟩ := hf
    obtain ⟨b_28, g_29, hf⟩ := hf
    refine z_get 1 7 (q := 8) (v := .ref b_28) rfl (z_lt rfl) g_27 q185 dX2_isTold_5 rfl (z_fvR (fun _ _ _ => rfl) g_29) ?_
    obtain ⟨g_30, hf⟩ := hf
    refine z_getN 8 3 (q := 11) (v := .int (h.I b_28 3)) rfl (z_lt rfl) (z_L8_T g_30) (z_nwm q340 rfl) dX2_isTold_8 rfl rfl ?_
    have hk : z_V l G m_X2_isTold (z_Fm G m_X2_isTold Q) 0 0 h 88 [some (.ref a0), some (.int x1)] [.int (if (h.I b_28 3) < 0 then 0 else 1)] := by
      exact z_zret dX2_isTold_88 rfl (z_nb01 (z_bif z_b0 z_b1)) hf
    refine z_if_lt (q := 14) (tgt := 18) dX2_isTold_11 rfl rfl (fun hc => ?_) (fun hc => ?_)
    · have hk := (z_ite hk).1 hc
      refine z_iconst (q := 19) (v := 0) dX2_isTold_18 rfl rfl ?_
      refine z_goto (q := 88) dX2_isTold_19 rfl ?_
      exact hk
    · have hk := (z_ite hk).2 hc
      refine z_iconst (q := 15) (v := 1) dX2_isTold_14 rfl rfl ?_
      refine z_goto (q := 88) dX2_isTold_15 rfl ?_
      exact hk

theorem u_X2_kind {l : Launch} {G : z_G} {a0 : Nat} {h : z_H} {Q : z_Q} {X : z_QX} (hst : l.stackTraces = false)  (hf : (h.T a0).1 = 11 ∧ z_Cz l G m_X2_name [.ref a0] h (z_Qr (fun b_2 h_3 => (h_3.T a0).1 = 11 ∧ ∃ b_5, (h_3.P a0 7) = some b_5 ∧ z_L8 h_3 b_5 ∧ z_Ct l G m_X10_kind [.ref b_5, .ref b_2] h_3 (z_Qi (fun x_8 h_9 => (x_8 < 0 → (h_9.T a0).1 = 11 ∧ z_Ct l G m_X2_next [.ref a0] h_9 (z_Qv (fun h_11 => (h_11.T a0).1 = 11 ∧ z_Cz l G m_X2_number_2 [.ref a0, .ref (G.sk 8), .int 0, .int 6] h_11 (z_Qi (fun x_13 h_14 => (h_14.T a0).1 = 11 ∧ ∃ b_16, (h_14.P a0 7) = some b_16 ∧ z_L8 h_14 b_16 ∧ ∃ b_19, (h_14.P a0 7) = some b_19 ∧ z_L8 h_14 b_19 ∧ z_Ct l G m_J2_size [.ref (b_19 + 1)] h_14 (z_Qi (fun x_22 h_23 => ∃ n_24, h_23.T (b_16 + 3) = (1, n_24) ∧ vp_in x_22 n_24 ∧ (h_23.T a0).1 = 11 ∧ ∃ b_28, (h_23.P a0 7) = some b_28 ∧ z_L8 h_23 b_28 ∧ z_Ct l G m_J2_add [.ref (b_28 + 1), .ref b_2] (h_23.sI (b_16 + 3) (Int32.toNatClampNeg x_22) x_13) (z_Qi (fun x_31 h_32 => Q none h_32)))))) X))) ∧ (¬ x_8 < 0 → (h_9.T a0).1 = 11 ∧ z_Ct l G m_X2_wrong [.ref a0, .int 3] h_9 (z_Qr (fun b_34 h_35 => (h_35.T b_34).1 = 22 ∧ X "BeggarHeaps$Wrong" b_34 h_35))))))) X) : z_Cz l G m_X2_kind [.ref a0] h Q X := by
  refine z_Cz.of (ls := [some (.ref a0), none, none]) hst rfl (by show plainName yX2_kind.cls = true; decide +kernel) (z_le rfl) rfl ?_
  show z_V l G m_X2_kind (z_Fx G m_X2_kind Q X) 10 123 h 0 [some (.ref a0), none, none] []
  refine z_aload_n (q := 1) (i := 0) (x := a0) dX2_kind_0 rfl rfl rfl ?_
  obtain ⟨g_1, hf⟩ := hf
  refine z_cXr m_X2_name [] (a0) (q := 4) (rc2 := 5) (rs2 := 92) (st := []) dX2_kind_1 rfl q902 oV_X2_name rfl rfl ⟨z_le rfl, z_le rfl⟩ (z_le rfl) (z_rcv_of 1 rfl g_1 rfl) rfl  rfl hf (fun C0 x h1 hX => z_out rfl hX) (fun b_2 h_3 hf => ?_)
  refine z_astore_n (q := 5) (i := 1) (ls2 := [some (.ref a0), some (.ref b_2), none]) (x := b_2) dX2_kind_4 rfl (z_lt rfl) rfl rfl ?_
  refine z_aload_n (q := 6) (i := 0) (x := a0) dX2_kind_5 rfl rfl rfl ?_
  obtain ⟨g_4, hf⟩ := hf
  obtain ⟨b_5, g_6, hf⟩ := hf
  refine z_get 1 7 (q := 9) (v := .ref b_5) rfl (z_lt rfl) g_4 q185 dX2_kind_6 rfl (z_fvR (fun _ _ _ => rfl) g_6) ?_
  refine z_aload_n (q := 10) (i := 1) (x := b_2) dX2_kind_9 rfl rfl rfl ?_
  obtain ⟨g_7, hf⟩ := hf
  refine z_cVi m_X10_kind [.ref b_2] (b_5) (q := 13) (rc2 := 5) (rs2 := 92) (st := []) dX2_kind_10 rfl q1065 oV_X10_kind rfl rfl ⟨z_le rfl, z_le rfl⟩ (z_le rfl) (z_rcv_of 8 rfl (z_L8_T g_7) rfl) rfl  rfl hf (fun x_8 h_9 hf => ?_)
  refine z_if_lt (q := 16) (tgt := 22) dX2_kind_13 rfl rfl (fun hc => ?_) (fun hc => ?_)
  · have hf := hf.1 hc
    refine z_aload_n (q := 23) (i := 0) (x := a0) dX2_kind_22 rfl rfl rfl ?_
    obtain ⟨g_10, hf⟩ := hf
    refine z_cVv m_X2_next [] (a0) (q := 26) (rc2 := 5) (rs2 := 92) (st := []) dX2_kind_23 rfl q593 oV_X2_next rfl rfl ⟨z_le rfl, z_le rfl⟩ (z_le rfl) (z_rcv_of 1 rfl g_10 rfl) rfl  rfl hf (fun h_11 hf => ?_)
    refine z_aload_n (q := 27) (i := 0) (x := a0) dX2_kind_26 rfl rfl rfl ?_
    refine z_ldcS (q := 29) (j := 8) dX2_kind_27 rfl rfl rfl ?_
    refine z_iconst (q := 30) (v := 0) dX2_kind_29 rfl rfl ?_
    refine z_bipush (q := 32) (v := 6) dX2_kind_30 (by decide) rfl ?_
    obtain ⟨g_12, hf⟩ := hf
    refine z_cXi m_X2_number_2 [.ref (G.sk 8), .int 0, .int 6] (a0) (q := 35) (rc2 := 2) (rs2 := 71) (st := []) dX2_kind_32 rfl q1092 oV_X2_number_2 rfl rfl ⟨z_le rfl, z_le rfl⟩ (z_le rfl) (z_rcv_of 1 rfl g_12 rfl) rfl  rfl hf (fun C0 x h1 hX => z_out rfl hX) (fun x_13 h_14 hf => ?_)
    refine z_istore_n (q := 36) (i := 2) (ls2 := [some (.ref a0), some (.ref b_2), some (.int x_13)]) (x := x_13) dX2_kind_35 rfl (z_lt rfl) rfl rfl ?_
    refine z_aload_n (q := 37) (i := 0) (x := a0) dX2_kind_36 rfl rfl rfl ?_
    obtain ⟨g_15, hf⟩ := hf
    obtain ⟨b_16, g_17, hf⟩ := hf
    refine z_get 1 7 (q := 40) (v := .ref b_16) rfl (z_lt rfl) g_15 q185 dX2_kind_37 rfl (z_fvR (fun _ _ _ => rfl) g_17) ?_
    obtain ⟨g_18, hf⟩ := hf
    refine z_getN 8 1 (q := 43) (v := .ref (b_16 + 3)) rfl (z_lt rfl) (z_L8_T g_18) (z_nwm q335 rfl) dX2_kind_40 rfl (z_fvR (fun _ _ _ => rfl) (z_L8_P1 g_18)) ?_
    refine z_aload_n (q := 44) (i := 0) (x := a0) dX2_kind_43 rfl rfl rfl ?_
    obtain ⟨b_19, g_20, hf⟩ := hf
    refine z_get 1 7 (q := 47) (v := .ref b_19) rfl (z_lt rfl) g_15 q185 dX2_kind_44 rfl (z_fvR (fun _ _ _ => rfl) g_20) ?_
    obtain ⟨g_21, hf⟩ := hf
    refine z_getN 8 0 (q := 50) (v := .ref (b_19 + 1)) rfl (z_lt rfl) (z_L8_T g_21) (z_nwm q332 rfl) dX2_kind_47 rfl (z_fvR (fun _ _ _ => rfl) (z_L8_P0 g_21)) ?_
    refine z_cVi m_J2_size [] ((b_19 + 1)) (q := 53) (rc2 := 2) (rs2 := 71) (st := [.ref (b_16 + 3)]) dX2_kind_50 rfl q804 oV_J2_size rfl rfl ⟨z_le rfl, z_le rfl⟩ (z_le rfl) (z_rcv_of 21 rfl (z_L8_N0 g_21) rfl) rfl  rfl hf (fun x_22 h_23 hf => ?_)
    refine z_iload_n (q := 54) (i := 2) (x := x_13) dX2_kind_53 rfl rfl rfl ?_
    obtain ⟨n_24, g_25, hf⟩ := hf
    obtain ⟨g_26, hf⟩ := hf
    refine z_iast (q := 55) (n := n_24) g_25 g_26 dX2_kind_54 rfl ?_
    refine z_aload_n (q := 56) (i := 0) (x := a0) dX2_kind_55 rfl rfl rfl ?_
    obtain ⟨g_27, hf⟩ := hf
    obtain ⟨b_28, g_29, hf⟩ := hf
    refine z_get 1 7 (q := 59) (v := .ref b_28) rfl (z_lt rfl) g_27 q185 dX2_kind_56 rfl (z_fvR (fun _ _ _ => rfl) g_29) ?_
    obtain ⟨g_30, hf⟩ := hf
    refine z_getN 8 0 (q := 62) (v := .ref (b_28 + 1)) rfl (z_lt rfl) (z_L8_T g_30) (z_nwm q332 rfl) dX2_kind_59 rfl (z_fvR (fun _ _ _ => rfl) (z_L8_P0 g_30)) ?_
    refine z_aload_n (q := 63) (i := 1) (x := b_2) dX2_kind_62 rfl rfl rfl ?_
    refine z_cVi m_J2_add [.ref b_2] ((b_28 + 1)) (q := 66) (rc2 := 1) (rs2 := 7) (st := []) dX2_kind_63 rfl q1100 oV_J2_add rfl rfl ⟨z_le rfl, z_le rfl⟩ (z_le rfl) (z_rcv_of 21 rfl (z_L8_N0 g_30) rfl) rfl  rfl hf (fun x_31 h_32 hf => ?_)
    refine z_pop (q := 67) dX2_kind_66 rfl rfl ?_
    refine z_V.x ?_
    exact z_vret dX2_kind_67 rfl hf
  · have hf := hf.2 hc
    refine z_aload_n (q := 17) (i := 0) (x := a0) dX2_kind_16 rfl rfl rfl ?_
    refine z_iconst (q := 18) (v := 3) dX2_kind_17 rfl rfl ?_
    obtain ⟨g_33, hf⟩ := hf
    refine z_cVr m_X2_wrong [.int 3] (a0) (q := 21) (rc2 := 4) (rs2 := 85) (st := []) dX2_kind_18 rfl q727 oV_X2_wrong rfl rfl ⟨z_le rfl, z_le rfl⟩ (z_le rfl) (z_rcv_of 1 rfl g_33 rfl) rfl  rfl hf (fun b_34 h_35 hf => ?_)
    obtain ⟨g_36, hf⟩ := hf
    exact z_athrow (c := 12) rfl g_36 dX2_kind_21 (z_out rfl hf)

theorem u_X2_name {l : Launch} {G : z_G} {a0 : Nat} {h : z_H} {Q : z_Q} {X : z_QX} (hst : l.stackTraces = false)  (hf : (h.T a0).1 = 11 ∧ ((h.I a0 3) = 1 → z_Ct l G m_X2_which [.ref a0, .ref (G.sk 7)] h (z_Qi (fun x_5 h_6 => (x_5 < 0 → z_Ct l G m_J13_init [.ref (h_6.n), .int 8] (h_6.nw (33, 0)) (z_Qv (fun h_7 => (h_7.T a0).1 = 11 ∧ z_V l G m_X2_name (z_Fx G m_X2_name Q X) 3 19 h_7 38 [some (.ref a0), some (.ref (h_6.n)), some (.int (h_7.I a0 4))] []))) ∧ (¬ x_5 < 0 → (h_6.T a0).1 = 11 ∧ z_Ct l G m_X2_wrong [.ref a0, .int 1] h_6 (z_Qr (fun b_10 h_11 => (h_11.T b_10).1 = 22 ∧ X "BeggarHeaps$Wrong" b_10 h_11)))))) ∧ (¬ (h.I a0 3) = 1 → z_Ct l G m_X2_wrong [.ref a0, .int 1] h (z_Qr (fun b_2 h_3 => (h_3.T b_2).1 = 22 ∧ X "BeggarHeaps$Wrong" b_2 h_3)))) : z_Cz l G m_X2_name [.ref a0] h Q X := by
  refine z_Cz.of (ls := [some (.ref a0), none, none]) hst rfl (by show plainName yX2_name.cls = true; decide +kernel) (z_le rfl) rfl ?_
  show z_V l G m_X2_name (z_Fx G m_X2_name Q X) 5 31 h 0 [some (.ref a0), none, none] []
  refine z_aload_n (q := 1) (i := 0) (x := a0) dX2_name_0 rfl rfl rfl ?_
  obtain ⟨g_1, hf⟩ := hf
  refine z_get 1 3 (q := 4) (v := .int (h.I a0 3)) rfl (z_lt rfl) g_1 q181 dX2_name_1 rfl rfl ?_
  refine z_iconst (q := 5) (v := 1) dX2_name_4 rfl rfl ?_
  refine z_icmp_ne (q := 8) (tgt := 17) dX2_name_5 rfl rfl (fun hc => ?_) (fun hc => ?_)
  · have hf := hf.2 hc
    refine z_aload_n (q := 18) (i := 0) (x := a0) dX2_name_17 rfl rfl rfl ?_
    refine z_iconst (q := 19) (v := 1) dX2_name_18 rfl rfl ?_
    refine z_cVr m_X2_wrong [.int 1] (a0) (q := 22) (rc2 := 4) (rs2 := 24) (st := []) dX2_name_19 rfl q727 oV_X2_wrong rfl rfl ⟨z_le rfl, z_le rfl⟩ (z_le rfl) (z_rcv_of 1 rfl g_1 rfl) rfl  rfl hf (fun b_2 h_3 hf => ?_)
    obtain ⟨g_4, hf⟩ := hf
    exact z_athrow (c := 12) rfl g_4 dX2_name_22 (z_out rfl hf)
  · have hf := hf.1 hc
    refine z_aload_n (q := 9) (i := 0) (x := a0) dX2_name_8 rfl rfl rfl ?_
    refine z_ldcS (q := 11) (j := 7) dX2_name_9 rfl rfl rfl ?_
    refine z_cVi m_X2_which [.ref (G.sk 7)] (a0) (q := 14) (rc2 := 5) (rs2 := 31) (st := []) dX2_name_11 rfl q701 oV_X2_which rfl rfl ⟨z_le rfl, z_le rfl⟩ (z_le rfl) (z_rcv_of 1 rfl g_1 rfl) rfl  rfl hf (fun x_5 h_6 hf => ?_)
    refine z_if_lt (q := 17) (tgt := 23) dX2_name_14 rfl rfl (fun hc => ?_) (fun hc => ?_)
    · have hf := hf.1 hc
      refine z_new 23 (q := 26) (rc2 := 4) (rs2 := 27) rfl q907 q908 q154 dX2_name_23 rfl rfl rfl ?_
      refine z_dup (q := 27) dX2_name_26 rfl rfl ?_
      refine z_bipush (q := 29) (v := 8) dX2_name_27 (by decide) rfl ?_
      refine z_cIv m_J13_init [.int 8] ((h_6.n)) (q := 32) (rc2 := 3) (rs2 := 19) (st := [.ref (h_6.n)]) dX2_name_29 rfl q909 oI_J13_init rfl rfl ⟨z_le rfl, z_le rfl⟩ (z_le rfl) rfl  rfl hf (fun h_7 hf => ?_)
      refine z_astore_n (q := 33) (i := 1) (ls2 := [some (.ref a0), some (.ref (h_6.n)), none]) (x := (h_6.n)) dX2_name_32 rfl (z_lt rfl) rfl rfl ?_
      refine z_aload_n (q := 34) (i := 0) (x := a0) dX2_name_33 rfl rfl rfl ?_
      obtain ⟨g_8, hf⟩ := hf
      refine z_get 1 4 (q := 37) (v := .int (h_7.I a0 4)) rfl (z_lt rfl) g_8 q182 dX2_name_34 rfl rfl ?_
      refine z_istore_n (q := 38) (i := 2) (ls2 := [some (.ref a0), some (.ref (h_6.n)), some (.int (h_7.I a0 4))]) (x := (h_7.I a0 4)) dX2_name_37 rfl (z_lt rfl) rfl rfl ?_
      exact hf
    · have hf := hf.2 hc
      refine z_aload_n (q := 18) (i := 0) (x := a0) dX2_name_17 rfl rfl rfl ?_
      refine z_iconst (q := 19) (v := 1) dX2_name_18 rfl rfl ?_
      obtain ⟨g_9, hf⟩ := hf
      refine z_cVr m_X2_wrong [.int 1] (a0) (q := 22) (rc2 := 4) (rs2 := 24) (st := []) dX2_name_19 rfl q727 oV_X2_wrong rfl rfl ⟨z_le rfl, z_le rfl⟩ (z_le rfl) (z_rcv_of 1 rfl g_9 rfl) rfl  rfl hf (fun b_10 h_11 hf => ?_)
      obtain ⟨g_12, hf⟩ := hf
      exact z_athrow (c := 12) rfl g_12 dX2_name_22 (z_out rfl hf)

theorem b_X2_name_38 {l : Launch} {G : z_G} {rc rs : Nat} {a0 : Nat} {a1 : Nat} {x2 : Int32} {h : z_H} {Q : z_Q} {X : z_QX}  (hf : (h.T a0).1 = 11 ∧ ((h.I a0 2) ≤ x2 → ∃ rc_2, rc = rc_2 + 2 ∧ ∃ rs_4, rs = rs_4 + 12 ∧ (h.T a1).1 = 33 ∧ z_Ct l G m_J13_toString [.ref a1] h (z_Qr (fun b_7 h_8 => Q (some (.ref b_7)) h_8))) ∧ (¬ (h.I a0 2) ≤ x2 → ∃ b_9, (h.P a0 0) = some b_9 ∧ ∃ n_11, h.T b_9 = (2, n_11) ∧ vp_in x2 n_11 ∧ (h.T a1).1 = 33 ∧ z_Ct l G m_J13_append [.ref a1, .int (((Int32.toUInt32 (h.I b_9 (Int32.toNatClampNeg x2))) % 65536).toInt32)] h (z_Qr (fun b_15 h_16 => z_V l G m_X2_name (z_Fx G m_X2_name Q X) rc rs h_16 38 [some (.ref a0), some (.ref a1), some (.int (x2 + 1))] [])))) : z_V l G m_X2_name (z_Fx G m_X2_name Q X) rc rs h 38 [some (.ref a0), some (.ref a1), some (.int x2)] [] := by
  refine z_iload_n (q := 39) (i := 2) (x := x2) dX2_name_38 rfl rfl rfl ?_
  refine z_aload_n (q := 40) (i := 0) (x := a0) dX2_name_39 rfl rfl rfl ?_
  obtain ⟨g_1, hf⟩ := hf
  refine z_get 1 2 (q := 43) (v := .int (h.I a0 2)) rfl (z_lt rfl) g_1 q180 dX2_name_40 rfl rfl ?_
  refine z_icmp_ge (q := 46) (tgt := 64) dX2_name_43 rfl rfl (fun hc => ?_) (fun hc => ?_)
  · have hf := hf.1 hc
    refine z_aload_n (q := 65) (i := 1) (x := a1) dX2_name_64 rfl rfl rfl ?_
    obtain ⟨rc_2, g_3, hf⟩ := hf
    obtain ⟨rs_4, g_5, hf⟩ := hf
    obtain ⟨g_6, hf⟩ := hf
    refine z_cVr m_J13_toString [] (a1) (q := 68) (rc2 := rc_2) (rs2 := rs_4) (st := []) dX2_name_65 rfl q1008 oV_J13_toString rfl rfl ⟨z_le rfl, z_le rfl⟩ (z_le rfl) (z_rcv_of 23 rfl g_6 rfl) g_3  g_5 hf (fun b_7 h_8 hf => ?_)
    refine z_V.x ?_
    exact z_aret (r := some b_7) rfl dX2_name_68 rfl (Or.inl ⟨_, rfl⟩) hf
  · have hf := hf.2 hc
    refine z_aload_n (q := 47) (i := 1) (x := a1) dX2_name_46 rfl rfl rfl ?_
    refine z_aload_n (q := 48) (i := 0) (x := a0) dX2_name_47 rfl rfl rfl ?_
    obtain ⟨b_9, g_10, hf⟩ := hf
    refine z_get 1 0 (q := 51) (v := .ref b_9) rfl (z_lt rfl) g_1 q178 dX2_name_48 rfl (z_fvR (fun _ _ _ => rfl) g_10) ?_
    refine z_iload_n (q := 52) (i := 2) (x := x2) dX2_name_51 rfl rfl rfl ?_
    obtain ⟨n_11, g_12, hf⟩ := hf
    obtain ⟨g_13, hf⟩ := hf
    refine z_bald (q := 53) (n := n_11) g_12 g_13 dX2_name_52 rfl ?_
    refine z_i2c (q := 54) dX2_name_53 rfl ?_
    obtain ⟨g_14, hf⟩ := hf
    refine z_cVr m_J13_append [.int (((Int32.toUInt32 (h.I b_9 (Int32.toNatClampNeg x2))) % 65536).toInt32)] (a1) (q := 57) (rc2 := rc) (rs2 := rs) (st := []) dX2_name_54 rfl q937 oV_J13_append rfl rfl ⟨z_le rfl, z_le rfl⟩ (z_le rfl) (z_rcv_of 23 rfl g_14 rfl) rfl  rfl hf (fun b_15 h_16 hf => ?_)
    refine z_pop (q := 58) dX2_name_57 rfl rfl ?_
    refine z_iinc (q := 61) (i := 2) (x := x2) (v := (x2 + 1)) (ls2 := [some (.ref a0), some (.ref a1), some (.int (x2 + 1))]) dX2_name_58 rfl rfl (z_lt rfl) rfl rfl ?_
    refine z_goto (q := 38) dX2_name_61 rfl ?_
    exact hf

theorem u_X2_need {l : Launch} {G : z_G} {a0 : Nat} {x1 : Int32} {h : z_H} {Q : z_Q} {X : z_QX} (hst : l.stackTraces = false)  (hf : (h.T a0).1 = 11 ∧ z_Ct l G m_X2_isSign [.ref a0, .int x1] h (z_Qi (fun x_2 h_3 => (x_2 = 0 → (h_3.T a0).1 = 11 ∧ z_Ct l G m_X2_wrong [.ref a0, .int 1] h_3 (z_Qr (fun b_7 h_8 => (h_8.T b_7).1 = 22 ∧ X "BeggarHeaps$Wrong" b_7 h_8))) ∧ (¬ x_2 = 0 → (h_3.T a0).1 = 11 ∧ z_Ct l G m_X2_next [.ref a0] h_3 (z_Qv (fun h_5 => Q none h_5)))))) : z_Cz l G m_X2_need [.ref a0, .int x1] h Q X := by
  refine z_Cz.of (ls := [some (.ref a0), some (.int x1)]) hst rfl (by show plainName yX2_need.cls = true; decide +kernel) (z_le rfl) rfl ?_
  show z_V l G m_X2_need (z_Fx G m_X2_need Q X) 1 7 h 0 [some (.ref a0), some (.int x1)] []
  refine z_aload_n (q := 1) (i := 0) (x := a0) dX2_need_0 rfl rfl rfl ?_
  refine z_iload_n (q := 2) (i := 1) (x := x1) dX2_need_1 rfl rfl rfl ?_
  obtain ⟨g_1, hf⟩ := hf
  refine z_cVi m_X2_isSign [.int x1] (a0) (q := 5) (rc2 := 1) (rs2 := 7) (st := []) dX2_need_2 rfl q836 oV_X2_isSign rfl rfl ⟨z_le rfl, z_le rfl⟩ (z_le rfl) (z_rcv_of 1 rfl g_1 rfl) rfl  rfl hf (fun x_2 h_3 hf => ?_)
  refine z_if_ne (q := 8) (tgt := 14) dX2_need_5 rfl rfl (fun hc => ?_) (fun hc => ?_)
  · have hf := hf.2 hc
    refine z_aload_n (q := 15) (i := 0) (x := a0) dX2_need_14 rfl rfl rfl ?_
    obtain ⟨g_4, hf⟩ := hf
    refine z_cVv m_X2_next [] (a0) (q := 18) (rc2 := 1) (rs2 := 7) (st := []) dX2_need_15 rfl q593 oV_X2_next rfl rfl ⟨z_le rfl, z_le rfl⟩ (z_le rfl) (z_rcv_of 1 rfl g_4 rfl) rfl  rfl hf (fun h_5 hf => ?_)
    refine z_V.x ?_
    exact z_vret dX2_need_18 rfl hf
  · have hf := hf.1 hc
    refine z_aload_n (q := 9) (i := 0) (x := a0) dX2_need_8 rfl rfl rfl ?_
    refine z_iconst (q := 10) (v := 1) dX2_need_9 rfl rfl ?_
    obtain ⟨g_6, hf⟩ := hf
    refine z_cVr m_X2_wrong [.int 1] (a0) (q := 13) (rc2 := 0) (rs2 := 0) (st := []) dX2_need_10 rfl q727 oV_X2_wrong rfl rfl ⟨z_le rfl, z_le rfl⟩ (z_le rfl) (z_rcv_of 1 rfl g_6 rfl) rfl  rfl hf (fun b_7 h_8 hf => ?_)
    obtain ⟨g_9, hf⟩ := hf
    exact z_athrow (c := 12) rfl g_9 dX2_need_13 (z_out rfl hf)

theorem u_X2_need_2 {l : Launch} {G : z_G} {a0 : Nat} {a1 : Nat} {h : z_H} {Q : z_Q} {X : z_QX} (hst : l.stackTraces = false)  (hf : (h.T a0).1 = 11 ∧ z_Ct l G m_X2_which [.ref a0, .ref a1] h (z_Qi (fun x_2 h_3 => (0 ≤ x_2 → (h_3.T a0).1 = 11 ∧ z_Ct l G m_X2_next [.ref a0] h_3 (z_Qv (fun h_5 => Q none h_5))) ∧ (¬ 0 ≤ x_2 → (h_3.T a0).1 = 11 ∧ z_Ct l G m_X2_wrong [.ref a0, .int 1] h_3 (z_Qr (fun b_7 h_8 => (h_8.T b_7).1 = 22 ∧ X "BeggarHeaps$Wrong" b_7 h_8)))))) : z_Cz l G m_X2_need_2 [.ref a0, .ref a1] h Q X := by
  refine z_Cz.of (ls := [some (.ref a0), some (.ref a1)]) hst rfl (by show plainName yX2_need_2.cls = true; decide +kernel) (z_le rfl) rfl ?_
  show z_V l G m_X2_need_2 (z_Fx G m_X2_need_2 Q X) 1 7 h 0 [some (.ref a0), some (.ref a1)] []
  refine z_aload_n (q := 1) (i := 0) (x := a0) dX2_need_2_0 rfl rfl rfl ?_
  refine z_aload_n (q := 2) (i := 1) (x := a1) dX2_need_2_1 rfl rfl rfl ?_
  obtain ⟨g_1, hf⟩ := hf
  refine z_cVi m_X2_which [.ref a1] (a0) (q := 5) (rc2 := 1) (rs2 := 7) (st := []) dX2_need_2_2 rfl q701 oV_X2_which rfl rfl ⟨z_le rfl, z_le rfl⟩ (z_le rfl) (z_rcv_of 1 rfl g_1 rfl) rfl  rfl hf (fun x_2 h_3 hf => ?_)
  refine z_if_ge (q := 8) (tgt := 14) dX2_need_2_5 rfl rfl (fun hc => ?_) (fun hc => ?_)
  · have hf := hf.1 hc
    refine z_aload_n (q := 15) (i := 0) (x := a0) dX2_need_2_14 rfl rfl rfl ?_
    obtain ⟨g_4, hf⟩ := hf
    refine z_cVv m_X2_next [] (a0) (q := 18) (rc2 := 1) (rs2 := 7) (st := []) dX2_need_2_15 rfl q593 oV_X2_next rfl rfl ⟨z_le rfl, z_le rfl⟩ (z_le rfl) (z_rcv_of 1 rfl g_4 rfl) rfl  rfl hf (fun h_5 hf => ?_)
    refine z_V.x ?_
    exact z_vret dX2_need_2_18 rfl hf
  · have hf := hf.2 hc
    refine z_aload_n (q := 9) (i := 0) (x := a0) dX2_need_2_8 rfl rfl rfl ?_
    refine z_iconst (q := 10) (v := 1) dX2_need_2_9 rfl rfl ?_
    obtain ⟨g_6, hf⟩ := hf
    refine z_cVr m_X2_wrong [.int 1] (a0) (q := 13) (rc2 := 0) (rs2 := 0) (st := []) dX2_need_2_10 rfl q727 oV_X2_wrong rfl rfl ⟨z_le rfl, z_le rfl⟩ (z_le rfl) (z_rcv_of 1 rfl g_6 rfl) rfl  rfl hf (fun b_7 h_8 hf => ?_)
    obtain ⟨g_9, hf⟩ := hf
    exact z_athrow (c := 12) rfl g_9 dX2_need_2_13 (z_out rfl hf)

theorem u_X2_next {l : Launch} {G : z_G} {a0 : Nat} {h : z_H} {Q : z_Q} (hst : l.stackTraces = false)  (hf : (h.T a0).1 = 11 ∧ ((h.I a0 1) ≤ (h.I a0 2) → z_V l G m_X2_next (z_Fm G m_X2_next Q) 0 0 h 52 [some (.ref a0)] []) ∧ (¬ (h.I a0 1) ≤ (h.I a0 2) → ∃ b_2, (h.P a0 0) = some b_2 ∧ ∃ n_4, h.T b_2 = (2, n_4) ∧ vp_in (h.I a0 2) n_4 ∧ ((h.I b_2 (Int32.toNatClampNeg (h.I a0 2))) = 10 → z_V l G m_X2_next (z_Fm G m_X2_next Q) 0 0 (h.sI a0 2 ((h.I a0 2) + 1)) 0 [some (.ref a0)] []) ∧ (¬ (h.I b_2 (Int32.toNatClampNeg (h.I a0 2))) = 10 → ∃ b_7, (h.P a0 0) = some b_7 ∧ ∃ n_9, h.T b_7 = (2, n_9) ∧ vp_in (h.I a0 2) n_9 ∧ ((h.I b_7 (Int32.toNatClampNeg (h.I a0 2))) = 32 → z_V l G m_X2_next (z_Fm G m_X2_next Q) 0 0 (h.sI a0 2 ((h.I a0 2) + 1)) 0 [some (.ref a0)] []) ∧ (¬ (h.I b_7 (Int32.toNatClampNeg (h.I a0 2))) = 32 → z_V l G m_X2_next (z_Fm G m_X2_next Q) 0 0 h 52 [some (.ref a0)] [])))) : z_Ct l G m_X2_next [.ref a0] h Q := by
  refine z_Ct.of (ls := [some (.ref a0)]) hst rfl (by show plainName yX2_next.cls = true; decide +kernel) (z_le rfl) rfl ?_
  show z_V l G m_X2_next (z_Fm G m_X2_next Q) 0 0 h 0 [some (.ref a0)] []
  refine z_aload_n (q := 1) (i := 0) (x := a0) dX2_next_0 rfl rfl rfl ?_
  obtain ⟨g_1, hf⟩ := hf
  refine z_get 1 2 (q := 4) (v := .int (h.I a0 2)) rfl (z_lt rfl) g_1 q180 dX2_next_1 rfl rfl ?_
  refine z_aload_n (q := 5) (i := 0) (x := a0) dX2_next_4 rfl rfl rfl ?_
  refine z_get 1 1 (q := 8) (v := .int (h.I a0 1)) rfl (z_lt rfl) g_1 q179 dX2_next_5 rfl rfl ?_
  refine z_icmp_ge (q := 11) (tgt := 52) dX2_next_8 rfl rfl (fun hc => ?_) (fun hc => ?_)
  · have hf := hf.1 hc
    exact hf
  · have hf := hf.2 hc
    refine z_aload_n (q := 12) (i := 0) (x := a0) dX2_next_11 rfl rfl rfl ?_
    obtain ⟨b_2, g_3, hf⟩ := hf
    refine z_get 1 0 (q := 15) (v := .ref b_2) rfl (z_lt rfl) g_1 q178 dX2_next_12 rfl (z_fvR (fun _ _ _ => rfl) g_3) ?_
    refine z_aload_n (q := 16) (i := 0) (x := a0) dX2_next_15 rfl rfl rfl ?_
    refine z_get 1 2 (q := 19) (v := .int (h.I a0 2)) rfl (z_lt rfl) g_1 q180 dX2_next_16 rfl rfl ?_
    obtain ⟨n_4, g_5, hf⟩ := hf
    obtain ⟨g_6, hf⟩ := hf
    refine z_bald (q := 20) (n := n_4) g_5 g_6 dX2_next_19 rfl ?_
    refine z_bipush (q := 22) (v := 10) dX2_next_20 (by decide) rfl ?_
    refine z_icmp_eq (q := 25) (tgt := 39) dX2_next_22 rfl rfl (fun hc => ?_) (fun hc => ?_)
    · have hf := hf.1 hc
      refine z_aload_n (q := 40) (i := 0) (x := a0) dX2_next_39 rfl rfl rfl ?_
      refine z_dup (q := 41) dX2_next_40 rfl rfl ?_
      refine z_get 1 2 (q := 44) (v := .int (h.I a0 2)) rfl (z_lt rfl) g_1 q180 dX2_next_41 rfl rfl ?_
      refine z_iconst (q := 45) (v := 1) dX2_next_44 rfl rfl ?_
      refine z_iadd (q := 46) dX2_next_45 rfl ?_
      refine z_putI 1 2 (q := 49) (x := ((h.I a0 2) + 1)) (v := .int ((h.I a0 2) + 1)) rfl (z_lt rfl) g_1 q180 rfl dX2_next_46 rfl rfl rfl rfl (fun _ _ _ => rfl) ?_
      refine z_goto (q := 0) dX2_next_49 rfl ?_
      exact hf
    · have hf := hf.2 hc
      refine z_aload_n (q := 26) (i := 0) (x := a0) dX2_next_25 rfl rfl rfl ?_
      obtain ⟨b_7, g_8, hf⟩ := hf
      refine z_get 1 0 (q := 29) (v := .ref b_7) rfl (z_lt rfl) g_1 q178 dX2_next_26 rfl (z_fvR (fun _ _ _ => rfl) g_8) ?_
      refine z_aload_n (q := 30) (i := 0) (x := a0) dX2_next_29 rfl rfl rfl ?_
      refine z_get 1 2 (q := 33) (v := .int (h.I a0 2)) rfl (z_lt rfl) g_1 q180 dX2_next_30 rfl rfl ?_
      obtain ⟨n_9, g_10, hf⟩ := hf
      obtain ⟨g_11, hf⟩ := hf
      refine z_bald (q := 34) (n := n_9) g_10 g_11 dX2_next_33 rfl ?_
      refine z_bipush (q := 36) (v := 32) dX2_next_34 (by decide) rfl ?_
      refine z_icmp_ne (q := 39) (tgt := 52) dX2_next_36 rfl rfl (fun hc => ?_) (fun hc => ?_)
      · have hf := hf.2 hc
        exact hf
      · have hf := hf.1 hc
        refine z_aload_n (q := 40) (i := 0) (x := a0) dX2_next_39 rfl rfl rfl ?_
        refine z_dup (q := 41) dX2_next_40 rfl rfl ?_
        refine z_get 1 2 (q := 44) (v := .int (h.I a0 2)) rfl (z_lt rfl) g_1 q180 dX2_next_41 rfl rfl ?_
        refine z_iconst (q := 45) (v := 1) dX2_next_44 rfl rfl ?_
        refine z_iadd (q := 46) dX2_next_45 rfl ?_
        refine z_putI 1 2 (q := 49) (x := ((h.I a0 2) + 1)) (v := .int ((h.I a0 2) + 1)) rfl (z_lt rfl) g_1 q180 rfl dX2_next_46 rfl rfl rfl rfl (fun _ _ _ => rfl) ?_
        refine z_goto (q := 0) dX2_next_49 rfl ?_
        exact hf

theorem b_X2_next_52 {l : Launch} {G : z_G} {a0 : Nat} {h : z_H} {Q : z_Q}  (hf : (h.T a0).1 = 11 ∧ ((h.I a0 2) = (h.I a0 1) → Q none ((h.sI a0 4 (h.I a0 2)).sI a0 3 0)) ∧ (¬ (h.I a0 2) = (h.I a0 1) → z_Ct l G m_X2_at [.ref a0, .int (h.I a0 2)] (h.sI a0 4 (h.I a0 2)) (z_Qi (fun x_2 h_3 => z_Ct l G m_X2_isLetter [.int x_2] h_3 (z_Qi (fun x_4 h_5 => (x_4 = 0 → (h_5.T a0).1 = 11 ∧ z_Ct l G m_X2_at [.ref a0, .int (h_5.I a0 2)] h_5 (z_Qi (fun x_8 h_9 => z_Ct l G m_X2_isDigit [.int x_8] h_9 (z_Qi (fun x_10 h_11 => (x_10 = 0 → (h_11.T a0).1 = 11 ∧ z_Ct l G m_X2_at [.ref a0, .int (h_11.I a0 2)] h_11 (z_Qi (fun x_14 h_15 => z_Ct l G m_J3_indexOf [.ref (G.sk 0), .int (((Int32.toUInt32 x_14) % 65536).toInt32)] h_15 (z_Qi (fun x_16 h_17 => (h_17.T a0).1 = 11 ∧ Q none ((h_17.sI a0 3 (if x_16 < 0 then 4 else 3)).sI a0 2 ((h_17.I a0 2) + 1))))))) ∧ (¬ x_10 = 0 → (h_11.T a0).1 = 11 ∧ z_V l G m_X2_next (z_Fm G m_X2_next Q) 0 0 (h_11.sI a0 5 0) 165 [some (.ref a0)] [])))))) ∧ (¬ x_4 = 0 → z_V l G m_X2_next (z_Fm G m_X2_next Q) 0 0 h_5 93 [some (.ref a0)] []))))))) : z_V l G m_X2_next (z_Fm G m_X2_next Q) 0 0 h 52 [some (.ref a0)] [] := by
  refine z_aload_n (q := 53) (i := 0) (x := a0) dX2_next_52 rfl rfl rfl ?_
  refine z_aload_n (q := 54) (i := 0) (x := a0) dX2_next_53 rfl rfl rfl ?_
  obtain ⟨g_1, hf⟩ := hf
  refine z_get 1 2 (q := 57) (v := .int (h.I a0 2)) rfl (z_lt rfl) g_1 q180 dX2_next_54 rfl rfl ?_
  refine z_putI 1 4 (q := 60) (x := (h.I a0 2)) (v := .int (h.I a0 2)) rfl (z_lt rfl) g_1 q182 rfl dX2_next_57 rfl rfl rfl rfl (fun _ _ _ => rfl) ?_
  refine z_aload_n (q := 61) (i := 0) (x := a0) dX2_next_60 rfl rfl rfl ?_
  refine z_get 1 2 (q := 64) (v := .int (h.I a0 2)) rfl (z_lt rfl) g_1 q180 dX2_next_61 rfl (congrArg Value.int (z_rIf (by decide))) ?_
  refine z_aload_n (q := 65) (i := 0) (x := a0) dX2_next_64 rfl rfl rfl ?_
  refine z_get 1 1 (q := 68) (v := .int (h.I a0 1)) rfl (z_lt rfl) g_1 q179 dX2_next_65 rfl (congrArg Value.int (z_rIf (by decide))) ?_
  refine z_icmp_ne (q := 71) (tgt := 79) dX2_next_68 rfl rfl (fun hc => ?_) (fun hc => ?_)
  · have hf := hf.2 hc
    refine z_aload_n (q := 80) (i := 0) (x := a0) dX2_next_79 rfl rfl rfl ?_
    refine z_aload_n (q := 81) (i := 0) (x := a0) dX2_next_80 rfl rfl rfl ?_
    refine z_get 1 2 (q := 84) (v := .int (h.I a0 2)) rfl (z_lt rfl) g_1 q180 dX2_next_81 rfl (congrArg Value.int (z_rIf (by decide))) ?_
    refine z_cVi m_X2_at [.int (h.I a0 2)] (a0) (q := 87) (rc2 := 0) (rs2 := 0) (st := []) dX2_next_84 rfl q597 oV_X2_at rfl rfl ⟨z_le rfl, z_le rfl⟩ (z_le rfl) (z_rcv_of 1 rfl g_1 rfl) rfl  rfl hf (fun x_2 h_3 hf => ?_)
    refine z_cSi m_X2_isLetter [.int x_2] (q := 90) (rc2 := 0) (rs2 := 0) (st := []) dX2_next_87 rfl q601 oS_X2_isLetter rfl rfl ⟨z_le rfl, z_le rfl⟩ (z_le rfl) rfl  rfl hf (fun x_4 h_5 hf => ?_)
    refine z_if_eq (q := 93) (tgt := 146) dX2_next_90 rfl rfl (fun hc => ?_) (fun hc => ?_)
    · have hf := hf.1 hc
      refine z_aload_n (q := 147) (i := 0) (x := a0) dX2_next_146 rfl rfl rfl ?_
      refine z_aload_n (q := 148) (i := 0) (x := a0) dX2_next_147 rfl rfl rfl ?_
      obtain ⟨g_7, hf⟩ := hf
      refine z_get 1 2 (q := 151) (v := .int (h_5.I a0 2)) rfl (z_lt rfl) g_7 q180 dX2_next_148 rfl rfl ?_
      refine z_cVi m_X2_at [.int (h_5.I a0 2)] (a0) (q := 154) (rc2 := 0) (rs2 := 0) (st := []) dX2_next_151 rfl q597 oV_X2_at rfl rfl ⟨z_le rfl, z_le rfl⟩ (z_le rfl) (z_rcv_of 1 rfl g_7 rfl) rfl  rfl hf (fun x_8 h_9 hf => ?_)
      refine z_cSi m_X2_isDigit [.int x_8] (q := 157) (rc2 := 0) (rs2 := 0) (st := []) dX2_next_154 rfl q604 oS_X2_isDigit rfl rfl ⟨z_le rfl, z_le rfl⟩ (z_le rfl) rfl  rfl hf (fun x_10 h_11 hf => ?_)
      refine z_if_eq (q := 160) (tgt := 260) dX2_next_157 rfl rfl (fun hc => ?_) (fun hc => ?_)
      · have hf := hf.1 hc
        refine z_aload_n (q := 261) (i := 0) (x := a0) dX2_next_260 rfl rfl rfl ?_
        refine z_ldcS (q := 263) (j := 0) dX2_next_261 rfl rfl rfl ?_
        refine z_aload_n (q := 264) (i := 0) (x := a0) dX2_next_263 rfl rfl rfl ?_
        refine z_aload_n (q := 265) (i := 0) (x := a0) dX2_next_264 rfl rfl rfl ?_
        obtain ⟨g_13, hf⟩ := hf
        refine z_get 1 2 (q := 268) (v := .int (h_11.I a0 2)) rfl (z_lt rfl) g_13 q180 dX2_next_265 rfl rfl ?_
        refine z_cVi m_X2_at [.int (h_11.I a0 2)] (a0) (q := 271) (rc2 := 0) (rs2 := 0) (st := [.ref (G.sk 0), .ref a0]) dX2_next_268 rfl q597 oV_X2_at rfl rfl ⟨z_le rfl, z_le rfl⟩ (z_le rfl) (z_rcv_of 1 rfl g_13 rfl) rfl  rfl hf (fun x_14 h_15 hf => ?_)
        refine z_i2c (q := 272) dX2_next_271 rfl ?_
        refine z_cVi m_J3_indexOf [.int (((Int32.toUInt32 x_14) % 65536).toInt32)] ((G.sk 0)) (q := 275) (rc2 := 0) (rs2 := 0) (st := [.ref a0]) dX2_next_272 rfl q608 oV_J3_indexOf rfl rfl ⟨z_le rfl, z_le rfl⟩ (z_le rfl) (Or.inr ⟨rfl, 0, (by decide), rfl⟩) rfl  rfl hf (fun x_16 h_17 hf => ?_)
        have hk : z_V l G m_X2_next (z_Fm G m_X2_next Q) 0 0 h_17 283 [some (.ref a0)] [.int (if x_16 < 0 then 4 else 3), .ref a0] := by
          obtain ⟨g_18, hf⟩ := hf
          refine z_putI 1 3 (q := 286) (x := (if x_16 < 0 then 4 else 3)) (v := .int (if x_16 < 0 then 4 else 3)) rfl (z_lt rfl) g_18 q181 rfl dX2_next_283 rfl rfl rfl rfl (fun _ _ _ => rfl) ?_
          refine z_aload_n (q := 287) (i := 0) (x := a0) dX2_next_286 rfl rfl rfl ?_
          refine z_dup (q := 288) dX2_next_287 rfl rfl ?_
          refine z_get 1 2 (q := 291) (v := .int (h_17.I a0 2)) rfl (z_lt rfl) g_18 q180 dX2_next_288 rfl (congrArg Value.int (z_rIf (by decide))) ?_
          refine z_iconst (q := 292) (v := 1) dX2_next_291 rfl rfl ?_
          refine z_iadd (q := 293) dX2_next_292 rfl ?_
          refine z_putI 1 2 (q := 296) (x := ((h_17.I a0 2) + 1)) (v := .int ((h_17.I a0 2) + 1)) rfl (z_lt rfl) g_18 q180 rfl dX2_next_293 rfl rfl rfl rfl (fun _ _ _ => rfl) ?_
          exact z_vret dX2_next_296 rfl hf
        refine z_if_lt (q := 278) (tgt := 282) dX2_next_275 rfl rfl (fun hc => ?_) (fun hc => ?_)
        · have hk := (z_ite hk).1 hc
          refine z_iconst (q := 283) (v := 4) dX2_next_282 rfl rfl ?_
          exact hk
        · have hk := (z_ite hk).2 hc
          refine z_iconst (q := 279) (v := 3) dX2_next_278 rfl rfl ?_
          refine z_goto (q := 283) dX2_next_279 rfl ?_
          exact hk
      · have hf := hf.2 hc
        refine z_aload_n (q := 161) (i := 0) (x := a0) dX2_next_160 rfl rfl rfl ?_
        refine z_iconst (q := 162) (v := 0) dX2_next_161 rfl rfl ?_
        obtain ⟨g_19, hf⟩ := hf
        refine z_putI 1 5 (q := 165) (x := 0) (v := .int 0) rfl (z_lt rfl) g_19 q183 rfl dX2_next_162 rfl rfl rfl rfl (fun _ _ _ => rfl) ?_
        exact hf
    · have hf := hf.2 hc
      exact hf
  · have hf := hf.1 hc
    refine z_aload_n (q := 72) (i := 0) (x := a0) dX2_next_71 rfl rfl rfl ?_
    refine z_iconst (q := 73) (v := 0) dX2_next_72 rfl rfl ?_
    refine z_putI 1 3 (q := 76) (x := 0) (v := .int 0) rfl (z_lt rfl) g_1 q181 rfl dX2_next_73 rfl rfl rfl rfl (fun _ _ _ => rfl) ?_
    refine z_goto (q := 296) dX2_next_76 rfl ?_
    exact z_vret dX2_next_296 rfl hf

theorem b_X2_next_0 {l : Launch} {G : z_G} {a0 : Nat} {h : z_H} {Q : z_Q}  (hf : (h.T a0).1 = 11 ∧ ((h.I a0 1) ≤ (h.I a0 2) → z_V l G m_X2_next (z_Fm G m_X2_next Q) 0 0 h 52 [some (.ref a0)] []) ∧ (¬ (h.I a0 1) ≤ (h.I a0 2) → ∃ b_2, (h.P a0 0) = some b_2 ∧ ∃ n_4, h.T b_2 = (2, n_4) ∧ vp_in (h.I a0 2) n_4 ∧ ((h.I b_2 (Int32.toNatClampNeg (h.I a0 2))) = 10 → z_V l G m_X2_next (z_Fm G m_X2_next Q) 0 0 (h.sI a0 2 ((h.I a0 2) + 1)) 0 [some (.ref a0)] []) ∧ (¬ (h.I b_2 (Int32.toNatClampNeg (h.I a0 2))) = 10 → ∃ b_7, (h.P a0 0) = some b_7 ∧ ∃ n_9, h.T b_7 = (2, n_9) ∧ vp_in (h.I a0 2) n_9 ∧ ((h.I b_7 (Int32.toNatClampNeg (h.I a0 2))) = 32 → z_V l G m_X2_next (z_Fm G m_X2_next Q) 0 0 (h.sI a0 2 ((h.I a0 2) + 1)) 0 [some (.ref a0)] []) ∧ (¬ (h.I b_7 (Int32.toNatClampNeg (h.I a0 2))) = 32 → z_V l G m_X2_next (z_Fm G m_X2_next Q) 0 0 h 52 [some (.ref a0)] [])))) : z_V l G m_X2_next (z_Fm G m_X2_next Q) 0 0 h 0 [some (.ref a0)] [] := by
  refine z_aload_n (q := 1) (i := 0) (x := a0) dX2_next_0 rfl rfl rfl ?_
  obtain ⟨g_1, hf⟩ := hf
  refine z_get 1 2 (q := 4) (v := .int (h.I a0 2)) rfl (z_lt rfl) g_1 q180 dX2_next_1 rfl rfl ?_
  refine z_aload_n (q := 5) (i := 0) (x := a0) dX2_next_4 rfl rfl rfl ?_
  refine z_get 1 1 (q := 8) (v := .int (h.I a0 1)) rfl (z_lt rfl) g_1 q179 dX2_next_5 rfl rfl ?_
  refine z_icmp_ge (q := 11) (tgt := 52) dX2_next_8 rfl rfl (fun hc => ?_) (fun hc => ?_)
  · have hf := hf.1 hc
    exact hf
  · have hf := hf.2 hc
    refine z_aload_n (q := 12) (i := 0) (x := a0) dX2_next_11 rfl rfl rfl ?_
    obtain ⟨b_2, g_3, hf⟩ := hf
    refine z_get 1 0 (q := 15) (v := .ref b_2) rfl (z_lt rfl) g_1 q178 dX2_next_12 rfl (z_fvR (fun _ _ _ => rfl) g_3) ?_
    refine z_aload_n (q := 16) (i := 0) (x := a0) dX2_next_15 rfl rfl rfl ?_
    refine z_get 1 2 (q := 19) (v := .int (h.I a0 2)) rfl (z_lt rfl) g_1 q180 dX2_next_16 rfl rfl ?_
    obtain ⟨n_4, g_5, hf⟩ := hf
    obtain ⟨g_6, hf⟩ := hf
    refine z_bald (q := 20) (n := n_4) g_5 g_6 dX2_next_19 rfl ?_
    refine z_bipush (q := 22) (v := 10) dX2_next_20 (by decide) rfl ?_
    refine z_icmp_eq (q := 25) (tgt := 39) dX2_next_22 rfl rfl (fun hc => ?_) (fun hc => ?_)
    · have hf := hf.1 hc
      refine z_aload_n (q := 40) (i := 0) (x := a0) dX2_next_39 rfl rfl rfl ?_
      refine z_dup (q := 41) dX2_next_40 rfl rfl ?_
      refine z_get 1 2 (q := 44) (v := .int (h.I a0 2)) rfl (z_lt rfl) g_1 q180 dX2_next_41 rfl rfl ?_
      refine z_iconst (q := 45) (v := 1) dX2_next_44 rfl rfl ?_
      refine z_iadd (q := 46) dX2_next_45 rfl ?_
      refine z_putI 1 2 (q := 49) (x := ((h.I a0 2) + 1)) (v := .int ((h.I a0 2) + 1)) rfl (z_lt rfl) g_1 q180 rfl dX2_next_46 rfl rfl rfl rfl (fun _ _ _ => rfl) ?_
      refine z_goto (q := 0) dX2_next_49 rfl ?_
      exact hf
    · have hf := hf.2 hc
      refine z_aload_n (q := 26) (i := 0) (x := a0) dX2_next_25 rfl rfl rfl ?_
      obtain ⟨b_7, g_8, hf⟩ := hf
      refine z_get 1 0 (q := 29) (v := .ref b_7) rfl (z_lt rfl) g_1 q178 dX2_next_26 rfl (z_fvR (fun _ _ _ => rfl) g_8) ?_
      refine z_aload_n (q := 30) (i := 0) (x := a0) dX2_next_29 rfl rfl rfl ?_
      refine z_get 1 2 (q := 33) (v := .int (h.I a0 2)) rfl (z_lt rfl) g_1 q180 dX2_next_30 rfl rfl ?_
      obtain ⟨n_9, g_10, hf⟩ := hf
      obtain ⟨g_11, hf⟩ := hf
      refine z_bald (q := 34) (n := n_9) g_10 g_11 dX2_next_33 rfl ?_
      refine z_bipush (q := 36) (v := 32) dX2_next_34 (by decide) rfl ?_
      refine z_icmp_ne (q := 39) (tgt := 52) dX2_next_36 rfl rfl (fun hc => ?_) (fun hc => ?_)
      · have hf := hf.2 hc
        exact hf
      · have hf := hf.1 hc
        refine z_aload_n (q := 40) (i := 0) (x := a0) dX2_next_39 rfl rfl rfl ?_
        refine z_dup (q := 41) dX2_next_40 rfl rfl ?_
        refine z_get 1 2 (q := 44) (v := .int (h.I a0 2)) rfl (z_lt rfl) g_1 q180 dX2_next_41 rfl rfl ?_
        refine z_iconst (q := 45) (v := 1) dX2_next_44 rfl rfl ?_
        refine z_iadd (q := 46) dX2_next_45 rfl ?_
        refine z_putI 1 2 (q := 49) (x := ((h.I a0 2) + 1)) (v := .int ((h.I a0 2) + 1)) rfl (z_lt rfl) g_1 q180 rfl dX2_next_46 rfl rfl rfl rfl (fun _ _ _ => rfl) ?_
        refine z_goto (q := 0) dX2_next_49 rfl ?_
        exact hf

theorem b_X2_next_165 {l : Launch} {G : z_G} {a0 : Nat} {h : z_H} {Q : z_Q}  (hf : (h.T a0).1 = 11 ∧ z_Ct l G m_X2_at [.ref a0, .int (h.I a0 2)] h (z_Qi (fun x_2 h_3 => z_Ct l G m_X2_isDigit [.int x_2] h_3 (z_Qi (fun x_4 h_5 => (x_4 = 0 → (h_5.T a0).1 = 11 ∧ Q none (h_5.sI a0 3 (if ((h_5.I a0 2) - (h_5.I a0 4)) ≤ 4 then 2 else 4))) ∧ (¬ x_4 = 0 → (h_5.T a0).1 = 11 ∧ (4 ≤ ((h_5.I a0 2) - (h_5.I a0 4)) → z_V l G m_X2_next (z_Fm G m_X2_next Q) 0 0 ((h_5.sI a0 5 (h_5.I a0 5)).sI a0 2 ((h_5.I a0 2) + 1)) 165 [some (.ref a0)] []) ∧ (¬ 4 ≤ ((h_5.I a0 2) - (h_5.I a0 4)) → z_Ct l G m_X2_at [.ref a0, .int (h_5.I a0 2)] h_5 (z_Qi (fun x_8 h_9 => (h_9.T a0).1 = 11 ∧ z_V l G m_X2_next (z_Fm G m_X2_next Q) 0 0 ((h_9.sI a0 5 (((10 * (h_5.I a0 5)) + x_8) - 48)).sI a0 2 ((h_9.I a0 2) + 1)) 165 [some (.ref a0)] []))))))))) : z_V l G m_X2_next (z_Fm G m_X2_next Q) 0 0 h 165 [some (.ref a0)] [] := by
  refine z_aload_n (q := 166) (i := 0) (x := a0) dX2_next_165 rfl rfl rfl ?_
  refine z_aload_n (q := 167) (i := 0) (x := a0) dX2_next_166 rfl rfl rfl ?_
  obtain ⟨g_1, hf⟩ := hf
  refine z_get 1 2 (q := 170) (v := .int (h.I a0 2)) rfl (z_lt rfl) g_1 q180 dX2_next_167 rfl rfl ?_
  refine z_cVi m_X2_at [.int (h.I a0 2)] (a0) (q := 173) (rc2 := 0) (rs2 := 0) (st := []) dX2_next_170 rfl q597 oV_X2_at rfl rfl ⟨z_le rfl, z_le rfl⟩ (z_le rfl) (z_rcv_of 1 rfl g_1 rfl) rfl  rfl hf (fun x_2 h_3 hf => ?_)
  refine z_cSi m_X2_isDigit [.int x_2] (q := 176) (rc2 := 0) (rs2 := 0) (st := []) dX2_next_173 rfl q604 oS_X2_isDigit rfl rfl ⟨z_le rfl, z_le rfl⟩ (z_le rfl) rfl  rfl hf (fun x_4 h_5 hf => ?_)
  refine z_if_eq (q := 179) (tgt := 235) dX2_next_176 rfl rfl (fun hc => ?_) (fun hc => ?_)
  · have hf := hf.1 hc
    refine z_aload_n (q := 236) (i := 0) (x := a0) dX2_next_235 rfl rfl rfl ?_
    refine z_aload_n (q := 237) (i := 0) (x := a0) dX2_next_236 rfl rfl rfl ?_
    obtain ⟨g_6, hf⟩ := hf
    refine z_get 1 2 (q := 240) (v := .int (h_5.I a0 2)) rfl (z_lt rfl) g_6 q180 dX2_next_237 rfl rfl ?_
    refine z_aload_n (q := 241) (i := 0) (x := a0) dX2_next_240 rfl rfl rfl ?_
    refine z_get 1 4 (q := 244) (v := .int (h_5.I a0 4)) rfl (z_lt rfl) g_6 q182 dX2_next_241 rfl rfl ?_
    refine z_isub (q := 245) dX2_next_244 rfl ?_
    refine z_iconst (q := 246) (v := 4) dX2_next_245 rfl rfl ?_
    have hk : z_V l G m_X2_next (z_Fm G m_X2_next Q) 0 0 h_5 254 [some (.ref a0)] [.int (if ((h_5.I a0 2) - (h_5.I a0 4)) ≤ 4 then 2 else 4), .ref a0] := by
      refine z_putI 1 3 (q := 257) (x := (if ((h_5.I a0 2) - (h_5.I a0 4)) ≤ 4 then 2 else 4)) (v := .int (if ((h_5.I a0 2) - (h_5.I a0 4)) ≤ 4 then 2 else 4)) rfl (z_lt rfl) g_6 q181 rfl dX2_next_254 rfl rfl rfl rfl (fun _ _ _ => rfl) ?_
      refine z_goto (q := 296) dX2_next_257 rfl ?_
      exact z_vret dX2_next_296 rfl hf
    refine z_icmp_le (q := 249) (tgt := 253) dX2_next_246 rfl rfl (fun hc => ?_) (fun hc => ?_)
    · have hk := (z_ite hk).1 hc
      refine z_iconst (q := 254) (v := 2) dX2_next_253 rfl rfl ?_
      exact hk
    · have hk := (z_ite hk).2 hc
      refine z_iconst (q := 250) (v := 4) dX2_next_249 rfl rfl ?_
      refine z_goto (q := 254) dX2_next_250 rfl ?_
      exact hk
  · have hf := hf.2 hc
    refine z_aload_n (q := 180) (i := 0) (x := a0) dX2_next_179 rfl rfl rfl ?_
    refine z_aload_n (q := 181) (i := 0) (x := a0) dX2_next_180 rfl rfl rfl ?_
    obtain ⟨g_7, hf⟩ := hf
    refine z_get 1 2 (q := 184) (v := .int (h_5.I a0 2)) rfl (z_lt rfl) g_7 q180 dX2_next_181 rfl rfl ?_
    refine z_aload_n (q := 185) (i := 0) (x := a0) dX2_next_184 rfl rfl rfl ?_
    refine z_get 1 4 (q := 188) (v := .int (h_5.I a0 4)) rfl (z_lt rfl) g_7 q182 dX2_next_185 rfl rfl ?_
    refine z_isub (q := 189) dX2_next_188 rfl ?_
    refine z_iconst (q := 190) (v := 4) dX2_next_189 rfl rfl ?_
    refine z_icmp_ge (q := 193) (tgt := 215) dX2_next_190 rfl rfl (fun hc => ?_) (fun hc => ?_)
    · have hf := hf.1 hc
      refine z_aload_n (q := 216) (i := 0) (x := a0) dX2_next_215 rfl rfl rfl ?_
      refine z_get 1 5 (q := 219) (v := .int (h_5.I a0 5)) rfl (z_lt rfl) g_7 q183 dX2_next_216 rfl rfl ?_
      refine z_putI 1 5 (q := 222) (x := (h_5.I a0 5)) (v := .int (h_5.I a0 5)) rfl (z_lt rfl) g_7 q183 rfl dX2_next_219 rfl rfl rfl rfl (fun _ _ _ => rfl) ?_
      refine z_aload_n (q := 223) (i := 0) (x := a0) dX2_next_222 rfl rfl rfl ?_
      refine z_dup (q := 224) dX2_next_223 rfl rfl ?_
      refine z_get 1 2 (q := 227) (v := .int (h_5.I a0 2)) rfl (z_lt rfl) g_7 q180 dX2_next_224 rfl (congrArg Value.int (z_rIf (by decide))) ?_
      refine z_iconst (q := 228) (v := 1) dX2_next_227 rfl rfl ?_
      refine z_iadd (q := 229) dX2_next_228 rfl ?_
      refine z_putI 1 2 (q := 232) (x := ((h_5.I a0 2) + 1)) (v := .int ((h_5.I a0 2) + 1)) rfl (z_lt rfl) g_7 q180 rfl dX2_next_229 rfl rfl rfl rfl (fun _ _ _ => rfl) ?_
      refine z_goto (q := 165) dX2_next_232 rfl ?_
      exact hf
    · have hf := hf.2 hc
      refine z_bipush (q := 195) (v := 10) dX2_next_193 (by decide) rfl ?_
      refine z_aload_n (q := 196) (i := 0) (x := a0) dX2_next_195 rfl rfl rfl ?_
      refine z_get 1 5 (q := 199) (v := .int (h_5.I a0 5)) rfl (z_lt rfl) g_7 q183 dX2_next_196 rfl rfl ?_
      refine z_imul (q := 200) dX2_next_199 rfl ?_
      refine z_aload_n (q := 201) (i := 0) (x := a0) dX2_next_200 rfl rfl rfl ?_
      refine z_aload_n (q := 202) (i := 0) (x := a0) dX2_next_201 rfl rfl rfl ?_
      refine z_get 1 2 (q := 205) (v := .int (h_5.I a0 2)) rfl (z_lt rfl) g_7 q180 dX2_next_202 rfl rfl ?_
      refine z_cVi m_X2_at [.int (h_5.I a0 2)] (a0) (q := 208) (rc2 := 0) (rs2 := 0) (st := [.int (10 * (h_5.I a0 5)), .ref a0]) dX2_next_205 rfl q597 oV_X2_at rfl rfl ⟨z_le rfl, z_le rfl⟩ (z_le rfl) (z_rcv_of 1 rfl g_7 rfl) rfl  rfl hf (fun x_8 h_9 hf => ?_)
      refine z_iadd (q := 209) dX2_next_208 rfl ?_
      refine z_bipush (q := 211) (v := 48) dX2_next_209 (by decide) rfl ?_
      refine z_isub (q := 212) dX2_next_211 rfl ?_
      refine z_goto (q := 219) dX2_next_212 rfl ?_
      obtain ⟨g_10, hf⟩ := hf
      refine z_putI 1 5 (q := 222) (x := (((10 * (h_5.I a0 5)) + x_8) - 48)) (v := .int (((10 * (h_5.I a0 5)) + x_8) - 48)) rfl (z_lt rfl) g_10 q183 rfl dX2_next_219 rfl rfl rfl rfl (fun _ _ _ => rfl) ?_
      refine z_aload_n (q := 223) (i := 0) (x := a0) dX2_next_222 rfl rfl rfl ?_
      refine z_dup (q := 224) dX2_next_223 rfl rfl ?_
      refine z_get 1 2 (q := 227) (v := .int (h_9.I a0 2)) rfl (z_lt rfl) g_10 q180 dX2_next_224 rfl (congrArg Value.int (z_rIf (by decide))) ?_
      refine z_iconst (q := 228) (v := 1) dX2_next_227 rfl rfl ?_
      refine z_iadd (q := 229) dX2_next_228 rfl ?_
      refine z_putI 1 2 (q := 232) (x := ((h_9.I a0 2) + 1)) (v := .int ((h_9.I a0 2) + 1)) rfl (z_lt rfl) g_10 q180 rfl dX2_next_229 rfl rfl rfl rfl (fun _ _ _ => rfl) ?_
      refine z_goto (q := 165) dX2_next_232 rfl ?_
      exact hf

theorem b_X2_next_93 {l : Launch} {G : z_G} {a0 : Nat} {h : z_H} {Q : z_Q}  (hf : (h.T a0).1 = 11 ∧ z_Ct l G m_X2_at [.ref a0, .int (h.I a0 2)] h (z_Qi (fun x_2 h_3 => z_Ct l G m_X2_isLetter [.int x_2] h_3 (z_Qi (fun x_4 h_5 => (x_4 = 0 → (h_5.T a0).1 = 11 ∧ Q none (h_5.sI a0 3 (if ((h_5.I a0 2) - (h_5.I a0 4)) ≤ 8 then 1 else 4))) ∧ (¬ x_4 = 0 → (h_5.T a0).1 = 11 ∧ z_V l G m_X2_next (z_Fm G m_X2_next Q) 0 0 (h_5.sI a0 2 ((h_5.I a0 2) + 1)) 93 [some (.ref a0)] [])))))) : z_V l G m_X2_next (z_Fm G m_X2_next Q) 0 0 h 93 [some (.ref a0)] [] := by
  refine z_aload_n (q := 94) (i := 0) (x := a0) dX2_next_93 rfl rfl rfl ?_
  refine z_aload_n (q := 95) (i := 0) (x := a0) dX2_next_94 rfl rfl rfl ?_
  obtain ⟨g_1, hf⟩ := hf
  refine z_get 1 2 (q := 98) (v := .int (h.I a0 2)) rfl (z_lt rfl) g_1 q180 dX2_next_95 rfl rfl ?_
  refine z_cVi m_X2_at [.int (h.I a0 2)] (a0) (q := 101) (rc2 := 0) (rs2 := 0) (st := []) dX2_next_98 rfl q597 oV_X2_at rfl rfl ⟨z_le rfl, z_le rfl⟩ (z_le rfl) (z_rcv_of 1 rfl g_1 rfl) rfl  rfl hf (fun x_2 h_3 hf => ?_)
  refine z_cSi m_X2_isLetter [.int x_2] (q := 104) (rc2 := 0) (rs2 := 0) (st := []) dX2_next_101 rfl q601 oS_X2_isLetter rfl rfl ⟨z_le rfl, z_le rfl⟩ (z_le rfl) rfl  rfl hf (fun x_4 h_5 hf => ?_)
  refine z_if_eq (q := 107) (tgt := 120) dX2_next_104 rfl rfl (fun hc => ?_) (fun hc => ?_)
  · have hf := hf.1 hc
    refine z_aload_n (q := 121) (i := 0) (x := a0) dX2_next_120 rfl rfl rfl ?_
    refine z_aload_n (q := 122) (i := 0) (x := a0) dX2_next_121 rfl rfl rfl ?_
    obtain ⟨g_6, hf⟩ := hf
    refine z_get 1 2 (q := 125) (v := .int (h_5.I a0 2)) rfl (z_lt rfl) g_6 q180 dX2_next_122 rfl rfl ?_
    refine z_aload_n (q := 126) (i := 0) (x := a0) dX2_next_125 rfl rfl rfl ?_
    refine z_get 1 4 (q := 129) (v := .int (h_5.I a0 4)) rfl (z_lt rfl) g_6 q182 dX2_next_126 rfl rfl ?_
    refine z_isub (q := 130) dX2_next_129 rfl ?_
    refine z_bipush (q := 132) (v := 8) dX2_next_130 (by decide) rfl ?_
    have hk : z_V l G m_X2_next (z_Fm G m_X2_next Q) 0 0 h_5 140 [some (.ref a0)] [.int (if ((h_5.I a0 2) - (h_5.I a0 4)) ≤ 8 then 1 else 4), .ref a0] := by
      refine z_putI 1 3 (q := 143) (x := (if ((h_5.I a0 2) - (h_5.I a0 4)) ≤ 8 then 1 else 4)) (v := .int (if ((h_5.I a0 2) - (h_5.I a0 4)) ≤ 8 then 1 else 4)) rfl (z_lt rfl) g_6 q181 rfl dX2_next_140 rfl rfl rfl rfl (fun _ _ _ => rfl) ?_
      refine z_goto (q := 296) dX2_next_143 rfl ?_
      exact z_vret dX2_next_296 rfl hf
    refine z_icmp_le (q := 135) (tgt := 139) dX2_next_132 rfl rfl (fun hc => ?_) (fun hc => ?_)
    · have hk := (z_ite hk).1 hc
      refine z_iconst (q := 140) (v := 1) dX2_next_139 rfl rfl ?_
      exact hk
    · have hk := (z_ite hk).2 hc
      refine z_iconst (q := 136) (v := 4) dX2_next_135 rfl rfl ?_
      refine z_goto (q := 140) dX2_next_136 rfl ?_
      exact hk
  · have hf := hf.2 hc
    refine z_aload_n (q := 108) (i := 0) (x := a0) dX2_next_107 rfl rfl rfl ?_
    refine z_dup (q := 109) dX2_next_108 rfl rfl ?_
    obtain ⟨g_7, hf⟩ := hf
    refine z_get 1 2 (q := 112) (v := .int (h_5.I a0 2)) rfl (z_lt rfl) g_7 q180 dX2_next_109 rfl rfl ?_
    refine z_iconst (q := 113) (v := 1) dX2_next_112 rfl rfl ?_
    refine z_iadd (q := 114) dX2_next_113 rfl ?_
    refine z_putI 1 2 (q := 117) (x := ((h_5.I a0 2) + 1)) (v := .int ((h_5.I a0 2) + 1)) rfl (z_lt rfl) g_7 q180 rfl dX2_next_114 rfl rfl rfl rfl (fun _ _ _ => rfl) ?_
    refine z_goto (q := 93) dX2_next_117 rfl ?_
    exact hf

theorem u_X2_number {l : Launch} {G : z_G} {a0 : Nat} {x1 : Int32} {x2 : Int32} {h : z_H} {Q : z_Q} {X : z_QX} (hst : l.stackTraces = false)  (hf : (h.T a0).1 = 11 ∧ ((h.I a0 3) = 2 → ((h.I a0 5) < x1 → z_Ct l G m_X2_wrong [.ref a0, .int 4] h (z_Qr (fun b_2 h_3 => (h_3.T b_2).1 = 22 ∧ X "BeggarHeaps$Wrong" b_2 h_3))) ∧ (¬ (h.I a0 5) < x1 → ((h.I a0 5) ≤ x2 → z_Ct l G m_X2_next [.ref a0] h (z_Qv (fun h_5 => Q (some (.int (h.I a0 5))) h_5))) ∧ (¬ (h.I a0 5) ≤ x2 → z_Ct l G m_X2_wrong [.ref a0, .int 4] h (z_Qr (fun b_6 h_7 => (h_7.T b_6).1 = 22 ∧ X "BeggarHeaps$Wrong" b_6 h_7))))) ∧ (¬ (h.I a0 3) = 2 → z_Ct l G m_X2_wrong [.ref a0, .int 1] h (z_Qr (fun b_9 h_10 => (h_10.T b_9).1 = 22 ∧ X "BeggarHeaps$Wrong" b_9 h_10)))) : z_Cz l G m_X2_number [.ref a0, .int x1, .int x2] h Q X := by
  refine z_Cz.of (ls := [some (.ref a0), some (.int x1), some (.int x2), none]) hst rfl (by show plainName yX2_number.cls = true; decide +kernel) (z_le rfl) rfl ?_
  show z_V l G m_X2_number (z_Fx G m_X2_number Q X) 2 14 h 0 [some (.ref a0), some (.int x1), some (.int x2), none] []
  refine z_aload_n (q := 1) (i := 0) (x := a0) dX2_number_0 rfl rfl rfl ?_
  obtain ⟨g_1, hf⟩ := hf
  refine z_get 1 3 (q := 4) (v := .int (h.I a0 3)) rfl (z_lt rfl) g_1 q181 dX2_number_1 rfl rfl ?_
  refine z_iconst (q := 5) (v := 2) dX2_number_4 rfl rfl ?_
  refine z_icmp_eq (q := 8) (tgt := 14) dX2_number_5 rfl rfl (fun hc => ?_) (fun hc => ?_)
  · have hf := hf.1 hc
    refine z_aload_n (q := 15) (i := 0) (x := a0) dX2_number_14 rfl rfl rfl ?_
    refine z_get 1 5 (q := 18) (v := .int (h.I a0 5)) rfl (z_lt rfl) g_1 q183 dX2_number_15 rfl rfl ?_
    refine z_iload_n (q := 19) (i := 1) (x := x1) dX2_number_18 rfl rfl rfl ?_
    refine z_icmp_lt (q := 22) (tgt := 30) dX2_number_19 rfl rfl (fun hc => ?_) (fun hc => ?_)
    · have hf := hf.1 hc
      refine z_aload_n (q := 31) (i := 0) (x := a0) dX2_number_30 rfl rfl rfl ?_
      refine z_iconst (q := 32) (v := 4) dX2_number_31 rfl rfl ?_
      refine z_cVr m_X2_wrong [.int 4] (a0) (q := 35) (rc2 := 1) (rs2 := 7) (st := []) dX2_number_32 rfl q727 oV_X2_wrong rfl rfl ⟨z_le rfl, z_le rfl⟩ (z_le rfl) (z_rcv_of 1 rfl g_1 rfl) rfl  rfl hf (fun b_2 h_3 hf => ?_)
      obtain ⟨g_4, hf⟩ := hf
      exact z_athrow (c := 12) rfl g_4 dX2_number_35 (z_out rfl hf)
    · have hf := hf.2 hc
      refine z_aload_n (q := 23) (i := 0) (x := a0) dX2_number_22 rfl rfl rfl ?_
      refine z_get 1 5 (q := 26) (v := .int (h.I a0 5)) rfl (z_lt rfl) g_1 q183 dX2_number_23 rfl rfl ?_
      refine z_iload_n (q := 27) (i := 2) (x := x2) dX2_number_26 rfl rfl rfl ?_
      refine z_icmp_le (q := 30) (tgt := 36) dX2_number_27 rfl rfl (fun hc => ?_) (fun hc => ?_)
      · have hf := hf.1 hc
        refine z_aload_n (q := 37) (i := 0) (x := a0) dX2_number_36 rfl rfl rfl ?_
        refine z_get 1 5 (q := 40) (v := .int (h.I a0 5)) rfl (z_lt rfl) g_1 q183 dX2_number_37 rfl rfl ?_
        refine z_istore_n (q := 41) (i := 3) (ls2 := [some (.ref a0), some (.int x1), some (.int x2), some (.int (h.I a0 5))]) (x := (h.I a0 5)) dX2_number_40 rfl (z_lt rfl) rfl rfl ?_
        refine z_aload_n (q := 42) (i := 0) (x := a0) dX2_number_41 rfl rfl rfl ?_
        refine z_cVv m_X2_next [] (a0) (q := 45) (rc2 := 2) (rs2 := 14) (st := []) dX2_number_42 rfl q593 oV_X2_next rfl rfl ⟨z_le rfl, z_le rfl⟩ (z_le rfl) (z_rcv_of 1 rfl g_1 rfl) rfl  rfl hf (fun h_5 hf => ?_)
        refine z_iload_n (q := 46) (i := 3) (x := (h.I a0 5)) dX2_number_45 rfl rfl rfl ?_
        refine z_V.x ?_
        exact z_iret dX2_number_46 rfl hf
      · have hf := hf.2 hc
        refine z_aload_n (q := 31) (i := 0) (x := a0) dX2_number_30 rfl rfl rfl ?_
        refine z_iconst (q := 32) (v := 4) dX2_number_31 rfl rfl ?_
        refine z_cVr m_X2_wrong [.int 4] (a0) (q := 35) (rc2 := 1) (rs2 := 7) (st := []) dX2_number_32 rfl q727 oV_X2_wrong rfl rfl ⟨z_le rfl, z_le rfl⟩ (z_le rfl) (z_rcv_of 1 rfl g_1 rfl) rfl  rfl hf (fun b_6 h_7 hf => ?_)
        obtain ⟨g_8, hf⟩ := hf
        exact z_athrow (c := 12) rfl g_8 dX2_number_35 (z_out rfl hf)
  · have hf := hf.2 hc
    refine z_aload_n (q := 9) (i := 0) (x := a0) dX2_number_8 rfl rfl rfl ?_
    refine z_iconst (q := 10) (v := 1) dX2_number_9 rfl rfl ?_
    refine z_cVr m_X2_wrong [.int 1] (a0) (q := 13) (rc2 := 1) (rs2 := 7) (st := []) dX2_number_10 rfl q727 oV_X2_wrong rfl rfl ⟨z_le rfl, z_le rfl⟩ (z_le rfl) (z_rcv_of 1 rfl g_1 rfl) rfl  rfl hf (fun b_9 h_10 hf => ?_)
    obtain ⟨g_11, hf⟩ := hf
    exact z_athrow (c := 12) rfl g_11 dX2_number_13 (z_out rfl hf)

theorem u_X2_number_2 {l : Launch} {G : z_G} {a0 : Nat} {a1 : Nat} {x2 : Int32} {x3 : Int32} {h : z_H} {Q : z_Q} {X : z_QX} (hst : l.stackTraces = false)  (hf : (h.T a0).1 = 11 ∧ z_Cz l G m_X2_need_2 [.ref a0, .ref a1] h (z_Qv (fun h_2 => (h_2.T a0).1 = 11 ∧ z_Cz l G m_X2_number [.ref a0, .int x2, .int x3] h_2 (z_Qi (fun x_4 h_5 => Q (some (.int x_4)) h_5)) X)) X) : z_Cz l G m_X2_number_2 [.ref a0, .ref a1, .int x2, .int x3] h Q X := by
  refine z_Cz.of (ls := [some (.ref a0), some (.ref a1), some (.int x2), some (.int x3)]) hst rfl (by show plainName yX2_number_2.cls = true; decide +kernel) (z_le rfl) rfl ?_
  show z_V l G m_X2_number_2 (z_Fx G m_X2_number_2 Q X) 3 21 h 0 [some (.ref a0), some (.ref a1), some (.int x2), some (.int x3)] []
  refine z_aload_n (q := 1) (i := 0) (x := a0) dX2_number_2_0 rfl rfl rfl ?_
  refine z_aload_n (q := 2) (i := 1) (x := a1) dX2_number_2_1 rfl rfl rfl ?_
  obtain ⟨g_1, hf⟩ := hf
  refine z_cXv m_X2_need_2 [.ref a1] (a0) (q := 5) (rc2 := 2) (rs2 := 14) (st := []) dX2_number_2_2 rfl q1096 oV_X2_need_2 rfl rfl ⟨z_le rfl, z_le rfl⟩ (z_le rfl) (z_rcv_of 1 rfl g_1 rfl) rfl  rfl hf (fun C0 x h1 hX => z_out rfl hX) (fun h_2 hf => ?_)
  refine z_aload_n (q := 6) (i := 0) (x := a0) dX2_number_2_5 rfl rfl rfl ?_
  refine z_iload_n (q := 7) (i := 2) (x := x2) dX2_number_2_6 rfl rfl rfl ?_
  refine z_iload_n (q := 8) (i := 3) (x := x3) dX2_number_2_7 rfl rfl rfl ?_
  obtain ⟨g_3, hf⟩ := hf
  refine z_cXi m_X2_number [.int x2, .int x3] (a0) (q := 11) (rc2 := 0) (rs2 := 0) (st := []) dX2_number_2_8 rfl q842 oV_X2_number rfl rfl ⟨z_le rfl, z_le rfl⟩ (z_le rfl) (z_rcv_of 1 rfl g_3 rfl) rfl  rfl hf (fun C0 x h1 hX => z_out rfl hX) (fun x_4 h_5 hf => ?_)
  refine z_V.x ?_
  exact z_iret dX2_number_2_11 rfl hf

theorem u_X2_one {l : Launch} {G : z_G} {a0 : Nat} {a1 : Nat} {h : z_H} {Q : z_Q} {X : z_QX} (hst : l.stackTraces = false)  (hf : (h.T a0).1 = 11 ∧ z_Ct l G m_X2_which [.ref a0, .ref a1] h (z_Qi (fun x_2 h_3 => (0 ≤ x_2 → (h_3.T a0).1 = 11 ∧ z_Ct l G m_X2_next [.ref a0] h_3 (z_Qv (fun h_5 => Q (some (.int x_2)) h_5))) ∧ (¬ 0 ≤ x_2 → (h_3.T a0).1 = 11 ∧ z_Ct l G m_X2_wrong [.ref a0, .int 1] h_3 (z_Qr (fun b_7 h_8 => (h_8.T b_7).1 = 22 ∧ X "BeggarHeaps$Wrong" b_7 h_8)))))) : z_Cz l G m_X2_one [.ref a0, .ref a1] h Q X := by
  refine z_Cz.of (ls := [some (.ref a0), some (.ref a1), none]) hst rfl (by show plainName yX2_one.cls = true; decide +kernel) (z_le rfl) rfl ?_
  show z_V l G m_X2_one (z_Fx G m_X2_one Q X) 1 7 h 0 [some (.ref a0), some (.ref a1), none] []
  refine z_aload_n (q := 1) (i := 0) (x := a0) dX2_one_0 rfl rfl rfl ?_
  refine z_aload_n (q := 2) (i := 1) (x := a1) dX2_one_1 rfl rfl rfl ?_
  obtain ⟨g_1, hf⟩ := hf
  refine z_cVi m_X2_which [.ref a1] (a0) (q := 5) (rc2 := 1) (rs2 := 7) (st := []) dX2_one_2 rfl q701 oV_X2_which rfl rfl ⟨z_le rfl, z_le rfl⟩ (z_le rfl) (z_rcv_of 1 rfl g_1 rfl) rfl  rfl hf (fun x_2 h_3 hf => ?_)
  refine z_istore_n (q := 6) (i := 2) (ls2 := [some (.ref a0), some (.ref a1), some (.int x_2)]) (x := x_2) dX2_one_5 rfl (z_lt rfl) rfl rfl ?_
  refine z_iload_n (q := 7) (i := 2) (x := x_2) dX2_one_6 rfl rfl rfl ?_
  refine z_if_ge (q := 10) (tgt := 16) dX2_one_7 rfl rfl (fun hc => ?_) (fun hc => ?_)
  · have hf := hf.1 hc
    refine z_aload_n (q := 17) (i := 0) (x := a0) dX2_one_16 rfl rfl rfl ?_
    obtain ⟨g_4, hf⟩ := hf
    refine z_cVv m_X2_next [] (a0) (q := 20) (rc2 := 1) (rs2 := 7) (st := []) dX2_one_17 rfl q593 oV_X2_next rfl rfl ⟨z_le rfl, z_le rfl⟩ (z_le rfl) (z_rcv_of 1 rfl g_4 rfl) rfl  rfl hf (fun h_5 hf => ?_)
    refine z_iload_n (q := 21) (i := 2) (x := x_2) dX2_one_20 rfl rfl rfl ?_
    refine z_V.x ?_
    exact z_iret dX2_one_21 rfl hf
  · have hf := hf.2 hc
    refine z_aload_n (q := 11) (i := 0) (x := a0) dX2_one_10 rfl rfl rfl ?_
    refine z_iconst (q := 12) (v := 1) dX2_one_11 rfl rfl ?_
    obtain ⟨g_6, hf⟩ := hf
    refine z_cVr m_X2_wrong [.int 1] (a0) (q := 15) (rc2 := 0) (rs2 := 0) (st := []) dX2_one_12 rfl q727 oV_X2_wrong rfl rfl ⟨z_le rfl, z_le rfl⟩ (z_le rfl) (z_rcv_of 1 rfl g_6 rfl) rfl  rfl hf (fun b_7 h_8 hf => ?_)
    obtain ⟨g_9, hf⟩ := hf
    exact z_athrow (c := 12) rfl g_9 dX2_one_15 (z_out rfl hf)

theorem u_X2_pack {l : Launch} {G : z_G} {a0 : Nat} {h : z_H} {Q : z_Q} {X : z_QX} (hst : l.stackTraces = false)  (hf : (h.T a0).1 = 11 ∧ z_Cz l G m_X2_told [.ref a0] h (z_Qi (fun x_2 h_3 => (h_3.T a0).1 = 11 ∧ ∃ b_5, (h_3.P a0 7) = some b_5 ∧ z_L8 h_3 b_5 ∧ vp_in x_2 8 ∧ ((h_3.I (b_5 + 4) (Int32.toNatClampNeg x_2)) < 0 → z_Ct l G m_X2_next [.ref a0] h_3 (z_Qv (fun h_9 => (h_9.T a0).1 = 11 ∧ ∃ b_11, (h_9.P a0 7) = some b_11 ∧ z_L8 h_9 b_11 ∧ ∃ b_14, (h_9.P a0 7) = some b_14 ∧ z_L8 h_9 b_14 ∧ z_Ct l G m_X10_cards [.ref b_14] h_9 (z_Qi (fun x_17 h_18 => z_Ct l G m_J5_min [.int 12, .int (24 - x_17)] h_18 (z_Qi (fun x_19 h_20 => (h_20.T a0).1 = 11 ∧ z_Cz l G m_X2_number [.ref a0, .int 0, .int x_19] h_20 (z_Qi (fun x_22 h_23 => ∃ n_24, h_23.T (b_11 + 4) = (1, n_24) ∧ vp_in x_2 n_24 ∧ Q none (h_23.sI (b_11 + 4) (Int32.toNatClampNeg x_2) x_22))) X))))))) ∧ (¬ (h_3.I (b_5 + 4) (Int32.toNatClampNeg x_2)) < 0 → z_Ct l G m_X2_wrong [.ref a0, .int 3] h_3 (z_Qr (fun b_27 h_28 => (h_28.T b_27).1 = 22 ∧ X "BeggarHeaps$Wrong" b_27 h_28))))) X) : z_Cz l G m_X2_pack [.ref a0] h Q X := by
  refine z_Cz.of (ls := [some (.ref a0), none]) hst rfl (by show plainName yX2_pack.cls = true; decide +kernel) (z_le rfl) rfl ?_
  show z_V l G m_X2_pack (z_Fx G m_X2_pack Q X) 9 59 h 0 [some (.ref a0), none] []
  refine z_aload_n (q := 1) (i := 0) (x := a0) dX2_pack_0 rfl rfl rfl ?_
  obtain ⟨g_1, hf⟩ := hf
  refine z_cXi m_X2_told [] (a0) (q := 4) (rc2 := 3) (rs2 := 21) (st := []) dX2_pack_1 rfl q1161 oV_X2_told rfl rfl ⟨z_le rfl, z_le rfl⟩ (z_le rfl) (z_rcv_of 1 rfl g_1 rfl) rfl  rfl hf (fun C0 x h1 hX => z_out rfl hX) (fun x_2 h_3 hf => ?_)
  refine z_istore_n (q := 5) (i := 1) (ls2 := [some (.ref a0), some (.int x_2)]) (x := x_2) dX2_pack_4 rfl (z_lt rfl) rfl rfl ?_
  refine z_aload_n (q := 6) (i := 0) (x := a0) dX2_pack_5 rfl rfl rfl ?_
  obtain ⟨g_4, hf⟩ := hf
  obtain ⟨b_5, g_6, hf⟩ := hf
  refine z_get 1 7 (q := 9) (v := .ref b_5) rfl (z_lt rfl) g_4 q185 dX2_pack_6 rfl (z_fvR (fun _ _ _ => rfl) g_6) ?_
  obtain ⟨g_7, hf⟩ := hf
  refine z_getN 8 2 (q := 12) (v := .ref (b_5 + 4)) rfl (z_lt rfl) (z_L8_T g_7) (z_nwm q337 rfl) dX2_pack_9 rfl (z_fvR (fun _ _ _ => rfl) (z_L8_P2 g_7)) ?_
  refine z_iload_n (q := 13) (i := 1) (x := x_2) dX2_pack_12 rfl rfl rfl ?_
  obtain ⟨g_8, hf⟩ := hf
  refine z_iald (q := 14) (n := 8) (z_L8_A2 g_7) g_8 dX2_pack_13 rfl ?_
  refine z_if_lt (q := 17) (tgt := 23) dX2_pack_14 rfl rfl (fun hc => ?_) (fun hc => ?_)
  · have hf := hf.1 hc
    refine z_aload_n (q := 24) (i := 0) (x := a0) dX2_pack_23 rfl rfl rfl ?_
    refine z_cVv m_X2_next [] (a0) (q := 27) (rc2 := 3) (rs2 := 21) (st := []) dX2_pack_24 rfl q593 oV_X2_next rfl rfl ⟨z_le rfl, z_le rfl⟩ (z_le rfl) (z_rcv_of 1 rfl g_4 rfl) rfl  rfl hf (fun h_9 hf => ?_)
    refine z_aload_n (q := 28) (i := 0) (x := a0) dX2_pack_27 rfl rfl rfl ?_
    obtain ⟨g_10, hf⟩ := hf
    obtain ⟨b_11, g_12, hf⟩ := hf
    refine z_get 1 7 (q := 31) (v := .ref b_11) rfl (z_lt rfl) g_10 q185 dX2_pack_28 rfl (z_fvR (fun _ _ _ => rfl) g_12) ?_
    obtain ⟨g_13, hf⟩ := hf
    refine z_getN 8 2 (q := 34) (v := .ref (b_11 + 4)) rfl (z_lt rfl) (z_L8_T g_13) (z_nwm q337 rfl) dX2_pack_31 rfl (z_fvR (fun _ _ _ => rfl) (z_L8_P2 g_13)) ?_
    refine z_iload_n (q := 35) (i := 1) (x := x_2) dX2_pack_34 rfl rfl rfl ?_
    refine z_aload_n (q := 36) (i := 0) (x := a0) dX2_pack_35 rfl rfl rfl ?_
    refine z_iconst (q := 37) (v := 0) dX2_pack_36 rfl rfl ?_
    refine z_bipush (q := 39) (v := 12) dX2_pack_37 (by decide) rfl ?_
    refine z_bipush (q := 41) (v := 24) dX2_pack_39 (by decide) rfl ?_
    refine z_aload_n (q := 42) (i := 0) (x := a0) dX2_pack_41 rfl rfl rfl ?_
    obtain ⟨b_14, g_15, hf⟩ := hf
    refine z_get 1 7 (q := 45) (v := .ref b_14) rfl (z_lt rfl) g_10 q185 dX2_pack_42 rfl (z_fvR (fun _ _ _ => rfl) g_15) ?_
    obtain ⟨g_16, hf⟩ := hf
    refine z_cVi m_X10_cards [] (b_14) (q := 48) (rc2 := 3) (rs2 := 21) (st := [.int 24, .int 12, .int 0, .ref a0, .int x_2, .ref (b_11 + 4)]) dX2_pack_45 rfl q1165 oV_X10_cards rfl rfl ⟨z_le rfl, z_le rfl⟩ (z_le rfl) (z_rcv_of 8 rfl (z_L8_T g_16) rfl) rfl  rfl hf (fun x_17 h_18 hf => ?_)
    refine z_isub (q := 49) dX2_pack_48 rfl ?_
    refine z_cSi m_J5_min [.int 12, .int (24 - x_17)] (q := 52) (rc2 := 3) (rs2 := 21) (st := [.int 0, .ref a0, .int x_2, .ref (b_11 + 4)]) dX2_pack_49 rfl q1170 oS_J5_min rfl rfl ⟨z_le rfl, z_le rfl⟩ (z_le rfl) rfl  rfl hf (fun x_19 h_20 hf => ?_)
    obtain ⟨g_21, hf⟩ := hf
    refine z_cXi m_X2_number [.int 0, .int x_19] (a0) (q := 55) (rc2 := 1) (rs2 := 7) (st := [.int x_2, .ref (b_11 + 4)]) dX2_pack_52 rfl q842 oV_X2_number rfl rfl ⟨z_le rfl, z_le rfl⟩ (z_le rfl) (z_rcv_of 1 rfl g_21 rfl) rfl  rfl hf (fun C0 x h1 hX => z_out rfl hX) (fun x_22 h_23 hf => ?_)
    obtain ⟨n_24, g_25, hf⟩ := hf
    obtain ⟨g_26, hf⟩ := hf
    refine z_iast (q := 56) (n := n_24) g_25 g_26 dX2_pack_55 rfl ?_
    refine z_V.x ?_
    exact z_vret dX2_pack_56 rfl hf
  · have hf := hf.2 hc
    refine z_aload_n (q := 18) (i := 0) (x := a0) dX2_pack_17 rfl rfl rfl ?_
    refine z_iconst (q := 19) (v := 3) dX2_pack_18 rfl rfl ?_
    refine z_cVr m_X2_wrong [.int 3] (a0) (q := 22) (rc2 := 2) (rs2 := 14) (st := []) dX2_pack_19 rfl q727 oV_X2_wrong rfl rfl ⟨z_le rfl, z_le rfl⟩ (z_le rfl) (z_rcv_of 1 rfl g_4 rfl) rfl  rfl hf (fun b_27 h_28 hf => ?_)
    obtain ⟨g_29, hf⟩ := hf
    exact z_athrow (c := 12) rfl g_29 dX2_pack_22 (z_out rfl hf)

theorem u_X2_part {l : Launch} {G : z_G} {d : Nat} {mc ms : Nat} {a0 : Nat} {h : z_H} {Q : z_Q} {X : z_QX} (hst : l.stackTraces = false)  (hf : (h.T a0).1 = 11 ∧ z_Ct l G m_X2_which [.ref a0, .ref (G.sk 4)] h (z_Qi (fun x_2 h_3 => (h_3.T a0).1 = 11 ∧ z_Ct l G m_X2_which [.ref a0, .ref (G.sk 5)] h_3 (z_Qi (fun x_5 h_6 => ∀ v_7 : Int32, v_7 = (if x_5 < 0 then 0 else 1) → (h_6.T a0).1 = 11 ∧ z_Ct l G m_X2_isSign [.ref a0, .int 40] h_6 (z_Qi (fun x_10 h_11 => (0 ≤ x_2 → z_V l G (m_X2_part (d + 1) mc ms) (z_Fx G (m_X2_part (d + 1) mc ms) Q X) mc ms h_11 55 [some (.ref a0), some (.int x_2), some (.int v_7), some (.int x_10), none] []) ∧ (¬ 0 ≤ x_2 → (v_7 = 0 → (x_10 = 0 → (h_11.T a0).1 = 11 ∧ ((h_11.I a0 3) = 2 → z_V l G (m_X2_part (d + 1) mc ms) (z_Fx G (m_X2_part (d + 1) mc ms) Q X) mc ms h_11 55 [some (.ref a0), some (.int x_2), some (.int v_7), some (.int x_10), none] []) ∧ (¬ (h_11.I a0 3) = 2 → ∃ rc_13, mc = rc_13 + 1 ∧ ∃ rs_15, ms = rs_15 + 7 ∧ z_Ct l G m_X2_wrong [.ref a0, .int 1] h_11 (z_Qr (fun b_17 h_18 => (h_18.T b_17).1 = 22 ∧ X "BeggarHeaps$Wrong" b_17 h_18)))) ∧ (¬ x_10 = 0 → z_V l G (m_X2_part (d + 1) mc ms) (z_Fx G (m_X2_part (d + 1) mc ms) Q X) mc ms h_11 55 [some (.ref a0), some (.int x_2), some (.int v_7), some (.int x_10), none] [])) ∧ (¬ v_7 = 0 → z_V l G (m_X2_part (d + 1) mc ms) (z_Fx G (m_X2_part (d + 1) mc ms) Q X) mc ms h_11 55 [some (.ref a0), some (.int x_2), some (.int v_7), some (.int x_10), none] []))))))))) : z_Cz l G (m_X2_part (d + 1) mc ms) [.ref a0] h Q X := by
  refine z_Cz.of (ls := [some (.ref a0), none, none, none, none]) hst rfl (by show plainName yX2_part.cls = true; decide +kernel) (z_le rfl) rfl ?_
  show z_V l G (m_X2_part (d + 1) mc ms) (z_Fx G (m_X2_part (d + 1) mc ms) Q X) mc ms h 0 [some (.ref a0), none, none, none, none] []
  refine z_aload_n (q := 1) (i := 0) (x := a0) dX2_part_0 rfl rfl rfl ?_
  refine z_ldcS (q := 3) (j := 4) dX2_part_1 rfl rfl rfl ?_
  obtain ⟨g_1, hf⟩ := hf
  refine z_cVi m_X2_which [.ref (G.sk 4)] (a0) (q := 6) (rc2 := mc) (rs2 := ms) (st := []) dX2_part_3 rfl q701 oV_X2_which rfl rfl (z_room_of (by first | exact z_le rfl | (simp only [z_M.d, z_M.nL, z_M.lo, m_X2_which, m_X2_part]; omega)) (by first | exact z_le rfl | (simp only [z_M.d, z_M.nL, z_M.lo, m_X2_which, m_X2_part]; omega))) (z_le rfl) (z_rcv_of 1 rfl g_1 rfl) rfl  rfl hf (fun x_2 h_3 hf => ?_)
  refine z_istore_n (q := 7) (i := 1) (ls2 := [some (.ref a0), some (.int x_2), none, none, none]) (x := x_2) dX2_part_6 rfl (z_lt rfl) rfl rfl ?_
  refine z_aload_n (q := 8) (i := 0) (x := a0) dX2_part_7 rfl rfl rfl ?_
  refine z_ldcS (q := 10) (j := 5) dX2_part_8 rfl rfl rfl ?_
  obtain ⟨g_4, hf⟩ := hf
  refine z_cVi m_X2_which [.ref (G.sk 5)] (a0) (q := 13) (rc2 := mc) (rs2 := ms) (st := []) dX2_part_10 rfl q701 oV_X2_which rfl rfl (z_room_of (by first | exact z_le rfl | (simp only [z_M.d, z_M.nL, z_M.lo, m_X2_which, m_X2_part]; omega)) (by first | exact z_le rfl | (simp only [z_M.d, z_M.nL, z_M.lo, m_X2_which, m_X2_part]; omega))) (z_le rfl) (z_rcv_of 1 rfl g_4 rfl) rfl  rfl hf (fun x_5 h_6 hf => ?_)
  have hk : z_V l G (m_X2_part (d + 1) mc ms) (z_Fx G (m_X2_part (d + 1) mc ms) Q X) mc ms h_6 21 [some (.ref a0), some (.int x_2), none, none, none] [.int (if x_5 < 0 then 0 else 1)] := by
    refine z_nmI (fun v_7 hv_8 => ?_)
    have hf := hf v_7 hv_8
    refine z_istore_n (q := 22) (i := 2) (ls2 := [some (.ref a0), some (.int x_2), some (.int v_7), none, none]) (x := v_7) dX2_part_21 rfl (z_lt rfl) rfl rfl ?_
    refine z_aload_n (q := 23) (i := 0) (x := a0) dX2_part_22 rfl rfl rfl ?_
    refine z_bipush (q := 25) (v := 40) dX2_part_23 (by decide) rfl ?_
    obtain ⟨g_9, hf⟩ := hf
    refine z_cVi m_X2_isSign [.int 40] (a0) (q := 28) (rc2 := mc) (rs2 := ms) (st := []) dX2_part_25 rfl q836 oV_X2_isSign rfl rfl (z_room_of (by first | exact z_le rfl | (simp only [z_M.d, z_M.nL, z_M.lo, m_X2_isSign, m_X2_part]; omega)) (by first | exact z_le rfl | (simp only [z_M.d, z_M.nL, z_M.lo, m_X2_isSign, m_X2_part]; omega))) (z_le rfl) (z_rcv_of 1 rfl g_9 rfl) rfl  rfl hf (fun x_10 h_11 hf => ?_)
    refine z_istore_n (q := 29) (i := 3) (ls2 := [some (.ref a0), some (.int x_2), some (.int v_7), some (.int x_10), none]) (x := x_10) dX2_part_28 rfl (z_lt rfl) rfl rfl ?_
    refine z_iload_n (q := 30) (i := 1) (x := x_2) dX2_part_29 rfl rfl rfl ?_
    refine z_if_ge (q := 33) (tgt := 55) dX2_part_30 rfl rfl (fun hc => ?_) (fun hc => ?_)
    · have hf := hf.1 hc
      exact hf
    · have hf := hf.2 hc
      refine z_iload_n (q := 34) (i := 2) (x := v_7) dX2_part_33 rfl rfl rfl ?_
      refine z_if_ne (q := 37) (tgt := 55) dX2_part_34 rfl rfl (fun hc => ?_) (fun hc => ?_)
      · have hf := hf.2 hc
        exact hf
      · have hf := hf.1 hc
        refine z_iload_n (q := 38) (i := 3) (x := x_10) dX2_part_37 rfl rfl rfl ?_
        refine z_if_ne (q := 41) (tgt := 55) dX2_part_38 rfl rfl (fun hc => ?_) (fun hc => ?_)
        · have hf := hf.2 hc
          exact hf
        · have hf := hf.1 hc
          refine z_aload_n (q := 42) (i := 0) (x := a0) dX2_part_41 rfl rfl rfl ?_
          obtain ⟨g_12, hf⟩ := hf
          refine z_get 1 3 (q := 45) (v := .int (h_11.I a0 3)) rfl (z_lt rfl) g_12 q181 dX2_part_42 rfl rfl ?_
          refine z_iconst (q := 46) (v := 2) dX2_part_45 rfl rfl ?_
          refine z_icmp_eq (q := 49) (tgt := 55) dX2_part_46 rfl rfl (fun hc => ?_) (fun hc => ?_)
          · have hf := hf.1 hc
            exact hf
          · have hf := hf.2 hc
            refine z_aload_n (q := 50) (i := 0) (x := a0) dX2_part_49 rfl rfl rfl ?_
            refine z_iconst (q := 51) (v := 1) dX2_part_50 rfl rfl ?_
            obtain ⟨rc_13, g_14, hf⟩ := hf
            obtain ⟨rs_15, g_16, hf⟩ := hf
            refine z_cVr m_X2_wrong [.int 1] (a0) (q := 54) (rc2 := rc_13) (rs2 := rs_15) (st := []) dX2_part_51 rfl q727 oV_X2_wrong rfl rfl (z_room_of (by first | exact z_le rfl | (simp only [z_M.d, z_M.nL, z_M.lo, m_X2_wrong, m_X2_part]; omega)) (by first | exact z_le rfl | (simp only [z_M.d, z_M.nL, z_M.lo, m_X2_wrong, m_X2_part]; omega))) (z_le rfl) (z_rcv_of 1 rfl g_12 rfl) g_14  g_16 hf (fun b_17 h_18 hf => ?_)
            obtain ⟨g_19, hf⟩ := hf
            exact z_athrow (c := 12) rfl g_19 dX2_part_54 (z_out rfl hf)
  refine z_if_lt (q := 16) (tgt := 20) dX2_part_13 rfl rfl (fun hc => ?_) (fun hc => ?_)
  · have hk := (z_ite hk).1 hc
    refine z_iconst (q := 21) (v := 0) dX2_part_20 rfl rfl ?_
    exact hk
  · have hk := (z_ite hk).2 hc
    refine z_iconst (q := 17) (v := 1) dX2_part_16 rfl rfl ?_
    refine z_goto (q := 21) dX2_part_17 rfl ?_
    exact hk

theorem b_X2_part_55 {l : Launch} {G : z_G} {d : Nat} {mc ms : Nat} {rc rs : Nat} {a0 : Nat} {x1 : Int32} {x2 : Int32} {x3 : Int32} {h : z_H} {Q : z_Q} {X : z_QX}  (hf : (h.T a0).1 = 11 ∧ ((h.I a0 6) = 5 → ∃ rc_59, rc = rc_59 + 1 ∧ ∃ rs_61, rs = rs_61 + 7 ∧ z_Ct l G m_X2_wrong [.ref a0, .int 5] h (z_Qr (fun b_63 h_64 => (h_64.T b_63).1 = 22 ∧ X "BeggarHeaps$Wrong" b_63 h_64))) ∧ (¬ (h.I a0 6) = 5 → ((h.I a0 3) = 2 → ∃ rc_47, rc = rc_47 + 1 ∧ ∃ rs_49, rs = rs_49 + 1 ∧ ∃ rc_51, rc_47 = rc_51 + 2 ∧ ∃ rs_53, rs_49 = rs_53 + 14 ∧ ((h.nw (23, 0)).T a0).1 = 11 ∧ z_Cz l G m_X2_number [.ref a0, .int 0, .int 9999] (h.nw (23, 0)) (z_Qi (fun x_56 h_57 => z_Ct l G m_X16_init [.ref (h.n), .int x_56] h_57 (z_Qv (fun h_58 => Q (some (.ref (h.n))) h_58)))) X) ∧ (¬ (h.I a0 3) = 2 → z_Ct l G m_X2_next [.ref a0] h (z_Qv (fun h_2 => (x1 < 0 → (h_2.T a0).1 = 11 ∧ (x2 = 0 → ∃ mc_4, ∃ ms_5, ∃ rc_6, rc = rc_6 + mc_4 ∧ ∃ rs_8, rs = rs_8 + ms_5 ∧ z_Cz l G (m_X2_expression d mc_4 ms_5) [.ref a0] (h_2.sI a0 6 ((h_2.I a0 6) + 1)) (z_Qr (fun b_10 h_11 => (x3 = 0 → (h_11.T a0).1 = 11 ∧ Q (some (.ref b_10)) (h_11.sI a0 6 ((h_11.I a0 6) - 1))) ∧ (¬ x3 = 0 → ∃ rc_13, rc_6 = rc_13 + 1 ∧ ∃ rs_15, rs_8 = rs_15 + 7 ∧ (h_11.T a0).1 = 11 ∧ z_Cz l G m_X2_need [.ref a0, .int 41] h_11 (z_Qv (fun h_18 => (h_18.T a0).1 = 11 ∧ Q (some (.ref b_10)) (h_18.sI a0 6 ((h_18.I a0 6) - 1)))) X))) X) ∧ (¬ x2 = 0 → ∃ rc_20, rc = rc_20 + 1 ∧ ∃ rs_22, rs = rs_22 + 1 ∧ ∃ mc_24, ∃ ms_25, ∃ rc_26, rc_20 = rc_26 + mc_24 ∧ ∃ rs_28, rs_22 = rs_28 + ms_25 ∧ (((h_2.sI a0 6 ((h_2.I a0 6) + 1)).nw (25, 0)).T a0).1 = 11 ∧ z_Cz l G (m_X2_part d mc_24 ms_25) [.ref a0] ((h_2.sI a0 6 ((h_2.I a0 6) + 1)).nw (25, 0)) (z_Qr (fun b_31 h_32 => z_Ct l G m_X18_init [.ref (h_2.n), .ref b_31] h_32 (z_Qv (fun h_33 => (x3 = 0 → (h_33.T a0).1 = 11 ∧ Q (some (.ref (h_2.n))) (h_33.sI a0 6 ((h_33.I a0 6) - 1))) ∧ (¬ x3 = 0 → ∃ rc_35, rc_26 = rc_35 + 1 ∧ ∃ rs_37, rs_28 = rs_37 + 7 ∧ (h_33.T a0).1 = 11 ∧ z_Cz l G m_X2_need [.ref a0, .int 41] h_33 (z_Qv (fun h_40 => (h_40.T a0).1 = 11 ∧ Q (some (.ref (h_2.n))) (h_40.sI a0 6 ((h_40.I a0 6) - 1)))) X))))) X)) ∧ (¬ x1 < 0 → ∃ rc_42, rc = rc_42 + 1 ∧ ∃ rs_44, rs = rs_44 + 1 ∧ z_Ct l G m_X17_init [.ref (h_2.n), .int x1] (h_2.nw (24, 0)) (z_Qv (fun h_46 => Q (some (.ref (h_2.n))) h_46)))))))) : z_V l G (m_X2_part (d + 1) mc ms) (z_Fx G (m_X2_part (d + 1) mc ms) Q X) rc rs h 55 [some (.ref a0), some (.int x1), some (.int x2), some (.int x3), none] [] := by
  refine z_aload_n (q := 56) (i := 0) (x := a0) dX2_part_55 rfl rfl rfl ?_
  obtain ⟨g_1, hf⟩ := hf
  refine z_get 1 6 (q := 59) (v := .int (h.I a0 6)) rfl (z_lt rfl) g_1 q184 dX2_part_56 rfl rfl ?_
  refine z_iconst (q := 60) (v := 5) dX2_part_59 rfl rfl ?_
  refine z_icmp_ne (q := 63) (tgt := 69) dX2_part_60 rfl rfl (fun hc => ?_) (fun hc => ?_)
  · have hf := hf.2 hc
    refine z_aload_n (q := 70) (i := 0) (x := a0) dX2_part_69 rfl rfl rfl ?_
    refine z_get 1 3 (q := 73) (v := .int (h.I a0 3)) rfl (z_lt rfl) g_1 q181 dX2_part_70 rfl rfl ?_
    refine z_iconst (q := 74) (v := 2) dX2_part_73 rfl rfl ?_
    refine z_icmp_ne (q := 77) (tgt := 93) dX2_part_74 rfl rfl (fun hc => ?_) (fun hc => ?_)
    · have hf := hf.2 hc
      refine z_aload_n (q := 94) (i := 0) (x := a0) dX2_part_93 rfl rfl rfl ?_
      refine z_cVv m_X2_next [] (a0) (q := 97) (rc2 := rc) (rs2 := rs) (st := []) dX2_part_94 rfl q593 oV_X2_next rfl rfl (z_room_of (by first | exact z_le rfl | (simp only [z_M.d, z_M.nL, z_M.lo, m_X2_next, m_X2_part]; omega)) (by first | exact z_le rfl | (simp only [z_M.d, z_M.nL, z_M.lo, m_X2_next, m_X2_part]; omega))) (z_le rfl) (z_rcv_of 1 rfl g_1 rfl) rfl  rfl hf (fun h_2 hf => ?_)
      refine z_iload_n (q := 98) (i := 1) (x := x1) dX2_part_97 rfl rfl rfl ?_
      refine z_if_lt (q := 101) (tgt := 110) dX2_part_98 rfl rfl (fun hc => ?_) (fun hc => ?_)
      · have hf := hf.1 hc
        refine z_aload_n (q := 111) (i := 0) (x := a0) dX2_part_110 rfl rfl rfl ?_
        refine z_dup (q := 112) dX2_part_111 rfl rfl ?_
        obtain ⟨g_3, hf⟩ := hf
        refine z_get 1 6 (q := 115) (v := .int (h_2.I a0 6)) rfl (z_lt rfl) g_3 q184 dX2_part_112 rfl rfl ?_
        refine z_iconst (q := 116) (v := 1) dX2_part_115 rfl rfl ?_
        refine z_iadd (q := 117) dX2_part_116 rfl ?_
        refine z_putI 1 6 (q := 120) (x := ((h_2.I a0 6) + 1)) (v := .int ((h_2.I a0 6) + 1)) rfl (z_lt rfl) g_3 q184 rfl dX2_part_117 rfl rfl rfl rfl (fun _ _ _ => rfl) ?_
        refine z_iload_n (q := 121) (i := 2) (x := x2) dX2_part_120 rfl rfl rfl ?_
        refine z_if_eq (q := 124) (tgt := 138) dX2_part_121 rfl rfl (fun hc => ?_) (fun hc => ?_)
        · have hf := hf.1 hc
          refine z_aload_n (q := 139) (i := 0) (x := a0) dX2_part_138 rfl rfl rfl ?_
          obtain ⟨mc_4, hf⟩ := hf
          obtain ⟨ms_5, hf⟩ := hf
          obtain ⟨rc_6, g_7, hf⟩ := hf
          obtain ⟨rs_8, g_9, hf⟩ := hf
          refine z_cXr (m_X2_expression d mc_4 ms_5) [] (a0) (q := 142) (rc2 := rc_6) (rs2 := rs_8) (st := []) dX2_part_139 rfl q814 (oV_X2_expression _ _ _) rfl rfl (z_room_of (by first | exact z_le rfl | (simp only [z_M.d, z_M.nL, z_M.lo, m_X2_expression, m_X2_part]; omega)) (by first | exact z_le rfl | (simp only [z_M.d, z_M.nL, z_M.lo, m_X2_expression, m_X2_part]; omega))) (z_le rfl) (z_rcv_of 1 rfl g_3 rfl) g_7  g_9 hf (fun C0 x h1 hX => z_out rfl hX) (fun b_10 h_11 hf => ?_)
          refine z_astore (q := 144) (i := 4) (ls2 := [some (.ref a0), some (.int x1), some (.int x2), some (.int x3), some (.ref b_10)]) (x := b_10) dX2_part_142 (z_lt rfl) rfl rfl ?_
          refine z_iload_n (q := 145) (i := 3) (x := x3) dX2_part_144 rfl rfl rfl ?_
          refine z_if_eq (q := 148) (tgt := 154) dX2_part_145 rfl rfl (fun hc => ?_) (fun hc => ?_)
          · have hf := hf.1 hc
            refine z_aload_n (q := 155) (i := 0) (x := a0) dX2_part_154 rfl rfl rfl ?_
            refine z_dup (q := 156) dX2_part_155 rfl rfl ?_
            obtain ⟨g_12, hf⟩ := hf
            refine z_get 1 6 (q := 159) (v := .int (h_11.I a0 6)) rfl (z_lt rfl) g_12 q184 dX2_part_156 rfl rfl ?_
            refine z_iconst (q := 160) (v := 1) dX2_part_159 rfl rfl ?_
            refine z_isub (q := 161) dX2_part_160 rfl ?_
            refine z_putI 1 6 (q := 164) (x := ((h_11.I a0 6) - 1)) (v := .int ((h_11.I a0 6) - 1)) rfl (z_lt rfl) g_12 q184 rfl dX2_part_161 rfl rfl rfl rfl (fun _ _ _ => rfl) ?_
            refine z_aload (q := 166) (i := 4) (x := b_10) dX2_part_164 rfl rfl ?_
            refine z_V.x ?_
            exact z_aret (r := some b_10) rfl dX2_part_166 rfl (Or.inl ⟨_, rfl⟩) hf
          · have hf := hf.2 hc
            refine z_aload_n (q := 149) (i := 0) (x := a0) dX2_part_148 rfl rfl rfl ?_
            refine z_bipush (q := 151) (v := 41) dX2_part_149 (by decide) rfl ?_
            obtain ⟨rc_13, g_14, hf⟩ := hf
            obtain ⟨rs_15, g_16, hf⟩ := hf
            obtain ⟨g_17, hf⟩ := hf
            refine z_cXv m_X2_need [.int 41] (a0) (q := 154) (rc2 := rc_13) (rs2 := rs_15) (st := []) dX2_part_151 rfl q877 oV_X2_need rfl rfl (z_room_of (by first | exact z_le rfl | (simp only [z_M.d, z_M.nL, z_M.lo, m_X2_need, m_X2_part]; omega)) (by first | exact z_le rfl | (simp only [z_M.d, z_M.nL, z_M.lo, m_X2_need, m_X2_part]; omega))) (z_le rfl) (z_rcv_of 1 rfl g_17 rfl) g_14  g_16 hf (fun C0 x h1 hX => z_out rfl hX) (fun h_18 hf => ?_)
            refine z_aload_n (q := 155) (i := 0) (x := a0) dX2_part_154 rfl rfl rfl ?_
            refine z_dup (q := 156) dX2_part_155 rfl rfl ?_
            obtain ⟨g_19, hf⟩ := hf
            refine z_get 1 6 (q := 159) (v := .int (h_18.I a0 6)) rfl (z_lt rfl) g_19 q184 dX2_part_156 rfl rfl ?_
            refine z_iconst (q := 160) (v := 1) dX2_part_159 rfl rfl ?_
            refine z_isub (q := 161) dX2_part_160 rfl ?_
            refine z_putI 1 6 (q := 164) (x := ((h_18.I a0 6) - 1)) (v := .int ((h_18.I a0 6) - 1)) rfl (z_lt rfl) g_19 q184 rfl dX2_part_161 rfl rfl rfl rfl (fun _ _ _ => rfl) ?_
            refine z_aload (q := 166) (i := 4) (x := b_10) dX2_part_164 rfl rfl ?_
            refine z_V.x ?_
            exact z_aret (r := some b_10) rfl dX2_part_166 rfl (Or.inl ⟨_, rfl⟩) hf
        · have hf := hf.2 hc
          obtain ⟨rc_20, g_21, hf⟩ := hf
          obtain ⟨rs_22, g_23, hf⟩ := hf
          refine z_new 15 (q := 127) (rc2 := rc_20) (rs2 := rs_22) rfl q867 q868 q151 dX2_part_124 rfl g_21 g_23 ?_
          refine z_dup (q := 128) dX2_part_127 rfl rfl ?_
          refine z_aload_n (q := 129) (i := 0) (x := a0) dX2_part_128 rfl rfl rfl ?_
          obtain ⟨mc_24, hf⟩ := hf
          obtain ⟨ms_25, hf⟩ := hf
          obtain ⟨rc_26, g_27, hf⟩ := hf
          obtain ⟨rs_28, g_29, hf⟩ := hf
          obtain ⟨g_30, hf⟩ := hf
          refine z_cXr (m_X2_part d mc_24 ms_25) [] (a0) (q := 132) (rc2 := rc_26) (rs2 := rs_28) (st := [.ref (h_2.n), .ref (h_2.n)]) dX2_part_129 rfl q830 (oV_X2_part _ _ _) rfl rfl (z_room_of (by first | exact z_le rfl | (simp only [z_M.d, z_M.nL, z_M.lo, m_X2_part, m_X2_part]; omega)) (by first | exact z_le rfl | (simp only [z_M.d, z_M.nL, z_M.lo, m_X2_part, m_X2_part]; omega))) (z_le rfl) (z_rcv_of 1 rfl g_30 rfl) g_27  g_29 hf (fun C0 x h1 hX => z_out rfl hX) (fun b_31 h_32 hf => ?_)
          refine z_cIv m_X18_init [.ref b_31] ((h_2.n)) (q := 135) (rc2 := rc_26) (rs2 := rs_28) (st := [.ref (h_2.n)]) dX2_part_132 rfl q869 oI_X18_init rfl rfl (z_room_of (by first | exact z_le rfl | (simp only [z_M.d, z_M.nL, z_M.lo, m_X18_init, m_X2_part]; omega)) (by first | exact z_le rfl | (simp only [z_M.d, z_M.nL, z_M.lo, m_X18_init, m_X2_part]; omega))) (z_le rfl) rfl  rfl hf (fun h_33 hf => ?_)
          refine z_goto (q := 142) dX2_part_135 rfl ?_
          refine z_astore (q := 144) (i := 4) (ls2 := [some (.ref a0), some (.int x1), some (.int x2), some (.int x3), some (.ref (h_2.n))]) (x := (h_2.n)) dX2_part_142 (z_lt rfl) rfl rfl ?_
          refine z_iload_n (q := 145) (i := 3) (x := x3) dX2_part_144 rfl rfl rfl ?_
          refine z_if_eq (q := 148) (tgt := 154) dX2_part_145 rfl rfl (fun hc => ?_) (fun hc => ?_)
          · have hf := hf.1 hc
            refine z_aload_n (q := 155) (i := 0) (x := a0) dX2_part_154 rfl rfl rfl ?_
            refine z_dup (q := 156) dX2_part_155 rfl rfl ?_
            obtain ⟨g_34, hf⟩ := hf
            refine z_get 1 6 (q := 159) (v := .int (h_33.I a0 6)) rfl (z_lt rfl) g_34 q184 dX2_part_156 rfl rfl ?_
            refine z_iconst (q := 160) (v := 1) dX2_part_159 rfl rfl ?_
            refine z_isub (q := 161) dX2_part_160 rfl ?_
            refine z_putI 1 6 (q := 164) (x := ((h_33.I a0 6) - 1)) (v := .int ((h_33.I a0 6) - 1)) rfl (z_lt rfl) g_34 q184 rfl dX2_part_161 rfl rfl rfl rfl (fun _ _ _ => rfl) ?_
            refine z_aload (q := 166) (i := 4) (x := (h_2.n)) dX2_part_164 rfl rfl ?_
            refine z_V.x ?_
            exact z_aret (r := some (h_2.n)) rfl dX2_part_166 rfl (Or.inl ⟨_, rfl⟩) hf
          · have hf := hf.2 hc
            refine z_aload_n (q := 149) (i := 0) (x := a0) dX2_part_148 rfl rfl rfl ?_
            refine z_bipush (q := 151) (v := 41) dX2_part_149 (by decide) rfl ?_
            obtain ⟨rc_35, g_36, hf⟩ := hf
            obtain ⟨rs_37, g_38, hf⟩ := hf
            obtain ⟨g_39, hf⟩ := hf
            refine z_cXv m_X2_need [.int 41] (a0) (q := 154) (rc2 := rc_35) (rs2 := rs_37) (st := []) dX2_part_151 rfl q877 oV_X2_need rfl rfl (z_room_of (by first | exact z_le rfl | (simp only [z_M.d, z_M.nL, z_M.lo, m_X2_need, m_X2_part]; omega)) (by first | exact z_le rfl | (simp only [z_M.d, z_M.nL, z_M.lo, m_X2_need, m_X2_part]; omega))) (z_le rfl) (z_rcv_of 1 rfl g_39 rfl) g_36  g_38 hf (fun C0 x h1 hX => z_out rfl hX) (fun h_40 hf => ?_)
            refine z_aload_n (q := 155) (i := 0) (x := a0) dX2_part_154 rfl rfl rfl ?_
            refine z_dup (q := 156) dX2_part_155 rfl rfl ?_
            obtain ⟨g_41, hf⟩ := hf
            refine z_get 1 6 (q := 159) (v := .int (h_40.I a0 6)) rfl (z_lt rfl) g_41 q184 dX2_part_156 rfl rfl ?_
            refine z_iconst (q := 160) (v := 1) dX2_part_159 rfl rfl ?_
            refine z_isub (q := 161) dX2_part_160 rfl ?_
            refine z_putI 1 6 (q := 164) (x := ((h_40.I a0 6) - 1)) (v := .int ((h_40.I a0 6) - 1)) rfl (z_lt rfl) g_41 q184 rfl dX2_part_161 rfl rfl rfl rfl (fun _ _ _ => rfl) ?_
            refine z_aload (q := 166) (i := 4) (x := (h_2.n)) dX2_part_164 rfl rfl ?_
            refine z_V.x ?_
            exact z_aret (r := some (h_2.n)) rfl dX2_part_166 rfl (Or.inl ⟨_, rfl⟩) hf
      · have hf := hf.2 hc
        obtain ⟨rc_42, g_43, hf⟩ := hf
        obtain ⟨rs_44, g_45, hf⟩ := hf
        refine z_new 14 (q := 104) (rc2 := rc_42) (rs2 := rs_44) rfl q857 q858 q150 dX2_part_101 rfl g_43 g_45 ?_
        refine z_dup (q := 105) dX2_part_104 rfl rfl ?_
        refine z_iload_n (q := 106) (i := 1) (x := x1) dX2_part_105 rfl rfl rfl ?_
        refine z_cIv m_X17_init [.int x1] ((h_2.n)) (q := 109) (rc2 := rc_42) (rs2 := rs_44) (st := [.ref (h_2.n)]) dX2_part_106 rfl q859 oI_X17_init rfl rfl (z_room_of (by first | exact z_le rfl | (simp only [z_M.d, z_M.nL, z_M.lo, m_X17_init, m_X2_part]; omega)) (by first | exact z_le rfl | (simp only [z_M.d, z_M.nL, z_M.lo, m_X17_init, m_X2_part]; omega))) (z_le rfl) rfl  rfl hf (fun h_46 hf => ?_)
        refine z_V.x ?_
        exact z_aret (r := some (h_2.n)) rfl dX2_part_109 rfl (Or.inl ⟨_, rfl⟩) hf
    · have hf := hf.1 hc
      obtain ⟨rc_47, g_48, hf⟩ := hf
      obtain ⟨rs_49, g_50, hf⟩ := hf
      refine z_new 13 (q := 80) (rc2 := rc_47) (rs2 := rs_49) rfl q840 q841 q149 dX2_part_77 rfl g_48 g_50 ?_
      refine z_dup (q := 81) dX2_part_80 rfl rfl ?_
      refine z_aload_n (q := 82) (i := 0) (x := a0) dX2_part_81 rfl rfl rfl ?_
      refine z_iconst (q := 83) (v := 0) dX2_part_82 rfl rfl ?_
      refine z_sipush (q := 86) (v := 9999) dX2_part_83 (by decide) rfl ?_
      obtain ⟨rc_51, g_52, hf⟩ := hf
      obtain ⟨rs_53, g_54, hf⟩ := hf
      obtain ⟨g_55, hf⟩ := hf
      refine z_cXi m_X2_number [.int 0, .int 9999] (a0) (q := 89) (rc2 := rc_51) (rs2 := rs_53) (st := [.ref (h.n), .ref (h.n)]) dX2_part_86 rfl q842 oV_X2_number rfl rfl (z_room_of (by first | exact z_le rfl | (simp only [z_M.d, z_M.nL, z_M.lo, m_X2_number, m_X2_part]; omega)) (by first | exact z_le rfl | (simp only [z_M.d, z_M.nL, z_M.lo, m_X2_number, m_X2_part]; omega))) (z_le rfl) (z_rcv_of 1 rfl g_55 rfl) g_52  g_54 hf (fun C0 x h1 hX => z_out rfl hX) (fun x_56 h_57 hf => ?_)
      refine z_cIv m_X16_init [.int x_56] ((h.n)) (q := 92) (rc2 := rc_51) (rs2 := rs_53) (st := [.ref (h.n)]) dX2_part_89 rfl q846 oI_X16_init rfl rfl (z_room_of (by first | exact z_le rfl | (simp only [z_M.d, z_M.nL, z_M.lo, m_X16_init, m_X2_part]; omega)) (by first | exact z_le rfl | (simp only [z_M.d, z_M.nL, z_M.lo, m_X16_init, m_X2_part]; omega))) (z_le rfl) rfl  rfl hf (fun h_58 hf => ?_)
      refine z_V.x ?_
      exact z_aret (r := some (h.n)) rfl dX2_part_92 rfl (Or.inl ⟨_, rfl⟩) hf
  · have hf := hf.1 hc
    refine z_aload_n (q := 64) (i := 0) (x := a0) dX2_part_63 rfl rfl rfl ?_
    refine z_iconst (q := 65) (v := 5) dX2_part_64 rfl rfl ?_
    obtain ⟨rc_59, g_60, hf⟩ := hf
    obtain ⟨rs_61, g_62, hf⟩ := hf
    refine z_cVr m_X2_wrong [.int 5] (a0) (q := 68) (rc2 := rc_59) (rs2 := rs_61) (st := []) dX2_part_65 rfl q727 oV_X2_wrong rfl rfl (z_room_of (by first | exact z_le rfl | (simp only [z_M.d, z_M.nL, z_M.lo, m_X2_wrong, m_X2_part]; omega)) (by first | exact z_le rfl | (simp only [z_M.d, z_M.nL, z_M.lo, m_X2_wrong, m_X2_part]; omega))) (z_le rfl) (z_rcv_of 1 rfl g_1 rfl) g_60  g_62 hf (fun b_63 h_64 hf => ?_)
    obtain ⟨g_65, hf⟩ := hf
    exact z_athrow (c := 12) rfl g_65 dX2_part_68 (z_out rfl hf)

theorem u_X2_product {l : Launch} {G : z_G} {d : Nat} {mc ms : Nat} {a0 : Nat} {h : z_H} {Q : z_Q} {X : z_QX} (hst : l.stackTraces = false)  (hf : ∃ mc_1, ∃ ms_2, ∃ rc_3, mc = rc_3 + mc_1 ∧ ∃ rs_5, ms = rs_5 + ms_2 ∧ (h.T a0).1 = 11 ∧ z_Cz l G (m_X2_part d mc_1 ms_2) [.ref a0] h (z_Qr (fun b_8 h_9 => z_V l G (m_X2_product d mc ms) (z_Fx G (m_X2_product d mc ms) Q X) rc_3 rs_5 h_9 5 [some (.ref a0), some (.ref b_8)] [])) X) : z_Cz l G (m_X2_product d mc ms) [.ref a0] h Q X := by
  refine z_Cz.of (ls := [some (.ref a0), none]) hst rfl (by show plainName yX2_product.cls = true; decide +kernel) (z_le rfl) rfl ?_
  show z_V l G (m_X2_product d mc ms) (z_Fx G (m_X2_product d mc ms) Q X) mc ms h 0 [some (.ref a0), none] []
  refine z_aload_n (q := 1) (i := 0) (x := a0) dX2_product_0 rfl rfl rfl ?_
  obtain ⟨mc_1, hf⟩ := hf
  obtain ⟨ms_2, hf⟩ := hf
  obtain ⟨rc_3, g_4, hf⟩ := hf
  obtain ⟨rs_5, g_6, hf⟩ := hf
  obtain ⟨g_7, hf⟩ := hf
  refine z_cXr (m_X2_part d mc_1 ms_2) [] (a0) (q := 4) (rc2 := rc_3) (rs2 := rs_5) (st := []) dX2_product_1 rfl q830 (oV_X2_part _ _ _) rfl rfl (z_room_of (by first | exact z_le rfl | (simp only [z_M.d, z_M.nL, z_M.lo, m_X2_part, m_X2_product]; omega)) (by first | exact z_le rfl | (simp only [z_M.d, z_M.nL, z_M.lo, m_X2_part, m_X2_product]; omega))) (z_le rfl) (z_rcv_of 1 rfl g_7 rfl) g_4  g_6 hf (fun C0 x h1 hX => z_out rfl hX) (fun b_8 h_9 hf => ?_)
  refine z_astore_n (q := 5) (i := 1) (ls2 := [some (.ref a0), some (.ref b_8)]) (x := b_8) dX2_product_4 rfl (z_lt rfl) rfl rfl ?_
  exact hf

theorem b_X2_product_5 {l : Launch} {G : z_G} {d : Nat} {mc ms : Nat} {rc rs : Nat} {a0 : Nat} {a1 : Nat} {h : z_H} {Q : z_Q} {X : z_QX}  (hf : (h.T a0).1 = 11 ∧ z_Ct l G m_X2_isSign [.ref a0, .int 42] h (z_Qi (fun x_2 h_3 => (x_2 = 0 → Q (some (.ref a1)) h_3) ∧ (¬ x_2 = 0 → (h_3.T a0).1 = 11 ∧ z_Ct l G m_X2_next [.ref a0] h_3 (z_Qv (fun h_5 => ∃ rc_6, rc = rc_6 + 1 ∧ ∃ rs_8, rs = rs_8 + 3 ∧ ∃ mc_10, ∃ ms_11, ∃ rc_12, rc_6 = rc_12 + mc_10 ∧ ∃ rs_14, rs_8 = rs_14 + ms_11 ∧ ((h_5.nw (26, 0)).T a0).1 = 11 ∧ z_Cz l G (m_X2_part d mc_10 ms_11) [.ref a0] (h_5.nw (26, 0)) (z_Qr (fun b_17 h_18 => z_Ct l G m_X19_init [.ref (h_5.n), .int 42, .ref a1, .ref b_17] h_18 (z_Qv (fun h_19 => z_V l G (m_X2_product d mc ms) (z_Fx G (m_X2_product d mc ms) Q X) rc_12 rs_14 h_19 5 [some (.ref a0), some (.ref (h_5.n))] [])))) X)))))) : z_V l G (m_X2_product d mc ms) (z_Fx G (m_X2_product d mc ms) Q X) rc rs h 5 [some (.ref a0), some (.ref a1)] [] := by
  refine z_aload_n (q := 6) (i := 0) (x := a0) dX2_product_5 rfl rfl rfl ?_
  refine z_bipush (q := 8) (v := 42) dX2_product_6 (by decide) rfl ?_
  obtain ⟨g_1, hf⟩ := hf
  refine z_cVi m_X2_isSign [.int 42] (a0) (q := 11) (rc2 := rc) (rs2 := rs) (st := []) dX2_product_8 rfl q836 oV_X2_isSign rfl rfl (z_room_of (by first | exact z_le rfl | (simp only [z_M.d, z_M.nL, z_M.lo, m_X2_isSign, m_X2_product]; omega)) (by first | exact z_le rfl | (simp only [z_M.d, z_M.nL, z_M.lo, m_X2_isSign, m_X2_product]; omega))) (z_le rfl) (z_rcv_of 1 rfl g_1 rfl) rfl  rfl hf (fun x_2 h_3 hf => ?_)
  refine z_if_eq (q := 14) (tgt := 36) dX2_product_11 rfl rfl (fun hc => ?_) (fun hc => ?_)
  · have hf := hf.1 hc
    refine z_aload_n (q := 37) (i := 1) (x := a1) dX2_product_36 rfl rfl rfl ?_
    refine z_V.x ?_
    exact z_aret (r := some a1) rfl dX2_product_37 rfl (Or.inl ⟨_, rfl⟩) hf
  · have hf := hf.2 hc
    refine z_aload_n (q := 15) (i := 0) (x := a0) dX2_product_14 rfl rfl rfl ?_
    obtain ⟨g_4, hf⟩ := hf
    refine z_cVv m_X2_next [] (a0) (q := 18) (rc2 := rc) (rs2 := rs) (st := []) dX2_product_15 rfl q593 oV_X2_next rfl rfl (z_room_of (by first | exact z_le rfl | (simp only [z_M.d, z_M.nL, z_M.lo, m_X2_next, m_X2_product]; omega)) (by first | exact z_le rfl | (simp only [z_M.d, z_M.nL, z_M.lo, m_X2_next, m_X2_product]; omega))) (z_le rfl) (z_rcv_of 1 rfl g_4 rfl) rfl  rfl hf (fun h_5 hf => ?_)
    obtain ⟨rc_6, g_7, hf⟩ := hf
    obtain ⟨rs_8, g_9, hf⟩ := hf
    refine z_new 16 (q := 21) (rc2 := rc_6) (rs2 := rs_8) rfl q881 q882 q152 dX2_product_18 rfl g_7 g_9 ?_
    refine z_dup (q := 22) dX2_product_21 rfl rfl ?_
    refine z_bipush (q := 24) (v := 42) dX2_product_22 (by decide) rfl ?_
    refine z_aload_n (q := 25) (i := 1) (x := a1) dX2_product_24 rfl rfl rfl ?_
    refine z_aload_n (q := 26) (i := 0) (x := a0) dX2_product_25 rfl rfl rfl ?_
    obtain ⟨mc_10, hf⟩ := hf
    obtain ⟨ms_11, hf⟩ := hf
    obtain ⟨rc_12, g_13, hf⟩ := hf
    obtain ⟨rs_14, g_15, hf⟩ := hf
    obtain ⟨g_16, hf⟩ := hf
    refine z_cXr (m_X2_part d mc_10 ms_11) [] (a0) (q := 29) (rc2 := rc_12) (rs2 := rs_14) (st := [.ref a1, .int 42, .ref (h_5.n), .ref (h_5.n)]) dX2_product_26 rfl q830 (oV_X2_part _ _ _) rfl rfl (z_room_of (by first | exact z_le rfl | (simp only [z_M.d, z_M.nL, z_M.lo, m_X2_part, m_X2_product]; omega)) (by first | exact z_le rfl | (simp only [z_M.d, z_M.nL, z_M.lo, m_X2_part, m_X2_product]; omega))) (z_le rfl) (z_rcv_of 1 rfl g_16 rfl) g_13  g_15 hf (fun C0 x h1 hX => z_out rfl hX) (fun b_17 h_18 hf => ?_)
    refine z_cIv m_X19_init [.int 42, .ref a1, .ref b_17] ((h_5.n)) (q := 32) (rc2 := rc_12) (rs2 := rs_14) (st := [.ref (h_5.n)]) dX2_product_29 rfl q883 oI_X19_init rfl rfl (z_room_of (by first | exact z_le rfl | (simp only [z_M.d, z_M.nL, z_M.lo, m_X19_init, m_X2_product]; omega)) (by first | exact z_le rfl | (simp only [z_M.d, z_M.nL, z_M.lo, m_X19_init, m_X2_product]; omega))) (z_le rfl) rfl  rfl hf (fun h_19 hf => ?_)
    refine z_astore_n (q := 33) (i := 1) (ls2 := [some (.ref a0), some (.ref (h_5.n))]) (x := (h_5.n)) dX2_product_32 rfl (z_lt rfl) rfl rfl ?_
    refine z_goto (q := 5) dX2_product_33 rfl ?_
    exact hf

theorem u_X2_row {l : Launch} {G : z_G} {mc ms : Nat} {a0 : Nat} {a1 : Nat} {x2 : Int32} {h : z_H} {Q : z_Q} {X : z_QX} (hst : l.stackTraces = false)  (hf : (h.T a0).1 = 11 ∧ ((h.I a0 3) = 1 → z_Ct l G m_X2_which [.ref a0, .ref (G.sk 9)] h (z_Qi (fun x_2 h_3 => (x_2 < 0 → z_V l G (m_X2_row mc ms) (z_Fx G (m_X2_row mc ms) Q X) mc ms h_3 25 [some (.ref a0), some (.ref a1), some (.int x2), none, none, none] []) ∧ (¬ x_2 < 0 → (h_3.T a0).1 = 11 ∧ ((h_3.I a0 3) = 2 → z_V l G (m_X2_row mc ms) (z_Fx G (m_X2_row mc ms) Q X) mc ms h_3 25 [some (.ref a0), some (.ref a1), some (.int x2), none, none, none] []) ∧ (¬ (h_3.I a0 3) = 2 → Q none h_3))))) ∧ (¬ (h.I a0 3) = 1 → ((h.I a0 3) = 2 → z_V l G (m_X2_row mc ms) (z_Fx G (m_X2_row mc ms) Q X) mc ms h 25 [some (.ref a0), some (.ref a1), some (.int x2), none, none, none] []) ∧ (¬ (h.I a0 3) = 2 → Q none h))) : z_Cz l G (m_X2_row mc ms) [.ref a0, .ref a1, .int x2] h Q X := by
  refine z_Cz.of (ls := [some (.ref a0), some (.ref a1), some (.int x2), none, none, none]) hst rfl (by show plainName yX2_row.cls = true; decide +kernel) (z_le rfl) rfl ?_
  show z_V l G (m_X2_row mc ms) (z_Fx G (m_X2_row mc ms) Q X) mc ms h 0 [some (.ref a0), some (.ref a1), some (.int x2), none, none, none] []
  refine z_aload_n (q := 1) (i := 0) (x := a0) dX2_row_0 rfl rfl rfl ?_
  obtain ⟨g_1, hf⟩ := hf
  refine z_get 1 3 (q := 4) (v := .int (h.I a0 3)) rfl (z_lt rfl) g_1 q181 dX2_row_1 rfl rfl ?_
  refine z_iconst (q := 5) (v := 1) dX2_row_4 rfl rfl ?_
  refine z_icmp_ne (q := 8) (tgt := 17) dX2_row_5 rfl rfl (fun hc => ?_) (fun hc => ?_)
  · have hf := hf.2 hc
    refine z_aload_n (q := 18) (i := 0) (x := a0) dX2_row_17 rfl rfl rfl ?_
    refine z_get 1 3 (q := 21) (v := .int (h.I a0 3)) rfl (z_lt rfl) g_1 q181 dX2_row_18 rfl rfl ?_
    refine z_iconst (q := 22) (v := 2) dX2_row_21 rfl rfl ?_
    refine z_icmp_ne (q := 25) (tgt := 107) dX2_row_22 rfl rfl (fun hc => ?_) (fun hc => ?_)
    · have hf := hf.2 hc
      refine z_V.x ?_
      exact z_vret dX2_row_107 rfl hf
    · have hf := hf.1 hc
      exact hf
  · have hf := hf.1 hc
    refine z_aload_n (q := 9) (i := 0) (x := a0) dX2_row_8 rfl rfl rfl ?_
    refine z_ldcS (q := 11) (j := 9) dX2_row_9 rfl rfl rfl ?_
    refine z_cVi m_X2_which [.ref (G.sk 9)] (a0) (q := 14) (rc2 := mc) (rs2 := ms) (st := []) dX2_row_11 rfl q701 oV_X2_which rfl rfl ⟨z_le rfl, z_le rfl⟩ (z_le rfl) (z_rcv_of 1 rfl g_1 rfl) rfl  rfl hf (fun x_2 h_3 hf => ?_)
    refine z_if_lt (q := 17) (tgt := 25) dX2_row_14 rfl rfl (fun hc => ?_) (fun hc => ?_)
    · have hf := hf.1 hc
      exact hf
    · have hf := hf.2 hc
      refine z_aload_n (q := 18) (i := 0) (x := a0) dX2_row_17 rfl rfl rfl ?_
      obtain ⟨g_4, hf⟩ := hf
      refine z_get 1 3 (q := 21) (v := .int (h_3.I a0 3)) rfl (z_lt rfl) g_4 q181 dX2_row_18 rfl rfl ?_
      refine z_iconst (q := 22) (v := 2) dX2_row_21 rfl rfl ?_
      refine z_icmp_ne (q := 25) (tgt := 107) dX2_row_22 rfl rfl (fun hc => ?_) (fun hc => ?_)
      · have hf := hf.2 hc
        refine z_V.x ?_
        exact z_vret dX2_row_107 rfl hf
      · have hf := hf.1 hc
        exact hf

theorem b_X2_row_25 {l : Launch} {G : z_G} {mc ms : Nat} {rc rs : Nat} {a0 : Nat} {a1 : Nat} {x2 : Int32} {h : z_H} {Q : z_Q} {X : z_QX}  (hf : (h.T a0).1 = 11 ∧ ((h.I a0 3) = 2 → ∃ rc_17, rc = rc_17 + 2 ∧ ∃ rs_19, rs = rs_19 + 14 ∧ z_Cz l G m_X2_number [.ref a0, .int 1, .int 12] h (z_Qi (fun x_21 h_22 => ∃ rc_23, rc_17 = rc_23 + 6 ∧ ∃ rs_25, rs_19 = rs_25 + 38 ∧ (h_22.T a0).1 = 11 ∧ z_Cz l G m_X2_told [.ref a0] h_22 (z_Qi (fun x_28 h_29 => z_L10 h_29 a1 ∧ (((h_29.I a1 1) + x_21) ≤ x2 → z_V l G (m_X2_row mc ms) (z_Fx G (m_X2_row mc ms) Q X) rc_23 rs_25 h_29 70 [some (.ref a0), some (.ref a1), some (.int x2), some (.int x_21), some (.int x_28), some (.int 0)] []) ∧ (¬ ((h_29.I a1 1) + x_21) ≤ x2 → ∃ rc_31, rc_23 = rc_31 + 1 ∧ ∃ rs_33, rs_25 = rs_33 + 7 ∧ (h_29.T a0).1 = 11 ∧ z_Ct l G m_X2_wrong [.ref a0, .int 5] h_29 (z_Qr (fun b_36 h_37 => (h_37.T b_36).1 = 22 ∧ X "BeggarHeaps$Wrong" b_36 h_37))))) X)) X) ∧ (¬ (h.I a0 3) = 2 → ∃ rc_2, rc = rc_2 + 6 ∧ ∃ rs_4, rs = rs_4 + 38 ∧ z_Cz l G m_X2_told [.ref a0] h (z_Qi (fun x_6 h_7 => z_L10 h_7 a1 ∧ (((h_7.I a1 1) + 1) ≤ x2 → z_V l G (m_X2_row mc ms) (z_Fx G (m_X2_row mc ms) Q X) rc_2 rs_4 h_7 70 [some (.ref a0), some (.ref a1), some (.int x2), some (.int 1), some (.int x_6), some (.int 0)] []) ∧ (¬ ((h_7.I a1 1) + 1) ≤ x2 → ∃ rc_9, rc_2 = rc_9 + 1 ∧ ∃ rs_11, rs_4 = rs_11 + 7 ∧ (h_7.T a0).1 = 11 ∧ z_Ct l G m_X2_wrong [.ref a0, .int 5] h_7 (z_Qr (fun b_14 h_15 => (h_15.T b_14).1 = 22 ∧ X "BeggarHeaps$Wrong" b_14 h_15))))) X)) : z_V l G (m_X2_row mc ms) (z_Fx G (m_X2_row mc ms) Q X) rc rs h 25 [some (.ref a0), some (.ref a1), some (.int x2), none, none, none] [] := by
  refine z_aload_n (q := 26) (i := 0) (x := a0) dX2_row_25 rfl rfl rfl ?_
  obtain ⟨g_1, hf⟩ := hf
  refine z_get 1 3 (q := 29) (v := .int (h.I a0 3)) rfl (z_lt rfl) g_1 q181 dX2_row_26 rfl rfl ?_
  refine z_iconst (q := 30) (v := 2) dX2_row_29 rfl rfl ?_
  refine z_icmp_ne (q := 33) (tgt := 43) dX2_row_30 rfl rfl (fun hc => ?_) (fun hc => ?_)
  · have hf := hf.2 hc
    refine z_iconst (q := 44) (v := 1) dX2_row_43 rfl rfl ?_
    refine z_istore_n (q := 45) (i := 3) (ls2 := [some (.ref a0), some (.ref a1), some (.int x2), some (.int 1), none, none]) (x := 1) dX2_row_44 rfl (z_lt rfl) rfl rfl ?_
    refine z_aload_n (q := 46) (i := 0) (x := a0) dX2_row_45 rfl rfl rfl ?_
    obtain ⟨rc_2, g_3, hf⟩ := hf
    obtain ⟨rs_4, g_5, hf⟩ := hf
    refine z_cXi m_X2_told [] (a0) (q := 49) (rc2 := rc_2) (rs2 := rs_4) (st := []) dX2_row_46 rfl q1161 oV_X2_told rfl rfl ⟨z_le rfl, z_le rfl⟩ (z_le rfl) (z_rcv_of 1 rfl g_1 rfl) g_3  g_5 hf (fun C0 x h1 hX => z_out rfl hX) (fun x_6 h_7 hf => ?_)
    refine z_istore (q := 51) (i := 4) (ls2 := [some (.ref a0), some (.ref a1), some (.int x2), some (.int 1), some (.int x_6), none]) (x := x_6) dX2_row_49 (z_lt rfl) rfl rfl ?_
    refine z_aload_n (q := 52) (i := 1) (x := a1) dX2_row_51 rfl rfl rfl ?_
    obtain ⟨g_8, hf⟩ := hf
    refine z_getN 10 1 (q := 55) (v := .int (h_7.I a1 1)) rfl (z_lt rfl) (z_L10_T g_8) (z_nwm q487 rfl) dX2_row_52 rfl rfl ?_
    refine z_iload_n (q := 56) (i := 3) (x := 1) dX2_row_55 rfl rfl rfl ?_
    refine z_iadd (q := 57) dX2_row_56 rfl ?_
    refine z_iload_n (q := 58) (i := 2) (x := x2) dX2_row_57 rfl rfl rfl ?_
    refine z_icmp_le (q := 61) (tgt := 67) dX2_row_58 rfl rfl (fun hc => ?_) (fun hc => ?_)
    · have hf := hf.1 hc
      refine z_iconst (q := 68) (v := 0) dX2_row_67 rfl rfl ?_
      refine z_istore (q := 70) (i := 5) (ls2 := [some (.ref a0), some (.ref a1), some (.int x2), some (.int 1), some (.int x_6), some (.int 0)]) (x := 0) dX2_row_68 (z_lt rfl) rfl rfl ?_
      exact hf
    · have hf := hf.2 hc
      refine z_aload_n (q := 62) (i := 0) (x := a0) dX2_row_61 rfl rfl rfl ?_
      refine z_iconst (q := 63) (v := 5) dX2_row_62 rfl rfl ?_
      obtain ⟨rc_9, g_10, hf⟩ := hf
      obtain ⟨rs_11, g_12, hf⟩ := hf
      obtain ⟨g_13, hf⟩ := hf
      refine z_cVr m_X2_wrong [.int 5] (a0) (q := 66) (rc2 := rc_9) (rs2 := rs_11) (st := []) dX2_row_63 rfl q727 oV_X2_wrong rfl rfl ⟨z_le rfl, z_le rfl⟩ (z_le rfl) (z_rcv_of 1 rfl g_13 rfl) g_10  g_12 hf (fun b_14 h_15 hf => ?_)
      obtain ⟨g_16, hf⟩ := hf
      exact z_athrow (c := 12) rfl g_16 dX2_row_66 (z_out rfl hf)
  · have hf := hf.1 hc
    refine z_aload_n (q := 34) (i := 0) (x := a0) dX2_row_33 rfl rfl rfl ?_
    refine z_iconst (q := 35) (v := 1) dX2_row_34 rfl rfl ?_
    refine z_bipush (q := 37) (v := 12) dX2_row_35 (by decide) rfl ?_
    obtain ⟨rc_17, g_18, hf⟩ := hf
    obtain ⟨rs_19, g_20, hf⟩ := hf
    refine z_cXi m_X2_number [.int 1, .int 12] (a0) (q := 40) (rc2 := rc_17) (rs2 := rs_19) (st := []) dX2_row_37 rfl q842 oV_X2_number rfl rfl ⟨z_le rfl, z_le rfl⟩ (z_le rfl) (z_rcv_of 1 rfl g_1 rfl) g_18  g_20 hf (fun C0 x h1 hX => z_out rfl hX) (fun x_21 h_22 hf => ?_)
    refine z_goto (q := 44) dX2_row_40 rfl ?_
    refine z_istore_n (q := 45) (i := 3) (ls2 := [some (.ref a0), some (.ref a1), some (.int x2), some (.int x_21), none, none]) (x := x_21) dX2_row_44 rfl (z_lt rfl) rfl rfl ?_
    refine z_aload_n (q := 46) (i := 0) (x := a0) dX2_row_45 rfl rfl rfl ?_
    obtain ⟨rc_23, g_24, hf⟩ := hf
    obtain ⟨rs_25, g_26, hf⟩ := hf
    obtain ⟨g_27, hf⟩ := hf
    refine z_cXi m_X2_told [] (a0) (q := 49) (rc2 := rc_23) (rs2 := rs_25) (st := []) dX2_row_46 rfl q1161 oV_X2_told rfl rfl ⟨z_le rfl, z_le rfl⟩ (z_le rfl) (z_rcv_of 1 rfl g_27 rfl) g_24  g_26 hf (fun C0 x h1 hX => z_out rfl hX) (fun x_28 h_29 hf => ?_)
    refine z_istore (q := 51) (i := 4) (ls2 := [some (.ref a0), some (.ref a1), some (.int x2), some (.int x_21), some (.int x_28), none]) (x := x_28) dX2_row_49 (z_lt rfl) rfl rfl ?_
    refine z_aload_n (q := 52) (i := 1) (x := a1) dX2_row_51 rfl rfl rfl ?_
    obtain ⟨g_30, hf⟩ := hf
    refine z_getN 10 1 (q := 55) (v := .int (h_29.I a1 1)) rfl (z_lt rfl) (z_L10_T g_30) (z_nwm q487 rfl) dX2_row_52 rfl rfl ?_
    refine z_iload_n (q := 56) (i := 3) (x := x_21) dX2_row_55 rfl rfl rfl ?_
    refine z_iadd (q := 57) dX2_row_56 rfl ?_
    refine z_iload_n (q := 58) (i := 2) (x := x2) dX2_row_57 rfl rfl rfl ?_
    refine z_icmp_le (q := 61) (tgt := 67) dX2_row_58 rfl rfl (fun hc => ?_) (fun hc => ?_)
    · have hf := hf.1 hc
      refine z_iconst (q := 68) (v := 0) dX2_row_67 rfl rfl ?_
      refine z_istore (q := 70) (i := 5) (ls2 := [some (.ref a0), some (.ref a1), some (.int x2), some (.int x_21), some (.int x_28), some (.int 0)]) (x := 0) dX2_row_68 (z_lt rfl) rfl rfl ?_
      exact hf
    · have hf := hf.2 hc
      refine z_aload_n (q := 62) (i := 0) (x := a0) dX2_row_61 rfl rfl rfl ?_
      refine z_iconst (q := 63) (v := 5) dX2_row_62 rfl rfl ?_
      obtain ⟨rc_31, g_32, hf⟩ := hf
      obtain ⟨rs_33, g_34, hf⟩ := hf
      obtain ⟨g_35, hf⟩ := hf
      refine z_cVr m_X2_wrong [.int 5] (a0) (q := 66) (rc2 := rc_31) (rs2 := rs_33) (st := []) dX2_row_63 rfl q727 oV_X2_wrong rfl rfl ⟨z_le rfl, z_le rfl⟩ (z_le rfl) (z_rcv_of 1 rfl g_35 rfl) g_32  g_34 hf (fun b_36 h_37 hf => ?_)
      obtain ⟨g_38, hf⟩ := hf
      exact z_athrow (c := 12) rfl g_38 dX2_row_66 (z_out rfl hf)

theorem b_X2_row_70 {l : Launch} {G : z_G} {mc ms : Nat} {rc rs : Nat} {a0 : Nat} {a1 : Nat} {x2 : Int32} {x3 : Int32} {x4 : Int32} {x5 : Int32} {h : z_H} {Q : z_Q} {X : z_QX}  (hf : (x3 ≤ x5 → (h.T a0).1 = 11 ∧ z_Ct l G m_X2_next [.ref a0] h (z_Qv (fun h_2 => z_V l G (m_X2_row mc ms) (z_Fx G (m_X2_row mc ms) Q X) rc rs h_2 0 [some (.ref a0), some (.ref a1), some (.int x2), none, none, none] []))) ∧ (¬ x3 ≤ x5 → z_L10 h a1 ∧ vp_in (h.I a1 1) 24 ∧ z_V l G (m_X2_row mc ms) (z_Fx G (m_X2_row mc ms) Q X) rc rs ((h.sI a1 1 ((h.I a1 1) + 1)).sI (a1 + 1) (Int32.toNatClampNeg (h.I a1 1)) x4) 70 [some (.ref a0), some (.ref a1), some (.int x2), some (.int x3), some (.int x4), some (.int (x5 + 1))] [])) : z_V l G (m_X2_row mc ms) (z_Fx G (m_X2_row mc ms) Q X) rc rs h 70 [some (.ref a0), some (.ref a1), some (.int x2), some (.int x3), some (.int x4), some (.int x5)] [] := by
  refine z_iload (q := 72) (i := 5) (x := x5) dX2_row_70 rfl rfl ?_
  refine z_iload_n (q := 73) (i := 3) (x := x3) dX2_row_72 rfl rfl rfl ?_
  refine z_icmp_ge (q := 76) (tgt := 100) dX2_row_73 rfl rfl (fun hc => ?_) (fun hc => ?_)
  · have hf := hf.1 hc
    refine z_aload_n (q := 101) (i := 0) (x := a0) dX2_row_100 rfl rfl rfl ?_
    obtain ⟨g_1, hf⟩ := hf
    refine z_cVv m_X2_next [] (a0) (q := 104) (rc2 := rc) (rs2 := rs) (st := []) dX2_row_101 rfl q593 oV_X2_next rfl rfl ⟨z_le rfl, z_le rfl⟩ (z_le rfl) (z_rcv_of 1 rfl g_1 rfl) rfl  rfl hf (fun h_2 hf => ?_)
    refine z_goto (q := 0) dX2_row_104 rfl ?_
    refine z_prune [true, true, true, false, false, false] (ls2 := [some (.ref a0), some (.ref a1), some (.int x2), none, none, none]) rfl ?_
    exact hf
  · have hf := hf.2 hc
    refine z_aload_n (q := 77) (i := 1) (x := a1) dX2_row_76 rfl rfl rfl ?_
    obtain ⟨g_3, hf⟩ := hf
    refine z_getN 10 0 (q := 80) (v := .ref (a1 + 1)) rfl (z_lt rfl) (z_L10_T g_3) (z_nwm q485 rfl) dX2_row_77 rfl (z_fvR (fun _ _ _ => rfl) (z_L10_P0 g_3)) ?_
    refine z_aload_n (q := 81) (i := 1) (x := a1) dX2_row_80 rfl rfl rfl ?_
    refine z_dup (q := 82) dX2_row_81 rfl rfl ?_
    refine z_getN 10 1 (q := 85) (v := .int (h.I a1 1)) rfl (z_lt rfl) (z_L10_T g_3) (z_nwm q487 rfl) dX2_row_82 rfl rfl ?_
    refine z_dup_x1 (q := 86) dX2_row_85 rfl rfl rfl ?_
    refine z_iconst (q := 87) (v := 1) dX2_row_86 rfl rfl ?_
    refine z_iadd (q := 88) dX2_row_87 rfl ?_
    refine z_putIN 10 1 (q := 91) (x := ((h.I a1 1) + 1)) (v := .int ((h.I a1 1) + 1)) rfl (z_lt rfl) (z_L10_T g_3) (z_nwm q487 rfl) rfl dX2_row_88 rfl rfl rfl rfl (fun _ _ _ => rfl) ?_
    refine z_iload (q := 93) (i := 4) (x := x4) dX2_row_91 rfl rfl ?_
    obtain ⟨g_4, hf⟩ := hf
    refine z_iast (q := 94) (n := 24) (z_L10_A0 g_3) g_4 dX2_row_93 rfl ?_
    refine z_iinc (q := 97) (i := 5) (x := x5) (v := (x5 + 1)) (ls2 := [some (.ref a0), some (.ref a1), some (.int x2), some (.int x3), some (.int x4), some (.int (x5 + 1))]) dX2_row_94 rfl rfl (z_lt rfl) rfl rfl ?_
    refine z_goto (q := 70) dX2_row_97 rfl ?_
    exact hf

theorem b_X2_row_0 {l : Launch} {G : z_G} {mc ms : Nat} {rc rs : Nat} {a0 : Nat} {a1 : Nat} {x2 : Int32} {h : z_H} {Q : z_Q} {X : z_QX}  (hf : (h.T a0).1 = 11 ∧ ((h.I a0 3) = 1 → z_Ct l G m_X2_which [.ref a0, .ref (G.sk 9)] h (z_Qi (fun x_2 h_3 => (x_2 < 0 → z_V l G (m_X2_row mc ms) (z_Fx G (m_X2_row mc ms) Q X) rc rs h_3 25 [some (.ref a0), some (.ref a1), some (.int x2), none, none, none] []) ∧ (¬ x_2 < 0 → (h_3.T a0).1 = 11 ∧ ((h_3.I a0 3) = 2 → z_V l G (m_X2_row mc ms) (z_Fx G (m_X2_row mc ms) Q X) rc rs h_3 25 [some (.ref a0), some (.ref a1), some (.int x2), none, none, none] []) ∧ (¬ (h_3.I a0 3) = 2 → Q none h_3))))) ∧ (¬ (h.I a0 3) = 1 → ((h.I a0 3) = 2 → z_V l G (m_X2_row mc ms) (z_Fx G (m_X2_row mc ms) Q X) rc rs h 25 [some (.ref a0), some (.ref a1), some (.int x2), none, none, none] []) ∧ (¬ (h.I a0 3) = 2 → Q none h))) : z_V l G (m_X2_row mc ms) (z_Fx G (m_X2_row mc ms) Q X) rc rs h 0 [some (.ref a0), some (.ref a1), some (.int x2), none, none, none] [] := by
  refine z_aload_n (q := 1) (i := 0) (x := a0) dX2_row_0 rfl rfl rfl ?_
  obtain ⟨g_1, hf⟩ := hf
  refine z_get 1 3 (q := 4) (v := .int (h.I a0 3)) rfl (z_lt rfl) g_1 q181 dX2_row_1 rfl rfl ?_
  refine z_iconst (q := 5) (v := 1) dX2_row_4 rfl rfl ?_
  refine z_icmp_ne (q := 8) (tgt := 17) dX2_row_5 rfl rfl (fun hc => ?_) (fun hc => ?_)
  · have hf := hf.2 hc
    refine z_aload_n (q := 18) (i := 0) (x := a0) dX2_row_17 rfl rfl rfl ?_
    refine z_get 1 3 (q := 21) (v := .int (h.I a0 3)) rfl (z_lt rfl) g_1 q181 dX2_row_18 rfl rfl ?_
    refine z_iconst (q := 22) (v := 2) dX2_row_21 rfl rfl ?_
    refine z_icmp_ne (q := 25) (tgt := 107) dX2_row_22 rfl rfl (fun hc => ?_) (fun hc => ?_)
    · have hf := hf.2 hc
      refine z_V.x ?_
      exact z_vret dX2_row_107 rfl hf
    · have hf := hf.1 hc
      exact hf
  · have hf := hf.1 hc
    refine z_aload_n (q := 9) (i := 0) (x := a0) dX2_row_8 rfl rfl rfl ?_
    refine z_ldcS (q := 11) (j := 9) dX2_row_9 rfl rfl rfl ?_
    refine z_cVi m_X2_which [.ref (G.sk 9)] (a0) (q := 14) (rc2 := rc) (rs2 := rs) (st := []) dX2_row_11 rfl q701 oV_X2_which rfl rfl ⟨z_le rfl, z_le rfl⟩ (z_le rfl) (z_rcv_of 1 rfl g_1 rfl) rfl  rfl hf (fun x_2 h_3 hf => ?_)
    refine z_if_lt (q := 17) (tgt := 25) dX2_row_14 rfl rfl (fun hc => ?_) (fun hc => ?_)
    · have hf := hf.1 hc
      exact hf
    · have hf := hf.2 hc
      refine z_aload_n (q := 18) (i := 0) (x := a0) dX2_row_17 rfl rfl rfl ?_
      obtain ⟨g_4, hf⟩ := hf
      refine z_get 1 3 (q := 21) (v := .int (h_3.I a0 3)) rfl (z_lt rfl) g_4 q181 dX2_row_18 rfl rfl ?_
      refine z_iconst (q := 22) (v := 2) dX2_row_21 rfl rfl ?_
      refine z_icmp_ne (q := 25) (tgt := 107) dX2_row_22 rfl rfl (fun hc => ?_) (fun hc => ?_)
      · have hf := hf.2 hc
        refine z_V.x ?_
        exact z_vret dX2_row_107 rfl hf
      · have hf := hf.1 hc
        exact hf

theorem u_X2_sum {l : Launch} {G : z_G} {d : Nat} {mc ms : Nat} {a0 : Nat} {h : z_H} {Q : z_Q} {X : z_QX} (hst : l.stackTraces = false)  (hf : ∃ mc_1, ∃ ms_2, ∃ rc_3, mc = rc_3 + mc_1 ∧ ∃ rs_5, ms = rs_5 + ms_2 ∧ (h.T a0).1 = 11 ∧ z_Cz l G (m_X2_product d mc_1 ms_2) [.ref a0] h (z_Qr (fun b_8 h_9 => z_V l G (m_X2_sum d mc ms) (z_Fx G (m_X2_sum d mc ms) Q X) rc_3 rs_5 h_9 5 [some (.ref a0), some (.ref b_8), none] [])) X) : z_Cz l G (m_X2_sum d mc ms) [.ref a0] h Q X := by
  refine z_Cz.of (ls := [some (.ref a0), none, none]) hst rfl (by show plainName yX2_sum.cls = true; decide +kernel) (z_le rfl) rfl ?_
  show z_V l G (m_X2_sum d mc ms) (z_Fx G (m_X2_sum d mc ms) Q X) mc ms h 0 [some (.ref a0), none, none] []
  refine z_aload_n (q := 1) (i := 0) (x := a0) dX2_sum_0 rfl rfl rfl ?_
  obtain ⟨mc_1, hf⟩ := hf
  obtain ⟨ms_2, hf⟩ := hf
  obtain ⟨rc_3, g_4, hf⟩ := hf
  obtain ⟨rs_5, g_6, hf⟩ := hf
  obtain ⟨g_7, hf⟩ := hf
  refine z_cXr (m_X2_product d mc_1 ms_2) [] (a0) (q := 4) (rc2 := rc_3) (rs2 := rs_5) (st := []) dX2_sum_1 rfl q826 (oV_X2_product _ _ _) rfl rfl (z_room_of (by first | exact z_le rfl | (simp only [z_M.d, z_M.nL, z_M.lo, m_X2_product, m_X2_sum]; omega)) (by first | exact z_le rfl | (simp only [z_M.d, z_M.nL, z_M.lo, m_X2_product, m_X2_sum]; omega))) (z_le rfl) (z_rcv_of 1 rfl g_7 rfl) g_4  g_6 hf (fun C0 x h1 hX => z_out rfl hX) (fun b_8 h_9 hf => ?_)
  refine z_astore_n (q := 5) (i := 1) (ls2 := [some (.ref a0), some (.ref b_8), none]) (x := b_8) dX2_sum_4 rfl (z_lt rfl) rfl rfl ?_
  exact hf

theorem b_X2_sum_5 {l : Launch} {G : z_G} {d : Nat} {mc ms : Nat} {rc rs : Nat} {a0 : Nat} {a1 : Nat} {h : z_H} {Q : z_Q} {X : z_QX}  (hf : (h.T a0).1 = 11 ∧ z_Ct l G m_X2_isSign [.ref a0, .int 43] h (z_Qi (fun x_2 h_3 => (x_2 = 0 → (h_3.T a0).1 = 11 ∧ z_Ct l G m_X2_isSign [.ref a0, .int 45] h_3 (z_Qi (fun x_26 h_27 => (x_26 = 0 → Q (some (.ref a1)) h_27) ∧ (¬ x_26 = 0 → (h_27.T a0).1 = 11 ∧ z_Ct l G m_X2_isSign [.ref a0, .int 43] h_27 (z_Qi (fun x_29 h_30 => ∀ v_31 : Int32, v_31 = (if x_29 = 0 then 45 else 43) → (h_30.T a0).1 = 11 ∧ z_Ct l G m_X2_next [.ref a0] h_30 (z_Qv (fun h_34 => ∃ rc_35, rc = rc_35 + 1 ∧ ∃ rs_37, rs = rs_37 + 3 ∧ ∃ mc_39, ∃ ms_40, ∃ rc_41, rc_35 = rc_41 + mc_39 ∧ ∃ rs_43, rs_37 = rs_43 + ms_40 ∧ ((h_34.nw (26, 0)).T a0).1 = 11 ∧ z_Cz l G (m_X2_product d mc_39 ms_40) [.ref a0] (h_34.nw (26, 0)) (z_Qr (fun b_46 h_47 => z_Ct l G m_X19_init [.ref (h_34.n), .int v_31, .ref a1, .ref b_46] h_47 (z_Qv (fun h_48 => z_V l G (m_X2_sum d mc ms) (z_Fx G (m_X2_sum d mc ms) Q X) rc_41 rs_43 h_48 5 [some (.ref a0), some (.ref (h_34.n)), none] [])))) X)))))))) ∧ (¬ x_2 = 0 → (h_3.T a0).1 = 11 ∧ z_Ct l G m_X2_isSign [.ref a0, .int 43] h_3 (z_Qi (fun x_5 h_6 => ∀ v_7 : Int32, v_7 = (if x_5 = 0 then 45 else 43) → (h_6.T a0).1 = 11 ∧ z_Ct l G m_X2_next [.ref a0] h_6 (z_Qv (fun h_10 => ∃ rc_11, rc = rc_11 + 1 ∧ ∃ rs_13, rs = rs_13 + 3 ∧ ∃ mc_15, ∃ ms_16, ∃ rc_17, rc_11 = rc_17 + mc_15 ∧ ∃ rs_19, rs_13 = rs_19 + ms_16 ∧ ((h_10.nw (26, 0)).T a0).1 = 11 ∧ z_Cz l G (m_X2_product d mc_15 ms_16) [.ref a0] (h_10.nw (26, 0)) (z_Qr (fun b_22 h_23 => z_Ct l G m_X19_init [.ref (h_10.n), .int v_7, .ref a1, .ref b_22] h_23 (z_Qv (fun h_24 => z_V l G (m_X2_sum d mc ms) (z_Fx G (m_X2_sum d mc ms) Q X) rc_17 rs_19 h_24 5 [some (.ref a0), some (.ref (h_10.n)), none] [])))) X)))))))) : z_V l G (m_X2_sum d mc ms) (z_Fx G (m_X2_sum d mc ms) Q X) rc rs h 5 [some (.ref a0), some (.ref a1), none] [] := by
  refine z_aload_n (q := 6) (i := 0) (x := a0) dX2_sum_5 rfl rfl rfl ?_
  refine z_bipush (q := 8) (v := 43) dX2_sum_6 (by decide) rfl ?_
  obtain ⟨g_1, hf⟩ := hf
  refine z_cVi m_X2_isSign [.int 43] (a0) (q := 11) (rc2 := rc) (rs2 := rs) (st := []) dX2_sum_8 rfl q836 oV_X2_isSign rfl rfl (z_room_of (by first | exact z_le rfl | (simp only [z_M.d, z_M.nL, z_M.lo, m_X2_isSign, m_X2_sum]; omega)) (by first | exact z_le rfl | (simp only [z_M.d, z_M.nL, z_M.lo, m_X2_isSign, m_X2_sum]; omega))) (z_le rfl) (z_rcv_of 1 rfl g_1 rfl) rfl  rfl hf (fun x_2 h_3 hf => ?_)
  refine z_if_ne (q := 14) (tgt := 23) dX2_sum_11 rfl rfl (fun hc => ?_) (fun hc => ?_)
  · have hf := hf.2 hc
    refine z_aload_n (q := 24) (i := 0) (x := a0) dX2_sum_23 rfl rfl rfl ?_
    refine z_bipush (q := 26) (v := 43) dX2_sum_24 (by decide) rfl ?_
    obtain ⟨g_4, hf⟩ := hf
    refine z_cVi m_X2_isSign [.int 43] (a0) (q := 29) (rc2 := rc) (rs2 := rs) (st := []) dX2_sum_26 rfl q836 oV_X2_isSign rfl rfl (z_room_of (by first | exact z_le rfl | (simp only [z_M.d, z_M.nL, z_M.lo, m_X2_isSign, m_X2_sum]; omega)) (by first | exact z_le rfl | (simp only [z_M.d, z_M.nL, z_M.lo, m_X2_isSign, m_X2_sum]; omega))) (z_le rfl) (z_rcv_of 1 rfl g_4 rfl) rfl  rfl hf (fun x_5 h_6 hf => ?_)
    have hk : z_V l G (m_X2_sum d mc ms) (z_Fx G (m_X2_sum d mc ms) Q X) rc rs h_6 39 [some (.ref a0), some (.ref a1), none] [.int (if x_5 = 0 then 45 else 43)] := by
      refine z_nmI (fun v_7 hv_8 => ?_)
      have hf := hf v_7 hv_8
      refine z_istore_n (q := 40) (i := 2) (ls2 := [some (.ref a0), some (.ref a1), some (.int v_7)]) (x := v_7) dX2_sum_39 rfl (z_lt rfl) rfl rfl ?_
      refine z_aload_n (q := 41) (i := 0) (x := a0) dX2_sum_40 rfl rfl rfl ?_
      obtain ⟨g_9, hf⟩ := hf
      refine z_cVv m_X2_next [] (a0) (q := 44) (rc2 := rc) (rs2 := rs) (st := []) dX2_sum_41 rfl q593 oV_X2_next rfl rfl (z_room_of (by first | exact z_le rfl | (simp only [z_M.d, z_M.nL, z_M.lo, m_X2_next, m_X2_sum]; omega)) (by first | exact z_le rfl | (simp only [z_M.d, z_M.nL, z_M.lo, m_X2_next, m_X2_sum]; omega))) (z_le rfl) (z_rcv_of 1 rfl g_9 rfl) rfl  rfl hf (fun h_10 hf => ?_)
      obtain ⟨rc_11, g_12, hf⟩ := hf
      obtain ⟨rs_13, g_14, hf⟩ := hf
      refine z_new 16 (q := 47) (rc2 := rc_11) (rs2 := rs_13) rfl q881 q882 q152 dX2_sum_44 rfl g_12 g_14 ?_
      refine z_dup (q := 48) dX2_sum_47 rfl rfl ?_
      refine z_iload_n (q := 49) (i := 2) (x := v_7) dX2_sum_48 rfl rfl rfl ?_
      refine z_aload_n (q := 50) (i := 1) (x := a1) dX2_sum_49 rfl rfl rfl ?_
      refine z_aload_n (q := 51) (i := 0) (x := a0) dX2_sum_50 rfl rfl rfl ?_
      obtain ⟨mc_15, hf⟩ := hf
      obtain ⟨ms_16, hf⟩ := hf
      obtain ⟨rc_17, g_18, hf⟩ := hf
      obtain ⟨rs_19, g_20, hf⟩ := hf
      obtain ⟨g_21, hf⟩ := hf
      refine z_cXr (m_X2_product d mc_15 ms_16) [] (a0) (q := 54) (rc2 := rc_17) (rs2 := rs_19) (st := [.ref a1, .int v_7, .ref (h_10.n), .ref (h_10.n)]) dX2_sum_51 rfl q826 (oV_X2_product _ _ _) rfl rfl (z_room_of (by first | exact z_le rfl | (simp only [z_M.d, z_M.nL, z_M.lo, m_X2_product, m_X2_sum]; omega)) (by first | exact z_le rfl | (simp only [z_M.d, z_M.nL, z_M.lo, m_X2_product, m_X2_sum]; omega))) (z_le rfl) (z_rcv_of 1 rfl g_21 rfl) g_18  g_20 hf (fun C0 x h1 hX => z_out rfl hX) (fun b_22 h_23 hf => ?_)
      refine z_cIv m_X19_init [.int v_7, .ref a1, .ref b_22] ((h_10.n)) (q := 57) (rc2 := rc_17) (rs2 := rs_19) (st := [.ref (h_10.n)]) dX2_sum_54 rfl q883 oI_X19_init rfl rfl (z_room_of (by first | exact z_le rfl | (simp only [z_M.d, z_M.nL, z_M.lo, m_X19_init, m_X2_sum]; omega)) (by first | exact z_le rfl | (simp only [z_M.d, z_M.nL, z_M.lo, m_X19_init, m_X2_sum]; omega))) (z_le rfl) rfl  rfl hf (fun h_24 hf => ?_)
      refine z_astore_n (q := 58) (i := 1) (ls2 := [some (.ref a0), some (.ref (h_10.n)), some (.int v_7)]) (x := (h_10.n)) dX2_sum_57 rfl (z_lt rfl) rfl rfl ?_
      refine z_goto (q := 5) dX2_sum_58 rfl ?_
      refine z_prune [true, true, false] (ls2 := [some (.ref a0), some (.ref (h_10.n)), none]) rfl ?_
      exact hf
    refine z_if_eq (q := 32) (tgt := 37) dX2_sum_29 rfl rfl (fun hc => ?_) (fun hc => ?_)
    · have hk := (z_ite hk).1 hc
      refine z_bipush (q := 39) (v := 45) dX2_sum_37 (by decide) rfl ?_
      exact hk
    · have hk := (z_ite hk).2 hc
      refine z_bipush (q := 34) (v := 43) dX2_sum_32 (by decide) rfl ?_
      refine z_goto (q := 39) dX2_sum_34 rfl ?_
      exact hk
  · have hf := hf.1 hc
    refine z_aload_n (q := 15) (i := 0) (x := a0) dX2_sum_14 rfl rfl rfl ?_
    refine z_bipush (q := 17) (v := 45) dX2_sum_15 (by decide) rfl ?_
    obtain ⟨g_25, hf⟩ := hf
    refine z_cVi m_X2_isSign [.int 45] (a0) (q := 20) (rc2 := rc) (rs2 := rs) (st := []) dX2_sum_17 rfl q836 oV_X2_isSign rfl rfl (z_room_of (by first | exact z_le rfl | (simp only [z_M.d, z_M.nL, z_M.lo, m_X2_isSign, m_X2_sum]; omega)) (by first | exact z_le rfl | (simp only [z_M.d, z_M.nL, z_M.lo, m_X2_isSign, m_X2_sum]; omega))) (z_le rfl) (z_rcv_of 1 rfl g_25 rfl) rfl  rfl hf (fun x_26 h_27 hf => ?_)
    refine z_if_eq (q := 23) (tgt := 61) dX2_sum_20 rfl rfl (fun hc => ?_) (fun hc => ?_)
    · have hf := hf.1 hc
      refine z_aload_n (q := 62) (i := 1) (x := a1) dX2_sum_61 rfl rfl rfl ?_
      refine z_V.x ?_
      exact z_aret (r := some a1) rfl dX2_sum_62 rfl (Or.inl ⟨_, rfl⟩) hf
    · have hf := hf.2 hc
      refine z_aload_n (q := 24) (i := 0) (x := a0) dX2_sum_23 rfl rfl rfl ?_
      refine z_bipush (q := 26) (v := 43) dX2_sum_24 (by decide) rfl ?_
      obtain ⟨g_28, hf⟩ := hf
      refine z_cVi m_X2_isSign [.int 43] (a0) (q := 29) (rc2 := rc) (rs2 := rs) (st := []) dX2_sum_26 rfl q836 oV_X2_isSign rfl rfl (z_room_of (by first | exact z_le rfl | (simp only [z_M.d, z_M.nL, z_M.lo, m_X2_isSign, m_X2_sum]; omega)) (by first | exact z_le rfl | (simp only [z_M.d, z_M.nL, z_M.lo, m_X2_isSign, m_X2_sum]; omega))) (z_le rfl) (z_rcv_of 1 rfl g_28 rfl) rfl  rfl hf (fun x_29 h_30 hf => ?_)
      have hk : z_V l G (m_X2_sum d mc ms) (z_Fx G (m_X2_sum d mc ms) Q X) rc rs h_30 39 [some (.ref a0), some (.ref a1), none] [.int (if x_29 = 0 then 45 else 43)] := by
        refine z_nmI (fun v_31 hv_32 => ?_)
        have hf := hf v_31 hv_32
        refine z_istore_n (q := 40) (i := 2) (ls2 := [some (.ref a0), some (.ref a1), some (.int v_31)]) (x := v_31) dX2_sum_39 rfl (z_lt rfl) rfl rfl ?_
        refine z_aload_n (q := 41) (i := 0) (x := a0) dX2_sum_40 rfl rfl rfl ?_
        obtain ⟨g_33, hf⟩ := hf
        refine z_cVv m_X2_next [] (a0) (q := 44) (rc2 := rc) (rs2 := rs) (st := []) dX2_sum_41 rfl q593 oV_X2_next rfl rfl (z_room_of (by first | exact z_le rfl | (simp only [z_M.d, z_M.nL, z_M.lo, m_X2_next, m_X2_sum]; omega)) (by first | exact z_le rfl | (simp only [z_M.d, z_M.nL, z_M.lo, m_X2_next, m_X2_sum]; omega))) (z_le rfl) (z_rcv_of 1 rfl g_33 rfl) rfl  rfl hf (fun h_34 hf => ?_)
        obtain ⟨rc_35, g_36, hf⟩ := hf
        obtain ⟨rs_37, g_38, hf⟩ := hf
        refine z_new 16 (q := 47) (rc2 := rc_35) (rs2 := rs_37) rfl q881 q882 q152 dX2_sum_44 rfl g_36 g_38 ?_
        refine z_dup (q := 48) dX2_sum_47 rfl rfl ?_
        refine z_iload_n (q := 49) (i := 2) (x := v_31) dX2_sum_48 rfl rfl rfl ?_
        refine z_aload_n (q := 50) (i := 1) (x := a1) dX2_sum_49 rfl rfl rfl ?_
        refine z_aload_n (q := 51) (i := 0) (x := a0) dX2_sum_50 rfl rfl rfl ?_
        obtain ⟨mc_39, hf⟩ := hf
        obtain ⟨ms_40, hf⟩ := hf
        obtain ⟨rc_41, g_42, hf⟩ := hf
        obtain ⟨rs_43, g_44, hf⟩ := hf
        obtain ⟨g_45, hf⟩ := hf
        refine z_cXr (m_X2_product d mc_39 ms_40) [] (a0) (q := 54) (rc2 := rc_41) (rs2 := rs_43) (st := [.ref a1, .int v_31, .ref (h_34.n), .ref (h_34.n)]) dX2_sum_51 rfl q826 (oV_X2_product _ _ _) rfl rfl (z_room_of (by first | exact z_le rfl | (simp only [z_M.d, z_M.nL, z_M.lo, m_X2_product, m_X2_sum]; omega)) (by first | exact z_le rfl | (simp only [z_M.d, z_M.nL, z_M.lo, m_X2_product, m_X2_sum]; omega))) (z_le rfl) (z_rcv_of 1 rfl g_45 rfl) g_42  g_44 hf (fun C0 x h1 hX => z_out rfl hX) (fun b_46 h_47 hf => ?_)
        refine z_cIv m_X19_init [.int v_31, .ref a1, .ref b_46] ((h_34.n)) (q := 57) (rc2 := rc_41) (rs2 := rs_43) (st := [.ref (h_34.n)]) dX2_sum_54 rfl q883 oI_X19_init rfl rfl (z_room_of (by first | exact z_le rfl | (simp only [z_M.d, z_M.nL, z_M.lo, m_X19_init, m_X2_sum]; omega)) (by first | exact z_le rfl | (simp only [z_M.d, z_M.nL, z_M.lo, m_X19_init, m_X2_sum]; omega))) (z_le rfl) rfl  rfl hf (fun h_48 hf => ?_)
        refine z_astore_n (q := 58) (i := 1) (ls2 := [some (.ref a0), some (.ref (h_34.n)), some (.int v_31)]) (x := (h_34.n)) dX2_sum_57 rfl (z_lt rfl) rfl rfl ?_
        refine z_goto (q := 5) dX2_sum_58 rfl ?_
        refine z_prune [true, true, false] (ls2 := [some (.ref a0), some (.ref (h_34.n)), none]) rfl ?_
        exact hf
      refine z_if_eq (q := 32) (tgt := 37) dX2_sum_29 rfl rfl (fun hc => ?_) (fun hc => ?_)
      · have hk := (z_ite hk).1 hc
        refine z_bipush (q := 39) (v := 45) dX2_sum_37 (by decide) rfl ?_
        exact hk
      · have hk := (z_ite hk).2 hc
        refine z_bipush (q := 34) (v := 43) dX2_sum_32 (by decide) rfl ?_
        refine z_goto (q := 39) dX2_sum_34 rfl ?_
        exact hk

theorem u_X2_table {l : Launch} {G : z_G} {mc ms : Nat} {a0 : Nat} {h : z_H} {Q : z_Q} {X : z_QX} (hst : l.stackTraces = false)  (hf : ∃ rc_1, mc = rc_1 + 1 ∧ ∃ rs_3, ms = rs_3 + 7 ∧ ∃ rc_5, rc_1 = rc_5 + 4 ∧ ∃ rs_7, rs_3 = rs_7 + 23 ∧ z_Ct l G m_X10_init [.ref (h.n)] (h.nw (18, 0)) (z_Qv (fun h_9 => (h_9.T a0).1 = 11 ∧ z_V l G (m_X2_table mc ms) (z_Fx G (m_X2_table mc ms) Q X) rc_5 rs_7 (h_9.sP a0 7 (some (h.n))) 13 [some (.ref a0), some (.int 0)] []))) : z_Cz l G (m_X2_table mc ms) [.ref a0] h Q X := by
  refine z_Cz.of (ls := [some (.ref a0), none]) hst rfl (by show plainName yX2_table.cls = true; decide +kernel) (z_le rfl) rfl ?_
  show z_V l G (m_X2_table mc ms) (z_Fx G (m_X2_table mc ms) Q X) mc ms h 0 [some (.ref a0), none] []
  refine z_aload_n (q := 1) (i := 0) (x := a0) dX2_table_0 rfl rfl rfl ?_
  obtain ⟨rc_1, g_2, hf⟩ := hf
  obtain ⟨rs_3, g_4, hf⟩ := hf
  refine z_new 8 (q := 4) (rc2 := rc_1) (rs2 := rs_3) rfl q698 q297 q131 dX2_table_1 rfl g_2 g_4 ?_
  refine z_dup (q := 5) dX2_table_4 rfl rfl ?_
  obtain ⟨rc_5, g_6, hf⟩ := hf
  obtain ⟨rs_7, g_8, hf⟩ := hf
  refine z_cINv m_X10_init [] ((h.n)) (q := 8) (rc2 := rc_5) (rs2 := rs_7) (st := [.ref (h.n), .ref a0]) dX2_table_5 rfl (z_nwm q699 rfl) oI_X10_init rfl rfl ⟨z_le rfl, z_le rfl⟩ (z_le rfl) g_6  g_8 hf (fun h_9 hf => ?_)
  obtain ⟨g_10, hf⟩ := hf
  refine z_putP 1 7 (q := 11) (x := some (h.n)) (v := .ref (h.n)) rfl (z_lt rfl) g_10 q185 rfl dX2_table_8 rfl rfl rfl rfl (fun _ _ _ => rfl) ?_
  refine z_iconst (q := 12) (v := 0) dX2_table_11 rfl rfl ?_
  refine z_istore_n (q := 13) (i := 1) (ls2 := [some (.ref a0), some (.int 0)]) (x := 0) dX2_table_12 rfl (z_lt rfl) rfl rfl ?_
  exact hf

theorem b_X2_table_13 {l : Launch} {G : z_G} {mc ms : Nat} {rc rs : Nat} {a0 : Nat} {x1 : Int32} {h : z_H} {Q : z_Q} {X : z_QX}  (hf : (8 ≤ x1 → z_V l G (m_X2_table mc ms) (z_Fx G (m_X2_table mc ms) Q X) rc rs h 35 [some (.ref a0), none] []) ∧ (¬ 8 ≤ x1 → (h.T a0).1 = 11 ∧ ∃ b_2, (h.P a0 7) = some b_2 ∧ z_L8 h b_2 ∧ vp_in x1 8 ∧ z_V l G (m_X2_table mc ms) (z_Fx G (m_X2_table mc ms) Q X) rc rs (h.sI (b_2 + 4) (Int32.toNatClampNeg x1) (-1)) 13 [some (.ref a0), some (.int (x1 + 1))] [])) : z_V l G (m_X2_table mc ms) (z_Fx G (m_X2_table mc ms) Q X) rc rs h 13 [some (.ref a0), some (.int x1)] [] := by
  refine z_iload_n (q := 14) (i := 1) (x := x1) dX2_table_13 rfl rfl rfl ?_
  refine z_bipush (q := 16) (v := 8) dX2_table_14 (by decide) rfl ?_
  refine z_icmp_ge (q := 19) (tgt := 35) dX2_table_16 rfl rfl (fun hc => ?_) (fun hc => ?_)
  · have hf := hf.1 hc
    refine z_prune [true, false] (ls2 := [some (.ref a0), none]) rfl ?_
    exact hf
  · have hf := hf.2 hc
    refine z_aload_n (q := 20) (i := 0) (x := a0) dX2_table_19 rfl rfl rfl ?_
    obtain ⟨g_1, hf⟩ := hf
    obtain ⟨b_2, g_3, hf⟩ := hf
    refine z_get 1 7 (q := 23) (v := .ref b_2) rfl (z_lt rfl) g_1 q185 dX2_table_20 rfl (z_fvR (fun _ _ _ => rfl) g_3) ?_
    obtain ⟨g_4, hf⟩ := hf
    refine z_getN 8 2 (q := 26) (v := .ref (b_2 + 4)) rfl (z_lt rfl) (z_L8_T g_4) (z_nwm q337 rfl) dX2_table_23 rfl (z_fvR (fun _ _ _ => rfl) (z_L8_P2 g_4)) ?_
    refine z_iload_n (q := 27) (i := 1) (x := x1) dX2_table_26 rfl rfl rfl ?_
    refine z_iconst (q := 28) (v := (-1)) dX2_table_27 rfl rfl ?_
    obtain ⟨g_5, hf⟩ := hf
    refine z_iast (q := 29) (n := 8) (z_L8_A2 g_4) g_5 dX2_table_28 rfl ?_
    refine z_iinc (q := 32) (i := 1) (x := x1) (v := (x1 + 1)) (ls2 := [some (.ref a0), some (.int (x1 + 1))]) dX2_table_29 rfl rfl (z_lt rfl) rfl rfl ?_
    refine z_goto (q := 13) dX2_table_32 rfl ?_
    exact hf

theorem b_X2_table_35 {l : Launch} {G : z_G} {mc ms : Nat} {rc rs : Nat} {a0 : Nat} {h : z_H} {Q : z_Q} {X : z_QX}  (hf : (h.T a0).1 = 11 ∧ ((h.I a0 3) = 0 → ∃ b_2, (h.P a0 7) = some b_2 ∧ z_L8 h b_2 ∧ z_Ct l G m_X10_ends [.ref b_2] h (z_Qv (fun h_5 => (h_5.T a0).1 = 11 ∧ Q (some (va_rf (h_5.P a0 7))) h_5))) ∧ (¬ (h.I a0 3) = 0 → z_Ct l G m_X2_which [.ref a0, .ref (G.sk 1)] h (z_Qi (fun x_7 h_8 => (0 ≤ x_7 → (h_8.T a0).1 = 11 ∧ z_Ct l G m_X2_isTold [.ref a0, .int x_7] h_8 (z_Qi (fun x_10 h_11 => (x_10 = 0 → (x_7 = 4 → (h_11.T a0).1 = 11 ∧ ∃ b_13, (h_11.P a0 7) = some b_13 ∧ z_L8 h_11 b_13 ∧ z_Ct l G m_J2_size [.ref (b_13 + 1)] h_11 (z_Qi (fun x_16 h_17 => (x_16 = 8 → ∃ rc_18, rc = rc_18 + 1 ∧ ∃ rs_20, rs = rs_20 + 7 ∧ (h_17.T a0).1 = 11 ∧ z_Ct l G m_X2_wrong [.ref a0, .int 5] h_17 (z_Qr (fun b_23 h_24 => (h_24.T b_23).1 = 22 ∧ X "BeggarHeaps$Wrong" b_23 h_24))) ∧ (¬ x_16 = 8 → z_V l G (m_X2_table mc ms) (z_Fx G (m_X2_table mc ms) Q X) rc rs h_17 99 [some (.ref a0), some (.int x_7)] [])))) ∧ (¬ x_7 = 4 → z_V l G (m_X2_table mc ms) (z_Fx G (m_X2_table mc ms) Q X) rc rs h_11 99 [some (.ref a0), some (.int x_7)] [])) ∧ (¬ x_10 = 0 → ∃ rc_26, rc = rc_26 + 1 ∧ ∃ rs_28, rs = rs_28 + 7 ∧ (h_11.T a0).1 = 11 ∧ z_Ct l G m_X2_wrong [.ref a0, .int 3] h_11 (z_Qr (fun b_31 h_32 => (h_32.T b_31).1 = 22 ∧ X "BeggarHeaps$Wrong" b_31 h_32)))))) ∧ (¬ 0 ≤ x_7 → ∃ rc_34, rc = rc_34 + 1 ∧ ∃ rs_36, rs = rs_36 + 7 ∧ (h_8.T a0).1 = 11 ∧ z_Ct l G m_X2_wrong [.ref a0, .int 1] h_8 (z_Qr (fun b_39 h_40 => (h_40.T b_39).1 = 22 ∧ X "BeggarHeaps$Wrong" b_39 h_40))))))) : z_V l G (m_X2_table mc ms) (z_Fx G (m_X2_table mc ms) Q X) rc rs h 35 [some (.ref a0), none] [] := by
  refine z_aload_n (q := 36) (i := 0) (x := a0) dX2_table_35 rfl rfl rfl ?_
  obtain ⟨g_1, hf⟩ := hf
  refine z_get 1 3 (q := 39) (v := .int (h.I a0 3)) rfl (z_lt rfl) g_1 q181 dX2_table_36 rfl rfl ?_
  refine z_if_eq (q := 42) (tgt := 212) dX2_table_39 rfl rfl (fun hc => ?_) (fun hc => ?_)
  · have hf := hf.1 hc
    refine z_aload_n (q := 213) (i := 0) (x := a0) dX2_table_212 rfl rfl rfl ?_
    obtain ⟨b_2, g_3, hf⟩ := hf
    refine z_get 1 7 (q := 216) (v := .ref b_2) rfl (z_lt rfl) g_1 q185 dX2_table_213 rfl (z_fvR (fun _ _ _ => rfl) g_3) ?_
    obtain ⟨g_4, hf⟩ := hf
    refine z_cVv m_X10_ends [] (b_2) (q := 219) (rc2 := rc) (rs2 := rs) (st := []) dX2_table_216 rfl q1171 oV_X10_ends rfl rfl ⟨z_le rfl, z_le rfl⟩ (z_le rfl) (z_rcv_of 8 rfl (z_L8_T g_4) rfl) rfl  rfl hf (fun h_5 hf => ?_)
    refine z_aload_n (q := 220) (i := 0) (x := a0) dX2_table_219 rfl rfl rfl ?_
    obtain ⟨g_6, hf⟩ := hf
    refine z_get 1 7 (q := 223) (v := va_rf (h_5.P a0 7)) rfl (z_lt rfl) g_6 q185 dX2_table_220 rfl rfl ?_
    refine z_V.x ?_
    exact z_aret (r := (h_5.P a0 7)) rfl dX2_table_223 rfl (Or.inl ⟨_, rfl⟩) hf
  · have hf := hf.2 hc
    refine z_aload_n (q := 43) (i := 0) (x := a0) dX2_table_42 rfl rfl rfl ?_
    refine z_ldcS (q := 45) (j := 1) dX2_table_43 rfl rfl rfl ?_
    refine z_cVi m_X2_which [.ref (G.sk 1)] (a0) (q := 48) (rc2 := rc) (rs2 := rs) (st := []) dX2_table_45 rfl q701 oV_X2_which rfl rfl ⟨z_le rfl, z_le rfl⟩ (z_le rfl) (z_rcv_of 1 rfl g_1 rfl) rfl  rfl hf (fun x_7 h_8 hf => ?_)
    refine z_istore_n (q := 49) (i := 1) (ls2 := [some (.ref a0), some (.int x_7)]) (x := x_7) dX2_table_48 rfl (z_lt rfl) rfl rfl ?_
    refine z_iload_n (q := 50) (i := 1) (x := x_7) dX2_table_49 rfl rfl rfl ?_
    refine z_if_ge (q := 53) (tgt := 59) dX2_table_50 rfl rfl (fun hc => ?_) (fun hc => ?_)
    · have hf := hf.1 hc
      refine z_aload_n (q := 60) (i := 0) (x := a0) dX2_table_59 rfl rfl rfl ?_
      refine z_iload_n (q := 61) (i := 1) (x := x_7) dX2_table_60 rfl rfl rfl ?_
      obtain ⟨g_9, hf⟩ := hf
      refine z_cVi m_X2_isTold [.int x_7] (a0) (q := 64) (rc2 := rc) (rs2 := rs) (st := []) dX2_table_61 rfl q800 oV_X2_isTold rfl rfl ⟨z_le rfl, z_le rfl⟩ (z_le rfl) (z_rcv_of 1 rfl g_9 rfl) rfl  rfl hf (fun x_10 h_11 hf => ?_)
      refine z_if_eq (q := 67) (tgt := 73) dX2_table_64 rfl rfl (fun hc => ?_) (fun hc => ?_)
      · have hf := hf.1 hc
        refine z_iload_n (q := 74) (i := 1) (x := x_7) dX2_table_73 rfl rfl rfl ?_
        refine z_iconst (q := 75) (v := 4) dX2_table_74 rfl rfl ?_
        refine z_icmp_ne (q := 78) (tgt := 99) dX2_table_75 rfl rfl (fun hc => ?_) (fun hc => ?_)
        · have hf := hf.2 hc
          exact hf
        · have hf := hf.1 hc
          refine z_aload_n (q := 79) (i := 0) (x := a0) dX2_table_78 rfl rfl rfl ?_
          obtain ⟨g_12, hf⟩ := hf
          obtain ⟨b_13, g_14, hf⟩ := hf
          refine z_get 1 7 (q := 82) (v := .ref b_13) rfl (z_lt rfl) g_12 q185 dX2_table_79 rfl (z_fvR (fun _ _ _ => rfl) g_14) ?_
          obtain ⟨g_15, hf⟩ := hf
          refine z_getN 8 0 (q := 85) (v := .ref (b_13 + 1)) rfl (z_lt rfl) (z_L8_T g_15) (z_nwm q332 rfl) dX2_table_82 rfl (z_fvR (fun _ _ _ => rfl) (z_L8_P0 g_15)) ?_
          refine z_cVi m_J2_size [] ((b_13 + 1)) (q := 88) (rc2 := rc) (rs2 := rs) (st := []) dX2_table_85 rfl q804 oV_J2_size rfl rfl ⟨z_le rfl, z_le rfl⟩ (z_le rfl) (z_rcv_of 21 rfl (z_L8_N0 g_15) rfl) rfl  rfl hf (fun x_16 h_17 hf => ?_)
          refine z_bipush (q := 90) (v := 8) dX2_table_88 (by decide) rfl ?_
          refine z_icmp_ne (q := 93) (tgt := 99) dX2_table_90 rfl rfl (fun hc => ?_) (fun hc => ?_)
          · have hf := hf.2 hc
            exact hf
          · have hf := hf.1 hc
            refine z_aload_n (q := 94) (i := 0) (x := a0) dX2_table_93 rfl rfl rfl ?_
            refine z_iconst (q := 95) (v := 5) dX2_table_94 rfl rfl ?_
            obtain ⟨rc_18, g_19, hf⟩ := hf
            obtain ⟨rs_20, g_21, hf⟩ := hf
            obtain ⟨g_22, hf⟩ := hf
            refine z_cVr m_X2_wrong [.int 5] (a0) (q := 98) (rc2 := rc_18) (rs2 := rs_20) (st := []) dX2_table_95 rfl q727 oV_X2_wrong rfl rfl ⟨z_le rfl, z_le rfl⟩ (z_le rfl) (z_rcv_of 1 rfl g_22 rfl) g_19  g_21 hf (fun b_23 h_24 hf => ?_)
            obtain ⟨g_25, hf⟩ := hf
            exact z_athrow (c := 12) rfl g_25 dX2_table_98 (z_out rfl hf)
      · have hf := hf.2 hc
        refine z_aload_n (q := 68) (i := 0) (x := a0) dX2_table_67 rfl rfl rfl ?_
        refine z_iconst (q := 69) (v := 3) dX2_table_68 rfl rfl ?_
        obtain ⟨rc_26, g_27, hf⟩ := hf
        obtain ⟨rs_28, g_29, hf⟩ := hf
        obtain ⟨g_30, hf⟩ := hf
        refine z_cVr m_X2_wrong [.int 3] (a0) (q := 72) (rc2 := rc_26) (rs2 := rs_28) (st := []) dX2_table_69 rfl q727 oV_X2_wrong rfl rfl ⟨z_le rfl, z_le rfl⟩ (z_le rfl) (z_rcv_of 1 rfl g_30 rfl) g_27  g_29 hf (fun b_31 h_32 hf => ?_)
        obtain ⟨g_33, hf⟩ := hf
        exact z_athrow (c := 12) rfl g_33 dX2_table_72 (z_out rfl hf)
    · have hf := hf.2 hc
      refine z_aload_n (q := 54) (i := 0) (x := a0) dX2_table_53 rfl rfl rfl ?_
      refine z_iconst (q := 55) (v := 1) dX2_table_54 rfl rfl ?_
      obtain ⟨rc_34, g_35, hf⟩ := hf
      obtain ⟨rs_36, g_37, hf⟩ := hf
      obtain ⟨g_38, hf⟩ := hf
      refine z_cVr m_X2_wrong [.int 1] (a0) (q := 58) (rc2 := rc_34) (rs2 := rs_36) (st := []) dX2_table_55 rfl q727 oV_X2_wrong rfl rfl ⟨z_le rfl, z_le rfl⟩ (z_le rfl) (z_rcv_of 1 rfl g_38 rfl) g_35  g_37 hf (fun b_39 h_40 hf => ?_)
      obtain ⟨g_41, hf⟩ := hf
      exact z_athrow (c := 12) rfl g_41 dX2_table_58 (z_out rfl hf)

theorem b_X2_table_99 {l : Launch} {G : z_G} {mc ms : Nat} {rc rs : Nat} {a0 : Nat} {x1 : Int32} {h : z_H} {Q : z_Q} {X : z_QX}  (hf : (h.T a0).1 = 11 ∧ z_Ct l G m_X2_next [.ref a0] h (z_Qv (fun h_2 => (x1 = 0 → (h_2.T a0).1 = 11 ∧ ∃ b_78, (h_2.P a0 7) = some b_78 ∧ ∃ rc_80, rc = rc_80 + 1 ∧ ∃ rs_82, rs = rs_82 + 7 ∧ z_Cz l G m_X2_one [.ref a0, .ref (G.sk 2)] h_2 (z_Qi (fun x_84 h_85 => z_L8 h_85 b_78 ∧ ∃ rc_87, rc_80 = rc_87 + 1 ∧ ∃ rs_89, rs_82 = rs_89 + 7 ∧ (h_85.T a0).1 = 11 ∧ z_Cz l G m_X2_need [.ref a0, .int 59] (h_85.sI b_78 3 x_84) (z_Qv (fun h_92 => z_V l G (m_X2_table mc ms) (z_Fx G (m_X2_table mc ms) Q X) rc_87 rs_89 h_92 35 [some (.ref a0), none] [])) X)) X) ∧ (¬ x1 = 0 → (x1 = 1 → (h_2.T a0).1 = 11 ∧ ∃ b_62, (h_2.P a0 7) = some b_62 ∧ ∃ rc_64, rc = rc_64 + 1 ∧ ∃ rs_66, rs = rs_66 + 7 ∧ z_Cz l G m_X2_one [.ref a0, .ref (G.sk 3)] h_2 (z_Qi (fun x_68 h_69 => z_L8 h_69 b_62 ∧ ∃ rc_71, rc_64 = rc_71 + 1 ∧ ∃ rs_73, rs_66 = rs_73 + 7 ∧ (h_69.T a0).1 = 11 ∧ z_Cz l G m_X2_need [.ref a0, .int 59] (h_69.sI b_62 4 x_68) (z_Qv (fun h_76 => z_V l G (m_X2_table mc ms) (z_Fx G (m_X2_table mc ms) Q X) rc_71 rs_73 h_76 35 [some (.ref a0), none] [])) X)) X) ∧ (¬ x1 = 1 → (x1 = 2 → (h_2.T a0).1 = 11 ∧ ∃ b_44, (h_2.P a0 7) = some b_44 ∧ ∃ mc_46, ∃ ms_47, ∃ rc_48, rc = rc_48 + mc_46 ∧ ∃ rs_50, rs = rs_50 + ms_47 ∧ z_Cz l G (m_X2_expression 6 mc_46 ms_47) [.ref a0] h_2 (z_Qr (fun b_52 h_53 => z_L8 h_53 b_44 ∧ ∃ rc_55, rc_48 = rc_55 + 1 ∧ ∃ rs_57, rs_50 = rs_57 + 7 ∧ (h_53.T a0).1 = 11 ∧ z_Cz l G m_X2_need [.ref a0, .int 59] (h_53.sP b_44 6 (some b_52)) (z_Qv (fun h_60 => z_V l G (m_X2_table mc ms) (z_Fx G (m_X2_table mc ms) Q X) rc_55 rs_57 h_60 35 [some (.ref a0), none] [])) X)) X) ∧ (¬ x1 = 2 → (x1 = 3 → (h_2.T a0).1 = 11 ∧ ∃ b_28, (h_2.P a0 7) = some b_28 ∧ ∃ rc_30, rc = rc_30 + 2 ∧ ∃ rs_32, rs = rs_32 + 14 ∧ z_Cz l G m_X2_number [.ref a0, .int 10, .int 3000] h_2 (z_Qi (fun x_34 h_35 => z_L8 h_35 b_28 ∧ ∃ rc_37, rc_30 = rc_37 + 1 ∧ ∃ rs_39, rs_32 = rs_39 + 7 ∧ (h_35.T a0).1 = 11 ∧ z_Cz l G m_X2_need [.ref a0, .int 59] (h_35.sI b_28 5 x_34) (z_Qv (fun h_42 => z_V l G (m_X2_table mc ms) (z_Fx G (m_X2_table mc ms) Q X) rc_37 rs_39 h_42 35 [some (.ref a0), none] [])) X)) X) ∧ (¬ x1 = 3 → (x1 = 4 → ∃ rc_15, rc = rc_15 + 10 ∧ ∃ rs_17, rs = rs_17 + 123 ∧ (h_2.T a0).1 = 11 ∧ z_Cz l G m_X2_kind [.ref a0] h_2 (z_Qv (fun h_20 => ∃ rc_21, rc_15 = rc_21 + 1 ∧ ∃ rs_23, rs_17 = rs_23 + 7 ∧ (h_20.T a0).1 = 11 ∧ z_Cz l G m_X2_need [.ref a0, .int 59] h_20 (z_Qv (fun h_26 => z_V l G (m_X2_table mc ms) (z_Fx G (m_X2_table mc ms) Q X) rc_21 rs_23 h_26 35 [some (.ref a0), none] [])) X)) X) ∧ (¬ x1 = 4 → ∃ rc_3, rc = rc_3 + 9 ∧ ∃ rs_5, rs = rs_5 + 59 ∧ (h_2.T a0).1 = 11 ∧ z_Cz l G m_X2_pack [.ref a0] h_2 (z_Qv (fun h_8 => ∃ rc_9, rc_3 = rc_9 + 1 ∧ ∃ rs_11, rs_5 = rs_11 + 7 ∧ (h_8.T a0).1 = 11 ∧ z_Cz l G m_X2_need [.ref a0, .int 59] h_8 (z_Qv (fun h_14 => z_V l G (m_X2_table mc ms) (z_Fx G (m_X2_table mc ms) Q X) rc_9 rs_11 h_14 35 [some (.ref a0), none] [])) X)) X)))))))) : z_V l G (m_X2_table mc ms) (z_Fx G (m_X2_table mc ms) Q X) rc rs h 99 [some (.ref a0), some (.int x1)] [] := by
  refine z_aload_n (q := 100) (i := 0) (x := a0) dX2_table_99 rfl rfl rfl ?_
  obtain ⟨g_1, hf⟩ := hf
  refine z_cVv m_X2_next [] (a0) (q := 103) (rc2 := rc) (rs2 := rs) (st := []) dX2_table_100 rfl q593 oV_X2_next rfl rfl ⟨z_le rfl, z_le rfl⟩ (z_le rfl) (z_rcv_of 1 rfl g_1 rfl) rfl  rfl hf (fun h_2 hf => ?_)
  refine z_iload_n (q := 104) (i := 1) (x := x1) dX2_table_103 rfl rfl rfl ?_
  refine z_if_ne (q := 107) (tgt := 123) dX2_table_104 rfl rfl (fun hc => ?_) (fun hc => ?_)
  · have hf := hf.2 hc
    refine z_iload_n (q := 124) (i := 1) (x := x1) dX2_table_123 rfl rfl rfl ?_
    refine z_iconst (q := 125) (v := 1) dX2_table_124 rfl rfl ?_
    refine z_icmp_ne (q := 128) (tgt := 144) dX2_table_125 rfl rfl (fun hc => ?_) (fun hc => ?_)
    · have hf := hf.2 hc
      refine z_iload_n (q := 145) (i := 1) (x := x1) dX2_table_144 rfl rfl rfl ?_
      refine z_iconst (q := 146) (v := 2) dX2_table_145 rfl rfl ?_
      refine z_icmp_ne (q := 149) (tgt := 163) dX2_table_146 rfl rfl (fun hc => ?_) (fun hc => ?_)
      · have hf := hf.2 hc
        refine z_iload_n (q := 164) (i := 1) (x := x1) dX2_table_163 rfl rfl rfl ?_
        refine z_iconst (q := 165) (v := 3) dX2_table_164 rfl rfl ?_
        refine z_icmp_ne (q := 168) (tgt := 187) dX2_table_165 rfl rfl (fun hc => ?_) (fun hc => ?_)
        · have hf := hf.2 hc
          refine z_iload_n (q := 188) (i := 1) (x := x1) dX2_table_187 rfl rfl rfl ?_
          refine z_iconst (q := 189) (v := 4) dX2_table_188 rfl rfl ?_
          refine z_icmp_ne (q := 192) (tgt := 199) dX2_table_189 rfl rfl (fun hc => ?_) (fun hc => ?_)
          · have hf := hf.2 hc
            refine z_aload_n (q := 200) (i := 0) (x := a0) dX2_table_199 rfl rfl rfl ?_
            obtain ⟨rc_3, g_4, hf⟩ := hf
            obtain ⟨rs_5, g_6, hf⟩ := hf
            obtain ⟨g_7, hf⟩ := hf
            refine z_cXv m_X2_pack [] (a0) (q := 203) (rc2 := rc_3) (rs2 := rs_5) (st := []) dX2_table_200 rfl q1157 oV_X2_pack rfl rfl ⟨z_le rfl, z_le rfl⟩ (z_le rfl) (z_rcv_of 1 rfl g_7 rfl) g_4  g_6 hf (fun C0 x h1 hX => z_out rfl hX) (fun h_8 hf => ?_)
            refine z_aload_n (q := 204) (i := 0) (x := a0) dX2_table_203 rfl rfl rfl ?_
            refine z_bipush (q := 206) (v := 59) dX2_table_204 (by decide) rfl ?_
            obtain ⟨rc_9, g_10, hf⟩ := hf
            obtain ⟨rs_11, g_12, hf⟩ := hf
            obtain ⟨g_13, hf⟩ := hf
            refine z_cXv m_X2_need [.int 59] (a0) (q := 209) (rc2 := rc_9) (rs2 := rs_11) (st := []) dX2_table_206 rfl q877 oV_X2_need rfl rfl ⟨z_le rfl, z_le rfl⟩ (z_le rfl) (z_rcv_of 1 rfl g_13 rfl) g_10  g_12 hf (fun C0 x h1 hX => z_out rfl hX) (fun h_14 hf => ?_)
            refine z_goto (q := 35) dX2_table_209 rfl ?_
            refine z_prune [true, false] (ls2 := [some (.ref a0), none]) rfl ?_
            exact hf
          · have hf := hf.1 hc
            refine z_aload_n (q := 193) (i := 0) (x := a0) dX2_table_192 rfl rfl rfl ?_
            obtain ⟨rc_15, g_16, hf⟩ := hf
            obtain ⟨rs_17, g_18, hf⟩ := hf
            obtain ⟨g_19, hf⟩ := hf
            refine z_cXv m_X2_kind [] (a0) (q := 196) (rc2 := rc_15) (rs2 := rs_17) (st := []) dX2_table_193 rfl q898 oV_X2_kind rfl rfl ⟨z_le rfl, z_le rfl⟩ (z_le rfl) (z_rcv_of 1 rfl g_19 rfl) g_16  g_18 hf (fun C0 x h1 hX => z_out rfl hX) (fun h_20 hf => ?_)
            refine z_goto (q := 203) dX2_table_196 rfl ?_
            refine z_aload_n (q := 204) (i := 0) (x := a0) dX2_table_203 rfl rfl rfl ?_
            refine z_bipush (q := 206) (v := 59) dX2_table_204 (by decide) rfl ?_
            obtain ⟨rc_21, g_22, hf⟩ := hf
            obtain ⟨rs_23, g_24, hf⟩ := hf
            obtain ⟨g_25, hf⟩ := hf
            refine z_cXv m_X2_need [.int 59] (a0) (q := 209) (rc2 := rc_21) (rs2 := rs_23) (st := []) dX2_table_206 rfl q877 oV_X2_need rfl rfl ⟨z_le rfl, z_le rfl⟩ (z_le rfl) (z_rcv_of 1 rfl g_25 rfl) g_22  g_24 hf (fun C0 x h1 hX => z_out rfl hX) (fun h_26 hf => ?_)
            refine z_goto (q := 35) dX2_table_209 rfl ?_
            refine z_prune [true, false] (ls2 := [some (.ref a0), none]) rfl ?_
            exact hf
        · have hf := hf.1 hc
          refine z_aload_n (q := 169) (i := 0) (x := a0) dX2_table_168 rfl rfl rfl ?_
          obtain ⟨g_27, hf⟩ := hf
          obtain ⟨b_28, g_29, hf⟩ := hf
          refine z_get 1 7 (q := 172) (v := .ref b_28) rfl (z_lt rfl) g_27 q185 dX2_table_169 rfl (z_fvR (fun _ _ _ => rfl) g_29) ?_
          refine z_aload_n (q := 173) (i := 0) (x := a0) dX2_table_172 rfl rfl rfl ?_
          refine z_bipush (q := 175) (v := 10) dX2_table_173 (by decide) rfl ?_
          refine z_sipush (q := 178) (v := 3000) dX2_table_175 (by decide) rfl ?_
          obtain ⟨rc_30, g_31, hf⟩ := hf
          obtain ⟨rs_32, g_33, hf⟩ := hf
          refine z_cXi m_X2_number [.int 10, .int 3000] (a0) (q := 181) (rc2 := rc_30) (rs2 := rs_32) (st := [.ref b_28]) dX2_table_178 rfl q842 oV_X2_number rfl rfl ⟨z_le rfl, z_le rfl⟩ (z_le rfl) (z_rcv_of 1 rfl g_27 rfl) g_31  g_33 hf (fun C0 x h1 hX => z_out rfl hX) (fun x_34 h_35 hf => ?_)
          obtain ⟨g_36, hf⟩ := hf
          refine z_putIN 8 5 (q := 184) (x := x_34) (v := .int x_34) rfl (z_lt rfl) (z_L8_T g_36) (z_nwm q344 rfl) rfl dX2_table_181 rfl rfl rfl rfl (fun _ _ _ => rfl) ?_
          refine z_goto (q := 203) dX2_table_184 rfl ?_
          refine z_aload_n (q := 204) (i := 0) (x := a0) dX2_table_203 rfl rfl rfl ?_
          refine z_bipush (q := 206) (v := 59) dX2_table_204 (by decide) rfl ?_
          obtain ⟨rc_37, g_38, hf⟩ := hf
          obtain ⟨rs_39, g_40, hf⟩ := hf
          obtain ⟨g_41, hf⟩ := hf
          refine z_cXv m_X2_need [.int 59] (a0) (q := 209) (rc2 := rc_37) (rs2 := rs_39) (st := []) dX2_table_206 rfl q877 oV_X2_need rfl rfl ⟨z_le rfl, z_le rfl⟩ (z_le rfl) (z_rcv_of 1 rfl g_41 rfl) g_38  g_40 hf (fun C0 x h1 hX => z_out rfl hX) (fun h_42 hf => ?_)
          refine z_goto (q := 35) dX2_table_209 rfl ?_
          refine z_prune [true, false] (ls2 := [some (.ref a0), none]) rfl ?_
          exact hf
      · have hf := hf.1 hc
        refine z_aload_n (q := 150) (i := 0) (x := a0) dX2_table_149 rfl rfl rfl ?_
        obtain ⟨g_43, hf⟩ := hf
        obtain ⟨b_44, g_45, hf⟩ := hf
        refine z_get 1 7 (q := 153) (v := .ref b_44) rfl (z_lt rfl) g_43 q185 dX2_table_150 rfl (z_fvR (fun _ _ _ => rfl) g_45) ?_
        refine z_aload_n (q := 154) (i := 0) (x := a0) dX2_table_153 rfl rfl rfl ?_
        obtain ⟨mc_46, hf⟩ := hf
        obtain ⟨ms_47, hf⟩ := hf
        obtain ⟨rc_48, g_49, hf⟩ := hf
        obtain ⟨rs_50, g_51, hf⟩ := hf
        refine z_cXr (m_X2_expression 6 mc_46 ms_47) [] (a0) (q := 157) (rc2 := rc_48) (rs2 := rs_50) (st := [.ref b_44]) dX2_table_154 rfl q814 (oV_X2_expression _ _ _) rfl rfl (z_room_of (by first | exact z_le rfl | (simp only [z_M.d, z_M.nL, z_M.lo, m_X2_expression, m_X2_table]; omega)) (by first | exact z_le rfl | (simp only [z_M.d, z_M.nL, z_M.lo, m_X2_expression, m_X2_table]; omega))) (z_le rfl) (z_rcv_of 1 rfl g_43 rfl) g_49  g_51 hf (fun C0 x h1 hX => z_out rfl hX) (fun b_52 h_53 hf => ?_)
        obtain ⟨g_54, hf⟩ := hf
        refine z_putPN 8 6 (q := 160) (x := some b_52) (v := .ref b_52) rfl (z_lt rfl) (z_L8_T g_54) (z_nwm q345 rfl) rfl dX2_table_157 rfl rfl rfl rfl (fun _ _ _ => rfl) ?_
        refine z_goto (q := 203) dX2_table_160 rfl ?_
        refine z_aload_n (q := 204) (i := 0) (x := a0) dX2_table_203 rfl rfl rfl ?_
        refine z_bipush (q := 206) (v := 59) dX2_table_204 (by decide) rfl ?_
        obtain ⟨rc_55, g_56, hf⟩ := hf
        obtain ⟨rs_57, g_58, hf⟩ := hf
        obtain ⟨g_59, hf⟩ := hf
        refine z_cXv m_X2_need [.int 59] (a0) (q := 209) (rc2 := rc_55) (rs2 := rs_57) (st := []) dX2_table_206 rfl q877 oV_X2_need rfl rfl ⟨z_le rfl, z_le rfl⟩ (z_le rfl) (z_rcv_of 1 rfl g_59 rfl) g_56  g_58 hf (fun C0 x h1 hX => z_out rfl hX) (fun h_60 hf => ?_)
        refine z_goto (q := 35) dX2_table_209 rfl ?_
        refine z_prune [true, false] (ls2 := [some (.ref a0), none]) rfl ?_
        exact hf
    · have hf := hf.1 hc
      refine z_aload_n (q := 129) (i := 0) (x := a0) dX2_table_128 rfl rfl rfl ?_
      obtain ⟨g_61, hf⟩ := hf
      obtain ⟨b_62, g_63, hf⟩ := hf
      refine z_get 1 7 (q := 132) (v := .ref b_62) rfl (z_lt rfl) g_61 q185 dX2_table_129 rfl (z_fvR (fun _ _ _ => rfl) g_63) ?_
      refine z_aload_n (q := 133) (i := 0) (x := a0) dX2_table_132 rfl rfl rfl ?_
      refine z_ldcS (q := 135) (j := 3) dX2_table_133 rfl rfl rfl ?_
      obtain ⟨rc_64, g_65, hf⟩ := hf
      obtain ⟨rs_66, g_67, hf⟩ := hf
      refine z_cXi m_X2_one [.ref (G.sk 3)] (a0) (q := 138) (rc2 := rc_64) (rs2 := rs_66) (st := [.ref b_62]) dX2_table_135 rfl q809 oV_X2_one rfl rfl ⟨z_le rfl, z_le rfl⟩ (z_le rfl) (z_rcv_of 1 rfl g_61 rfl) g_65  g_67 hf (fun C0 x h1 hX => z_out rfl hX) (fun x_68 h_69 hf => ?_)
      obtain ⟨g_70, hf⟩ := hf
      refine z_putIN 8 4 (q := 141) (x := x_68) (v := .int x_68) rfl (z_lt rfl) (z_L8_T g_70) (z_nwm q342 rfl) rfl dX2_table_138 rfl rfl rfl rfl (fun _ _ _ => rfl) ?_
      refine z_goto (q := 203) dX2_table_141 rfl ?_
      refine z_aload_n (q := 204) (i := 0) (x := a0) dX2_table_203 rfl rfl rfl ?_
      refine z_bipush (q := 206) (v := 59) dX2_table_204 (by decide) rfl ?_
      obtain ⟨rc_71, g_72, hf⟩ := hf
      obtain ⟨rs_73, g_74, hf⟩ := hf
      obtain ⟨g_75, hf⟩ := hf
      refine z_cXv m_X2_need [.int 59] (a0) (q := 209) (rc2 := rc_71) (rs2 := rs_73) (st := []) dX2_table_206 rfl q877 oV_X2_need rfl rfl ⟨z_le rfl, z_le rfl⟩ (z_le rfl) (z_rcv_of 1 rfl g_75 rfl) g_72  g_74 hf (fun C0 x h1 hX => z_out rfl hX) (fun h_76 hf => ?_)
      refine z_goto (q := 35) dX2_table_209 rfl ?_
      refine z_prune [true, false] (ls2 := [some (.ref a0), none]) rfl ?_
      exact hf
  · have hf := hf.1 hc
    refine z_aload_n (q := 108) (i := 0) (x := a0) dX2_table_107 rfl rfl rfl ?_
    obtain ⟨g_77, hf⟩ := hf
    obtain ⟨b_78, g_79, hf⟩ := hf
    refine z_get 1 7 (q := 111) (v := .ref b_78) rfl (z_lt rfl) g_77 q185 dX2_table_108 rfl (z_fvR (fun _ _ _ => rfl) g_79) ?_
    refine z_aload_n (q := 112) (i := 0) (x := a0) dX2_table_111 rfl rfl rfl ?_
    refine z_ldcS (q := 114) (j := 2) dX2_table_112 rfl rfl rfl ?_
    obtain ⟨rc_80, g_81, hf⟩ := hf
    obtain ⟨rs_82, g_83, hf⟩ := hf
    refine z_cXi m_X2_one [.ref (G.sk 2)] (a0) (q := 117) (rc2 := rc_80) (rs2 := rs_82) (st := [.ref b_78]) dX2_table_114 rfl q809 oV_X2_one rfl rfl ⟨z_le rfl, z_le rfl⟩ (z_le rfl) (z_rcv_of 1 rfl g_77 rfl) g_81  g_83 hf (fun C0 x h1 hX => z_out rfl hX) (fun x_84 h_85 hf => ?_)
    obtain ⟨g_86, hf⟩ := hf
    refine z_putIN 8 3 (q := 120) (x := x_84) (v := .int x_84) rfl (z_lt rfl) (z_L8_T g_86) (z_nwm q340 rfl) rfl dX2_table_117 rfl rfl rfl rfl (fun _ _ _ => rfl) ?_
    refine z_goto (q := 203) dX2_table_120 rfl ?_
    refine z_aload_n (q := 204) (i := 0) (x := a0) dX2_table_203 rfl rfl rfl ?_
    refine z_bipush (q := 206) (v := 59) dX2_table_204 (by decide) rfl ?_
    obtain ⟨rc_87, g_88, hf⟩ := hf
    obtain ⟨rs_89, g_90, hf⟩ := hf
    obtain ⟨g_91, hf⟩ := hf
    refine z_cXv m_X2_need [.int 59] (a0) (q := 209) (rc2 := rc_87) (rs2 := rs_89) (st := []) dX2_table_206 rfl q877 oV_X2_need rfl rfl ⟨z_le rfl, z_le rfl⟩ (z_le rfl) (z_rcv_of 1 rfl g_91 rfl) g_88  g_90 hf (fun C0 x h1 hX => z_out rfl hX) (fun h_92 hf => ?_)
    refine z_goto (q := 35) dX2_table_209 rfl ?_
    refine z_prune [true, false] (ls2 := [some (.ref a0), none]) rfl ?_
    exact hf

theorem u_X2_test {l : Launch} {G : z_G} {d : Nat} {mc ms : Nat} {a0 : Nat} {h : z_H} {Q : z_Q} {X : z_QX} (hst : l.stackTraces = false)  (hf : ∃ mc_1, ∃ ms_2, ∃ rc_3, mc = rc_3 + mc_1 ∧ ∃ rs_5, ms = rs_5 + ms_2 ∧ (h.T a0).1 = 11 ∧ z_Cz l G (m_X2_sum d mc_1 ms_2) [.ref a0] h (z_Qr (fun b_8 h_9 => (h_9.T a0).1 = 11 ∧ z_Ct l G m_X2_isSign [.ref a0, .int 60] h_9 (z_Qi (fun x_11 h_12 => (x_11 = 0 → (h_12.T a0).1 = 11 ∧ z_Ct l G m_X2_isSign [.ref a0, .int 61] h_12 (z_Qi (fun x_14 h_15 => ∀ v_16 : Int32, v_16 = (if x_14 = 0 then 32 else 61) → (v_16 = 32 → Q (some (.ref b_8)) h_15) ∧ (¬ v_16 = 32 → (h_15.T a0).1 = 11 ∧ z_Ct l G m_X2_next [.ref a0] h_15 (z_Qv (fun h_19 => ∃ rc_20, rc_3 = rc_20 + 1 ∧ ∃ rs_22, rs_5 = rs_22 + 3 ∧ ∃ mc_24, ∃ ms_25, ∃ rc_26, rc_20 = rc_26 + mc_24 ∧ ∃ rs_28, rs_22 = rs_28 + ms_25 ∧ ((h_19.nw (26, 0)).T a0).1 = 11 ∧ z_Cz l G (m_X2_sum d mc_24 ms_25) [.ref a0] (h_19.nw (26, 0)) (z_Qr (fun b_31 h_32 => z_Ct l G m_X19_init [.ref (h_19.n), .int v_16, .ref b_8, .ref b_31] h_32 (z_Qv (fun h_33 => Q (some (.ref (h_19.n))) h_33)))) X)))))) ∧ (¬ x_11 = 0 → ((60 : Int32) = 32 → Q (some (.ref b_8)) h_12) ∧ (¬ (60 : Int32) = 32 → (h_12.T a0).1 = 11 ∧ z_Ct l G m_X2_next [.ref a0] h_12 (z_Qv (fun h_35 => ∃ rc_36, rc_3 = rc_36 + 1 ∧ ∃ rs_38, rs_5 = rs_38 + 3 ∧ ∃ mc_40, ∃ ms_41, ∃ rc_42, rc_36 = rc_42 + mc_40 ∧ ∃ rs_44, rs_38 = rs_44 + ms_41 ∧ ((h_35.nw (26, 0)).T a0).1 = 11 ∧ z_Cz l G (m_X2_sum d mc_40 ms_41) [.ref a0] (h_35.nw (26, 0)) (z_Qr (fun b_47 h_48 => z_Ct l G m_X19_init [.ref (h_35.n), .int 60, .ref b_8, .ref b_47] h_48 (z_Qv (fun h_49 => Q (some (.ref (h_35.n))) h_49)))) X)))))))) X) : z_Cz l G (m_X2_test d mc ms) [.ref a0] h Q X := by
  refine z_Cz.of (ls := [some (.ref a0), none, none]) hst rfl (by show plainName yX2_test.cls = true; decide +kernel) (z_le rfl) rfl ?_
  show z_V l G (m_X2_test d mc ms) (z_Fx G (m_X2_test d mc ms) Q X) mc ms h 0 [some (.ref a0), none, none] []
  refine z_aload_n (q := 1) (i := 0) (x := a0) dX2_test_0 rfl rfl rfl ?_
  obtain ⟨mc_1, hf⟩ := hf
  obtain ⟨ms_2, hf⟩ := hf
  obtain ⟨rc_3, g_4, hf⟩ := hf
  obtain ⟨rs_5, g_6, hf⟩ := hf
  obtain ⟨g_7, hf⟩ := hf
  refine z_cXr (m_X2_sum d mc_1 ms_2) [] (a0) (q := 4) (rc2 := rc_3) (rs2 := rs_5) (st := []) dX2_test_1 rfl q822 (oV_X2_sum _ _ _) rfl rfl (z_room_of (by first | exact z_le rfl | (simp only [z_M.d, z_M.nL, z_M.lo, m_X2_sum, m_X2_test]; omega)) (by first | exact z_le rfl | (simp only [z_M.d, z_M.nL, z_M.lo, m_X2_sum, m_X2_test]; omega))) (z_le rfl) (z_rcv_of 1 rfl g_7 rfl) g_4  g_6 hf (fun C0 x h1 hX => z_out rfl hX) (fun b_8 h_9 hf => ?_)
  refine z_astore_n (q := 5) (i := 1) (ls2 := [some (.ref a0), some (.ref b_8), none]) (x := b_8) dX2_test_4 rfl (z_lt rfl) rfl rfl ?_
  refine z_aload_n (q := 6) (i := 0) (x := a0) dX2_test_5 rfl rfl rfl ?_
  refine z_bipush (q := 8) (v := 60) dX2_test_6 (by decide) rfl ?_
  obtain ⟨g_10, hf⟩ := hf
  refine z_cVi m_X2_isSign [.int 60] (a0) (q := 11) (rc2 := rc_3) (rs2 := rs_5) (st := []) dX2_test_8 rfl q836 oV_X2_isSign rfl rfl (z_room_of (by first | exact z_le rfl | (simp only [z_M.d, z_M.nL, z_M.lo, m_X2_isSign, m_X2_test]; omega)) (by first | exact z_le rfl | (simp only [z_M.d, z_M.nL, z_M.lo, m_X2_isSign, m_X2_test]; omega))) (z_le rfl) (z_rcv_of 1 rfl g_10 rfl) rfl  rfl hf (fun x_11 h_12 hf => ?_)
  refine z_if_eq (q := 14) (tgt := 19) dX2_test_11 rfl rfl (fun hc => ?_) (fun hc => ?_)
  · have hf := hf.1 hc
    refine z_aload_n (q := 20) (i := 0) (x := a0) dX2_test_19 rfl rfl rfl ?_
    refine z_bipush (q := 22) (v := 61) dX2_test_20 (by decide) rfl ?_
    obtain ⟨g_13, hf⟩ := hf
    refine z_cVi m_X2_isSign [.int 61] (a0) (q := 25) (rc2 := rc_3) (rs2 := rs_5) (st := []) dX2_test_22 rfl q836 oV_X2_isSign rfl rfl (z_room_of (by first | exact z_le rfl | (simp only [z_M.d, z_M.nL, z_M.lo, m_X2_isSign, m_X2_test]; omega)) (by first | exact z_le rfl | (simp only [z_M.d, z_M.nL, z_M.lo, m_X2_isSign, m_X2_test]; omega))) (z_le rfl) (z_rcv_of 1 rfl g_13 rfl) rfl  rfl hf (fun x_14 h_15 hf => ?_)
    have hk : z_V l G (m_X2_test d mc ms) (z_Fx G (m_X2_test d mc ms) Q X) rc_3 rs_5 h_15 35 [some (.ref a0), some (.ref b_8), none] [.int (if x_14 = 0 then 32 else 61)] := by
      refine z_nmI (fun v_16 hv_17 => ?_)
      have hf := hf v_16 hv_17
      refine z_istore_n (q := 36) (i := 2) (ls2 := [some (.ref a0), some (.ref b_8), some (.int v_16)]) (x := v_16) dX2_test_35 rfl (z_lt rfl) rfl rfl ?_
      refine z_iload_n (q := 37) (i := 2) (x := v_16) dX2_test_36 rfl rfl rfl ?_
      refine z_bipush (q := 39) (v := 32) dX2_test_37 (by decide) rfl ?_
      refine z_icmp_ne (q := 42) (tgt := 44) dX2_test_39 rfl rfl (fun hc => ?_) (fun hc => ?_)
      · have hf := hf.2 hc
        refine z_aload_n (q := 45) (i := 0) (x := a0) dX2_test_44 rfl rfl rfl ?_
        obtain ⟨g_18, hf⟩ := hf
        refine z_cVv m_X2_next [] (a0) (q := 48) (rc2 := rc_3) (rs2 := rs_5) (st := []) dX2_test_45 rfl q593 oV_X2_next rfl rfl (z_room_of (by first | exact z_le rfl | (simp only [z_M.d, z_M.nL, z_M.lo, m_X2_next, m_X2_test]; omega)) (by first | exact z_le rfl | (simp only [z_M.d, z_M.nL, z_M.lo, m_X2_next, m_X2_test]; omega))) (z_le rfl) (z_rcv_of 1 rfl g_18 rfl) rfl  rfl hf (fun h_19 hf => ?_)
        obtain ⟨rc_20, g_21, hf⟩ := hf
        obtain ⟨rs_22, g_23, hf⟩ := hf
        refine z_new 16 (q := 51) (rc2 := rc_20) (rs2 := rs_22) rfl q881 q882 q152 dX2_test_48 rfl g_21 g_23 ?_
        refine z_dup (q := 52) dX2_test_51 rfl rfl ?_
        refine z_iload_n (q := 53) (i := 2) (x := v_16) dX2_test_52 rfl rfl rfl ?_
        refine z_aload_n (q := 54) (i := 1) (x := b_8) dX2_test_53 rfl rfl rfl ?_
        refine z_aload_n (q := 55) (i := 0) (x := a0) dX2_test_54 rfl rfl rfl ?_
        obtain ⟨mc_24, hf⟩ := hf
        obtain ⟨ms_25, hf⟩ := hf
        obtain ⟨rc_26, g_27, hf⟩ := hf
        obtain ⟨rs_28, g_29, hf⟩ := hf
        obtain ⟨g_30, hf⟩ := hf
        refine z_cXr (m_X2_sum d mc_24 ms_25) [] (a0) (q := 58) (rc2 := rc_26) (rs2 := rs_28) (st := [.ref b_8, .int v_16, .ref (h_19.n), .ref (h_19.n)]) dX2_test_55 rfl q822 (oV_X2_sum _ _ _) rfl rfl (z_room_of (by first | exact z_le rfl | (simp only [z_M.d, z_M.nL, z_M.lo, m_X2_sum, m_X2_test]; omega)) (by first | exact z_le rfl | (simp only [z_M.d, z_M.nL, z_M.lo, m_X2_sum, m_X2_test]; omega))) (z_le rfl) (z_rcv_of 1 rfl g_30 rfl) g_27  g_29 hf (fun C0 x h1 hX => z_out rfl hX) (fun b_31 h_32 hf => ?_)
        refine z_cIv m_X19_init [.int v_16, .ref b_8, .ref b_31] ((h_19.n)) (q := 61) (rc2 := rc_26) (rs2 := rs_28) (st := [.ref (h_19.n)]) dX2_test_58 rfl q883 oI_X19_init rfl rfl (z_room_of (by first | exact z_le rfl | (simp only [z_M.d, z_M.nL, z_M.lo, m_X19_init, m_X2_test]; omega)) (by first | exact z_le rfl | (simp only [z_M.d, z_M.nL, z_M.lo, m_X19_init, m_X2_test]; omega))) (z_le rfl) rfl  rfl hf (fun h_33 hf => ?_)
        refine z_V.x ?_
        exact z_aret (r := some (h_19.n)) rfl dX2_test_61 rfl (Or.inl ⟨_, rfl⟩) hf
      · have hf := hf.1 hc
        refine z_aload_n (q := 43) (i := 1) (x := b_8) dX2_test_42 rfl rfl rfl ?_
        refine z_V.x ?_
        exact z_aret (r := some b_8) rfl dX2_test_43 rfl (Or.inl ⟨_, rfl⟩) hf
    refine z_if_eq (q := 28) (tgt := 33) dX2_test_25 rfl rfl (fun hc => ?_) (fun hc => ?_)
    · have hk := (z_ite hk).1 hc
      refine z_bipush (q := 35) (v := 32) dX2_test_33 (by decide) rfl ?_
      exact hk
    · have hk := (z_ite hk).2 hc
      refine z_bipush (q := 30) (v := 61) dX2_test_28 (by decide) rfl ?_
      refine z_goto (q := 35) dX2_test_30 rfl ?_
      exact hk
  · have hf := hf.2 hc
    refine z_bipush (q := 16) (v := 60) dX2_test_14 (by decide) rfl ?_
    refine z_goto (q := 35) dX2_test_16 rfl ?_
    refine z_istore_n (q := 36) (i := 2) (ls2 := [some (.ref a0), some (.ref b_8), some (.int 60)]) (x := 60) dX2_test_35 rfl (z_lt rfl) rfl rfl ?_
    refine z_iload_n (q := 37) (i := 2) (x := 60) dX2_test_36 rfl rfl rfl ?_
    refine z_bipush (q := 39) (v := 32) dX2_test_37 (by decide) rfl ?_
    refine z_icmp_ne (q := 42) (tgt := 44) dX2_test_39 rfl rfl (fun hc => ?_) (fun hc => ?_)
    · have hf := hf.2 hc
      refine z_aload_n (q := 45) (i := 0) (x := a0) dX2_test_44 rfl rfl rfl ?_
      obtain ⟨g_34, hf⟩ := hf
      refine z_cVv m_X2_next [] (a0) (q := 48) (rc2 := rc_3) (rs2 := rs_5) (st := []) dX2_test_45 rfl q593 oV_X2_next rfl rfl (z_room_of (by first | exact z_le rfl | (simp only [z_M.d, z_M.nL, z_M.lo, m_X2_next, m_X2_test]; omega)) (by first | exact z_le rfl | (simp only [z_M.d, z_M.nL, z_M.lo, m_X2_next, m_X2_test]; omega))) (z_le rfl) (z_rcv_of 1 rfl g_34 rfl) rfl  rfl hf (fun h_35 hf => ?_)
      obtain ⟨rc_36, g_37, hf⟩ := hf
      obtain ⟨rs_38, g_39, hf⟩ := hf
      refine z_new 16 (q := 51) (rc2 := rc_36) (rs2 := rs_38) rfl q881 q882 q152 dX2_test_48 rfl g_37 g_39 ?_
      refine z_dup (q := 52) dX2_test_51 rfl rfl ?_
      refine z_iload_n (q := 53) (i := 2) (x := 60) dX2_test_52 rfl rfl rfl ?_
      refine z_aload_n (q := 54) (i := 1) (x := b_8) dX2_test_53 rfl rfl rfl ?_
      refine z_aload_n (q := 55) (i := 0) (x := a0) dX2_test_54 rfl rfl rfl ?_
      obtain ⟨mc_40, hf⟩ := hf
      obtain ⟨ms_41, hf⟩ := hf
      obtain ⟨rc_42, g_43, hf⟩ := hf
      obtain ⟨rs_44, g_45, hf⟩ := hf
      obtain ⟨g_46, hf⟩ := hf
      refine z_cXr (m_X2_sum d mc_40 ms_41) [] (a0) (q := 58) (rc2 := rc_42) (rs2 := rs_44) (st := [.ref b_8, .int 60, .ref (h_35.n), .ref (h_35.n)]) dX2_test_55 rfl q822 (oV_X2_sum _ _ _) rfl rfl (z_room_of (by first | exact z_le rfl | (simp only [z_M.d, z_M.nL, z_M.lo, m_X2_sum, m_X2_test]; omega)) (by first | exact z_le rfl | (simp only [z_M.d, z_M.nL, z_M.lo, m_X2_sum, m_X2_test]; omega))) (z_le rfl) (z_rcv_of 1 rfl g_46 rfl) g_43  g_45 hf (fun C0 x h1 hX => z_out rfl hX) (fun b_47 h_48 hf => ?_)
      refine z_cIv m_X19_init [.int 60, .ref b_8, .ref b_47] ((h_35.n)) (q := 61) (rc2 := rc_42) (rs2 := rs_44) (st := [.ref (h_35.n)]) dX2_test_58 rfl q883 oI_X19_init rfl rfl (z_room_of (by first | exact z_le rfl | (simp only [z_M.d, z_M.nL, z_M.lo, m_X19_init, m_X2_test]; omega)) (by first | exact z_le rfl | (simp only [z_M.d, z_M.nL, z_M.lo, m_X19_init, m_X2_test]; omega))) (z_le rfl) rfl  rfl hf (fun h_49 hf => ?_)
      refine z_V.x ?_
      exact z_aret (r := some (h_35.n)) rfl dX2_test_61 rfl (Or.inl ⟨_, rfl⟩) hf
    · have hf := hf.1 hc
      refine z_aload_n (q := 43) (i := 1) (x := b_8) dX2_test_42 rfl rfl rfl ?_
      refine z_V.x ?_
      exact z_aret (r := some b_8) rfl dX2_test_43 rfl (Or.inl ⟨_, rfl⟩) hf

theorem u_X2_told {l : Launch} {G : z_G} {a0 : Nat} {h : z_H} {Q : z_Q} {X : z_QX} (hst : l.stackTraces = false)  (hf : (h.T a0).1 = 11 ∧ ∃ b_2, (h.P a0 7) = some b_2 ∧ z_Cz l G m_X2_name [.ref a0] h (z_Qr (fun b_4 h_5 => z_L8 h_5 b_2 ∧ z_Ct l G m_X10_kind [.ref b_2, .ref b_4] h_5 (z_Qi (fun x_7 h_8 => (0 ≤ x_7 → Q (some (.int x_7)) h_8) ∧ (¬ 0 ≤ x_7 → (h_8.T a0).1 = 11 ∧ z_Ct l G m_X2_wrong [.ref a0, .int 2] h_8 (z_Qr (fun b_10 h_11 => (h_11.T b_10).1 = 22 ∧ X "BeggarHeaps$Wrong" b_10 h_11))))))) X) : z_Cz l G m_X2_told [.ref a0] h Q X := by
  refine z_Cz.of (ls := [some (.ref a0), none]) hst rfl (by show plainName yX2_told.cls = true; decide +kernel) (z_le rfl) rfl ?_
  show z_V l G m_X2_told (z_Fx G m_X2_told Q X) 6 38 h 0 [some (.ref a0), none] []
  refine z_aload_n (q := 1) (i := 0) (x := a0) dX2_told_0 rfl rfl rfl ?_
  obtain ⟨g_1, hf⟩ := hf
  obtain ⟨b_2, g_3, hf⟩ := hf
  refine z_get 1 7 (q := 4) (v := .ref b_2) rfl (z_lt rfl) g_1 q185 dX2_told_1 rfl (z_fvR (fun _ _ _ => rfl) g_3) ?_
  refine z_aload_n (q := 5) (i := 0) (x := a0) dX2_told_4 rfl rfl rfl ?_
  refine z_cXr m_X2_name [] (a0) (q := 8) (rc2 := 1) (rs2 := 7) (st := [.ref b_2]) dX2_told_5 rfl q902 oV_X2_name rfl rfl ⟨z_le rfl, z_le rfl⟩ (z_le rfl) (z_rcv_of 1 rfl g_1 rfl) rfl  rfl hf (fun C0 x h1 hX => z_out rfl hX) (fun b_4 h_5 hf => ?_)
  obtain ⟨g_6, hf⟩ := hf
  refine z_cVi m_X10_kind [.ref b_4] (b_2) (q := 11) (rc2 := 1) (rs2 := 7) (st := []) dX2_told_8 rfl q1065 oV_X10_kind rfl rfl ⟨z_le rfl, z_le rfl⟩ (z_le rfl) (z_rcv_of 8 rfl (z_L8_T g_6) rfl) rfl  rfl hf (fun x_7 h_8 hf => ?_)
  refine z_istore_n (q := 12) (i := 1) (ls2 := [some (.ref a0), some (.int x_7)]) (x := x_7) dX2_told_11 rfl (z_lt rfl) rfl rfl ?_
  refine z_iload_n (q := 13) (i := 1) (x := x_7) dX2_told_12 rfl rfl rfl ?_
  refine z_if_ge (q := 16) (tgt := 22) dX2_told_13 rfl rfl (fun hc => ?_) (fun hc => ?_)
  · have hf := hf.1 hc
    refine z_iload_n (q := 23) (i := 1) (x := x_7) dX2_told_22 rfl rfl rfl ?_
    refine z_V.x ?_
    exact z_iret dX2_told_23 rfl hf
  · have hf := hf.2 hc
    refine z_aload_n (q := 17) (i := 0) (x := a0) dX2_told_16 rfl rfl rfl ?_
    refine z_iconst (q := 18) (v := 2) dX2_told_17 rfl rfl ?_
    obtain ⟨g_9, hf⟩ := hf
    refine z_cVr m_X2_wrong [.int 2] (a0) (q := 21) (rc2 := 0) (rs2 := 0) (st := []) dX2_told_18 rfl q727 oV_X2_wrong rfl rfl ⟨z_le rfl, z_le rfl⟩ (z_le rfl) (z_rcv_of 1 rfl g_9 rfl) rfl  rfl hf (fun b_10 h_11 hf => ?_)
    obtain ⟨g_12, hf⟩ := hf
    exact z_athrow (c := 12) rfl g_12 dX2_told_21 (z_out rfl hf)

theorem u_X2_which {l : Launch} {G : z_G} {a0 : Nat} {a1 : Nat} {h : z_H} {Q : z_Q} (hst : l.stackTraces = false)  (hf : z_V l G m_X2_which (z_Fm G m_X2_which Q) 0 0 h 4 [some (.ref a0), some (.ref a1), some (.int 0), some (.int 0), none, none, none] []) : z_Ct l G m_X2_which [.ref a0, .ref a1] h Q := by
  refine z_Ct.of (ls := [some (.ref a0), some (.ref a1), none, none, none, none, none]) hst rfl (by show plainName yX2_which.cls = true; decide +kernel) (z_le rfl) rfl ?_
  show z_V l G m_X2_which (z_Fm G m_X2_which Q) 0 0 h 0 [some (.ref a0), some (.ref a1), none, none, none, none, none] []
  refine z_iconst (q := 1) (v := 0) dX2_which_0 rfl rfl ?_
  refine z_istore_n (q := 2) (i := 2) (ls2 := [some (.ref a0), some (.ref a1), some (.int 0), none, none, none, none]) (x := 0) dX2_which_1 rfl (z_lt rfl) rfl rfl ?_
  refine z_iconst (q := 3) (v := 0) dX2_which_2 rfl rfl ?_
  refine z_istore_n (q := 4) (i := 3) (ls2 := [some (.ref a0), some (.ref a1), some (.int 0), some (.int 0), none, none, none]) (x := 0) dX2_which_3 rfl (z_lt rfl) rfl rfl ?_
  exact hf

theorem b_X2_which_4 {l : Launch} {G : z_G} {a0 : Nat} {a1 : Nat} {x2 : Int32} {x3 : Int32} {h : z_H} {Q : z_Q}  (hf : (h.T a1).1 = 32 ∧ z_Ct l G m_J3_length [.ref a1] h (z_Qi (fun x_2 h_3 => (x_2 ≤ x3 → Q (some (.int (-1))) h_3) ∧ (¬ x_2 ≤ x3 → (h_3.T a0).1 = 11 ∧ ((h_3.I a0 3) = 1 → (h_3.T a1).1 = 32 ∧ z_Ct l G m_J3_indexOf_2 [.ref a1, .int 32, .int x3] h_3 (z_Qi (fun x_6 h_7 => (h_7.T a0).1 = 11 ∧ ∀ v_9 : Int32, v_9 = (if ((h_7.I a0 2) - (h_7.I a0 4)) = (x_6 - x3) then 1 else 0) → z_V l G m_X2_which (z_Fm G m_X2_which Q) 0 0 h_7 55 [some (.ref a0), some (.ref a1), some (.int x2), some (.int x3), some (.int (x_6 - x3)), some (.int v_9), some (.int 0)] []))) ∧ (¬ (h_3.I a0 3) = 1 → Q (some (.int (-1))) h_3))))) : z_V l G m_X2_which (z_Fm G m_X2_which Q) 0 0 h 4 [some (.ref a0), some (.ref a1), some (.int x2), some (.int x3), none, none, none] [] := by
  refine z_iload_n (q := 5) (i := 3) (x := x3) dX2_which_4 rfl rfl rfl ?_
  refine z_aload_n (q := 6) (i := 1) (x := a1) dX2_which_5 rfl rfl rfl ?_
  obtain ⟨g_1, hf⟩ := hf
  refine z_cVi m_J3_length [] (a1) (q := 9) (rc2 := 0) (rs2 := 0) (st := [.int x3]) dX2_which_6 rfl q705 oV_J3_length rfl rfl ⟨z_le rfl, z_le rfl⟩ (z_le rfl) (z_rcv_of 22 rfl g_1 rfl) rfl  rfl hf (fun x_2 h_3 hf => ?_)
  refine z_icmp_ge (q := 12) (tgt := 123) dX2_which_9 rfl rfl (fun hc => ?_) (fun hc => ?_)
  · have hf := hf.1 hc
    refine z_iconst (q := 124) (v := (-1)) dX2_which_123 rfl rfl ?_
    exact z_iret dX2_which_124 rfl hf
  · have hf := hf.2 hc
    refine z_aload_n (q := 13) (i := 0) (x := a0) dX2_which_12 rfl rfl rfl ?_
    obtain ⟨g_4, hf⟩ := hf
    refine z_get 1 3 (q := 16) (v := .int (h_3.I a0 3)) rfl (z_lt rfl) g_4 q181 dX2_which_13 rfl rfl ?_
    refine z_iconst (q := 17) (v := 1) dX2_which_16 rfl rfl ?_
    refine z_icmp_ne (q := 20) (tgt := 123) dX2_which_17 rfl rfl (fun hc => ?_) (fun hc => ?_)
    · have hf := hf.2 hc
      refine z_iconst (q := 124) (v := (-1)) dX2_which_123 rfl rfl ?_
      exact z_iret dX2_which_124 rfl hf
    · have hf := hf.1 hc
      refine z_aload_n (q := 21) (i := 1) (x := a1) dX2_which_20 rfl rfl rfl ?_
      refine z_bipush (q := 23) (v := 32) dX2_which_21 (by decide) rfl ?_
      refine z_iload_n (q := 24) (i := 3) (x := x3) dX2_which_23 rfl rfl rfl ?_
      obtain ⟨g_5, hf⟩ := hf
      refine z_cVi m_J3_indexOf_2 [.int 32, .int x3] (a1) (q := 27) (rc2 := 0) (rs2 := 0) (st := []) dX2_which_24 rfl q706 oV_J3_indexOf_2 rfl rfl ⟨z_le rfl, z_le rfl⟩ (z_le rfl) (z_rcv_of 22 rfl g_5 rfl) rfl  rfl hf (fun x_6 h_7 hf => ?_)
      refine z_iload_n (q := 28) (i := 3) (x := x3) dX2_which_27 rfl rfl rfl ?_
      refine z_isub (q := 29) dX2_which_28 rfl ?_
      refine z_istore (q := 31) (i := 4) (ls2 := [some (.ref a0), some (.ref a1), some (.int x2), some (.int x3), some (.int (x_6 - x3)), none, none]) (x := (x_6 - x3)) dX2_which_29 (z_lt rfl) rfl rfl ?_
      refine z_aload_n (q := 32) (i := 0) (x := a0) dX2_which_31 rfl rfl rfl ?_
      obtain ⟨g_8, hf⟩ := hf
      refine z_get 1 2 (q := 35) (v := .int (h_7.I a0 2)) rfl (z_lt rfl) g_8 q180 dX2_which_32 rfl rfl ?_
      refine z_aload_n (q := 36) (i := 0) (x := a0) dX2_which_35 rfl rfl rfl ?_
      refine z_get 1 4 (q := 39) (v := .int (h_7.I a0 4)) rfl (z_lt rfl) g_8 q182 dX2_which_36 rfl rfl ?_
      refine z_isub (q := 40) dX2_which_39 rfl ?_
      refine z_iload (q := 42) (i := 4) (x := (x_6 - x3)) dX2_which_40 rfl rfl ?_
      have hk : z_V l G m_X2_which (z_Fm G m_X2_which Q) 0 0 h_7 50 [some (.ref a0), some (.ref a1), some (.int x2), some (.int x3), some (.int (x_6 - x3)), none, none] [.int (if ((h_7.I a0 2) - (h_7.I a0 4)) = (x_6 - x3) then 1 else 0)] := by
        refine z_nmI (fun v_9 hv_10 => ?_)
        have hf := hf v_9 hv_10
        refine z_istore (q := 52) (i := 5) (ls2 := [some (.ref a0), some (.ref a1), some (.int x2), some (.int x3), some (.int (x_6 - x3)), some (.int v_9), none]) (x := v_9) dX2_which_50 (z_lt rfl) rfl rfl ?_
        refine z_iconst (q := 53) (v := 0) dX2_which_52 rfl rfl ?_
        refine z_istore (q := 55) (i := 6) (ls2 := [some (.ref a0), some (.ref a1), some (.int x2), some (.int x3), some (.int (x_6 - x3)), some (.int v_9), some (.int 0)]) (x := 0) dX2_which_53 (z_lt rfl) rfl rfl ?_
        exact hf
      refine z_icmp_ne (q := 45) (tgt := 49) dX2_which_42 rfl rfl (fun hc => ?_) (fun hc => ?_)
      · have hk := (z_ite hk).2 hc
        refine z_iconst (q := 50) (v := 0) dX2_which_49 rfl rfl ?_
        exact hk
      · have hk := (z_ite hk).1 hc
        refine z_iconst (q := 46) (v := 1) dX2_which_45 rfl rfl ?_
        refine z_goto (q := 50) dX2_which_46 rfl ?_
        exact hk

theorem b_X2_which_55 {l : Launch} {G : z_G} {a0 : Nat} {a1 : Nat} {x2 : Int32} {x3 : Int32} {x4 : Int32} {x5 : Int32} {x6 : Int32} {h : z_H} {Q : z_Q}  (hf : (x5 = 0 → (x5 = 0 → ∀ v_1 : Int32, v_1 = (x3 + (x4 + 1)) → z_V l G m_X2_which (z_Fm G m_X2_which Q) 0 0 h 4 [some (.ref a0), some (.ref a1), some (.int (x2 + 1)), some (.int v_1), none, none, none] []) ∧ (¬ x5 = 0 → Q (some (.int x2)) h)) ∧ (¬ x5 = 0 → (x4 ≤ x6 → (x5 = 0 → ∀ v_3 : Int32, v_3 = (x3 + (x4 + 1)) → z_V l G m_X2_which (z_Fm G m_X2_which Q) 0 0 h 4 [some (.ref a0), some (.ref a1), some (.int (x2 + 1)), some (.int v_3), none, none, none] []) ∧ (¬ x5 = 0 → Q (some (.int x2)) h)) ∧ (¬ x4 ≤ x6 → (h.T a0).1 = 11 ∧ ∃ b_6, (h.P a0 0) = some b_6 ∧ ∃ n_8, h.T b_6 = (2, n_8) ∧ vp_in ((h.I a0 4) + x6) n_8 ∧ (h.T a1).1 = 32 ∧ z_Ct l G m_J3_charAt [.ref a1, .int (x3 + x6)] h (z_Qi (fun x_12 h_13 => ∀ v_14 : Int32, v_14 = (if (h.I b_6 (Int32.toNatClampNeg ((h.I a0 4) + x6))) = x_12 then 1 else 0) → z_V l G m_X2_which (z_Fm G m_X2_which Q) 0 0 h_13 55 [some (.ref a0), some (.ref a1), some (.int x2), some (.int x3), some (.int x4), some (.int v_14), some (.int (x6 + 1))] []))))) : z_V l G m_X2_which (z_Fm G m_X2_which Q) 0 0 h 55 [some (.ref a0), some (.ref a1), some (.int x2), some (.int x3), some (.int x4), some (.int x5), some (.int x6)] [] := by
  refine z_iload (q := 57) (i := 5) (x := x5) dX2_which_55 rfl rfl ?_
  refine z_if_eq (q := 60) (tgt := 103) dX2_which_57 rfl rfl (fun hc => ?_) (fun hc => ?_)
  · have hf := hf.1 hc
    refine z_iload (q := 105) (i := 5) (x := x5) dX2_which_103 rfl rfl ?_
    refine z_if_eq (q := 108) (tgt := 110) dX2_which_105 rfl rfl (fun hc => ?_) (fun hc => ?_)
    · have hf := hf.1 hc
      refine z_iload_n (q := 111) (i := 3) (x := x3) dX2_which_110 rfl rfl rfl ?_
      refine z_iload (q := 113) (i := 4) (x := x4) dX2_which_111 rfl rfl ?_
      refine z_iconst (q := 114) (v := 1) dX2_which_113 rfl rfl ?_
      refine z_iadd (q := 115) dX2_which_114 rfl ?_
      refine z_iadd (q := 116) dX2_which_115 rfl ?_
      refine z_nmI (fun v_1 hv_2 => ?_)
      have hf := hf v_1 hv_2
      refine z_istore_n (q := 117) (i := 3) (ls2 := [some (.ref a0), some (.ref a1), some (.int x2), some (.int v_1), some (.int x4), some (.int x5), some (.int x6)]) (x := v_1) dX2_which_116 rfl (z_lt rfl) rfl rfl ?_
      refine z_iinc (q := 120) (i := 2) (x := x2) (v := (x2 + 1)) (ls2 := [some (.ref a0), some (.ref a1), some (.int (x2 + 1)), some (.int v_1), some (.int x4), some (.int x5), some (.int x6)]) dX2_which_117 rfl rfl (z_lt rfl) rfl rfl ?_
      refine z_goto (q := 4) dX2_which_120 rfl ?_
      refine z_prune [true, true, true, true, false, false, false] (ls2 := [some (.ref a0), some (.ref a1), some (.int (x2 + 1)), some (.int v_1), none, none, none]) rfl ?_
      exact hf
    · have hf := hf.2 hc
      refine z_iload_n (q := 109) (i := 2) (x := x2) dX2_which_108 rfl rfl rfl ?_
      exact z_iret dX2_which_109 rfl hf
  · have hf := hf.2 hc
    refine z_iload (q := 62) (i := 6) (x := x6) dX2_which_60 rfl rfl ?_
    refine z_iload (q := 64) (i := 4) (x := x4) dX2_which_62 rfl rfl ?_
    refine z_icmp_ge (q := 67) (tgt := 103) dX2_which_64 rfl rfl (fun hc => ?_) (fun hc => ?_)
    · have hf := hf.1 hc
      refine z_iload (q := 105) (i := 5) (x := x5) dX2_which_103 rfl rfl ?_
      refine z_if_eq (q := 108) (tgt := 110) dX2_which_105 rfl rfl (fun hc => ?_) (fun hc => ?_)
      · have hf := hf.1 hc
        refine z_iload_n (q := 111) (i := 3) (x := x3) dX2_which_110 rfl rfl rfl ?_
        refine z_iload (q := 113) (i := 4) (x := x4) dX2_which_111 rfl rfl ?_
        refine z_iconst (q := 114) (v := 1) dX2_which_113 rfl rfl ?_
        refine z_iadd (q := 115) dX2_which_114 rfl ?_
        refine z_iadd (q := 116) dX2_which_115 rfl ?_
        refine z_nmI (fun v_3 hv_4 => ?_)
        have hf := hf v_3 hv_4
        refine z_istore_n (q := 117) (i := 3) (ls2 := [some (.ref a0), some (.ref a1), some (.int x2), some (.int v_3), some (.int x4), some (.int x5), some (.int x6)]) (x := v_3) dX2_which_116 rfl (z_lt rfl) rfl rfl ?_
        refine z_iinc (q := 120) (i := 2) (x := x2) (v := (x2 + 1)) (ls2 := [some (.ref a0), some (.ref a1), some (.int (x2 + 1)), some (.int v_3), some (.int x4), some (.int x5), some (.int x6)]) dX2_which_117 rfl rfl (z_lt rfl) rfl rfl ?_
        refine z_goto (q := 4) dX2_which_120 rfl ?_
        refine z_prune [true, true, true, true, false, false, false] (ls2 := [some (.ref a0), some (.ref a1), some (.int (x2 + 1)), some (.int v_3), none, none, none]) rfl ?_
        exact hf
      · have hf := hf.2 hc
        refine z_iload_n (q := 109) (i := 2) (x := x2) dX2_which_108 rfl rfl rfl ?_
        exact z_iret dX2_which_109 rfl hf
    · have hf := hf.2 hc
      refine z_aload_n (q := 68) (i := 0) (x := a0) dX2_which_67 rfl rfl rfl ?_
      obtain ⟨g_5, hf⟩ := hf
      obtain ⟨b_6, g_7, hf⟩ := hf
      refine z_get 1 0 (q := 71) (v := .ref b_6) rfl (z_lt rfl) g_5 q178 dX2_which_68 rfl (z_fvR (fun _ _ _ => rfl) g_7) ?_
      refine z_aload_n (q := 72) (i := 0) (x := a0) dX2_which_71 rfl rfl rfl ?_
      refine z_get 1 4 (q := 75) (v := .int (h.I a0 4)) rfl (z_lt rfl) g_5 q182 dX2_which_72 rfl rfl ?_
      refine z_iload (q := 77) (i := 6) (x := x6) dX2_which_75 rfl rfl ?_
      refine z_iadd (q := 78) dX2_which_77 rfl ?_
      obtain ⟨n_8, g_9, hf⟩ := hf
      obtain ⟨g_10, hf⟩ := hf
      refine z_bald (q := 79) (n := n_8) g_9 g_10 dX2_which_78 rfl ?_
      refine z_aload_n (q := 80) (i := 1) (x := a1) dX2_which_79 rfl rfl rfl ?_
      refine z_iload_n (q := 81) (i := 3) (x := x3) dX2_which_80 rfl rfl rfl ?_
      refine z_iload (q := 83) (i := 6) (x := x6) dX2_which_81 rfl rfl ?_
      refine z_iadd (q := 84) dX2_which_83 rfl ?_
      obtain ⟨g_11, hf⟩ := hf
      refine z_cVi m_J3_charAt [.int (x3 + x6)] (a1) (q := 87) (rc2 := 0) (rs2 := 0) (st := [.int (h.I b_6 (Int32.toNatClampNeg ((h.I a0 4) + x6)))]) dX2_which_84 rfl q707 oV_J3_charAt rfl rfl ⟨z_le rfl, z_le rfl⟩ (z_le rfl) (z_rcv_of 22 rfl g_11 rfl) rfl  rfl hf (fun x_12 h_13 hf => ?_)
      have hk : z_V l G m_X2_which (z_Fm G m_X2_which Q) 0 0 h_13 95 [some (.ref a0), some (.ref a1), some (.int x2), some (.int x3), some (.int x4), some (.int x5), some (.int x6)] [.int (if (h.I b_6 (Int32.toNatClampNeg ((h.I a0 4) + x6))) = x_12 then 1 else 0)] := by
        refine z_nmI (fun v_14 hv_15 => ?_)
        have hf := hf v_14 hv_15
        refine z_istore (q := 97) (i := 5) (ls2 := [some (.ref a0), some (.ref a1), some (.int x2), some (.int x3), some (.int x4), some (.int v_14), some (.int x6)]) (x := v_14) dX2_which_95 (z_lt rfl) rfl rfl ?_
        refine z_iinc (q := 100) (i := 6) (x := x6) (v := (x6 + 1)) (ls2 := [some (.ref a0), some (.ref a1), some (.int x2), some (.int x3), some (.int x4), some (.int v_14), some (.int (x6 + 1))]) dX2_which_97 rfl rfl (z_lt rfl) rfl rfl ?_
        refine z_goto (q := 55) dX2_which_100 rfl ?_
        exact hf
      refine z_icmp_ne (q := 90) (tgt := 94) dX2_which_87 rfl rfl (fun hc => ?_) (fun hc => ?_)
      · have hk := (z_ite hk).2 hc
        refine z_iconst (q := 95) (v := 0) dX2_which_94 rfl rfl ?_
        exact hk
      · have hk := (z_ite hk).1 hc
        refine z_iconst (q := 91) (v := 1) dX2_which_90 rfl rfl ?_
        refine z_goto (q := 95) dX2_which_91 rfl ?_
        exact hk

theorem u_X2_wrong {l : Launch} {G : z_G} {a0 : Nat} {x1 : Int32} {h : z_H} {Q : z_Q} (hst : l.stackTraces = false)  (hf : ((h.nw (22, 0)).T a0).1 = 11 ∧ z_Ct l G m_X14_init [.ref (h.n), .int x1, .int ((h.nw (22, 0)).I a0 4)] (h.nw (22, 0)) (z_Qv (fun h_2 => Q (some (.ref (h.n))) h_2))) : z_Ct l G m_X2_wrong [.ref a0, .int x1] h Q := by
  refine z_Ct.of (ls := [some (.ref a0), some (.int x1)]) hst rfl (by show plainName yX2_wrong.cls = true; decide +kernel) (z_le rfl) rfl ?_
  show z_V l G m_X2_wrong (z_Fm G m_X2_wrong Q) 1 7 h 0 [some (.ref a0), some (.int x1)] []
  refine z_new 12 (q := 3) (rc2 := 0) (rs2 := 0) rfl q731 q732 q147 dX2_wrong_0 rfl rfl rfl ?_
  refine z_dup (q := 4) dX2_wrong_3 rfl rfl ?_
  refine z_iload_n (q := 5) (i := 1) (x := x1) dX2_wrong_4 rfl rfl rfl ?_
  refine z_aload_n (q := 6) (i := 0) (x := a0) dX2_wrong_5 rfl rfl rfl ?_
  obtain ⟨g_1, hf⟩ := hf
  refine z_get 1 4 (q := 9) (v := .int ((h.nw (22, 0)).I a0 4)) rfl (z_lt rfl) g_1 q182 dX2_wrong_6 rfl rfl ?_
  refine z_cIv m_X14_init [.int x1, .int ((h.nw (22, 0)).I a0 4)] ((h.n)) (q := 12) (rc2 := 0) (rs2 := 0) (st := [.ref (h.n)]) dX2_wrong_9 rfl q771 oI_X14_init rfl rfl ⟨z_le rfl, z_le rfl⟩ (z_le rfl) rfl  rfl hf (fun h_2 hf => ?_)
  exact z_aret (r := some (h.n)) rfl dX2_wrong_12 rfl (Or.inl ⟨_, rfl⟩) hf

theorem u_X3_init {l : Launch} {G : z_G} {a0 : Nat} {h : z_H} {Q : z_Q} (hst : l.stackTraces = false)  (hf : Q none h) : z_Ct l G m_X3_init [.ref a0] h Q := by
  refine z_Ct.of (ls := [some (.ref a0)]) hst rfl (by show plainName yX3_init.cls = true; decide +kernel) (z_le rfl) rfl ?_
  show z_V l G m_X3_init (z_Fm G m_X3_init Q) 0 0 h 0 [some (.ref a0)] []
  refine z_aload_n (q := 1) (i := 0) (x := a0) dX3_init_0 rfl rfl rfl ?_
  refine z_objInit (q := 4) dX3_init_1 rfl q217 q170 q171 ⟨z_le rfl, z_le rfl⟩ (z_le rfl) ?_
  exact z_vret dX3_init_4 rfl hf

theorem u_X4_init {l : Launch} {G : z_G} {a0 : Nat} {h : z_H} {Q : z_Q} (hst : l.stackTraces = false)  (hf : z_Ct l G m_X3_init [.ref a0] h (z_Qv (fun h_1 => Q none h_1))) : z_Ct l G m_X4_init [.ref a0] h Q := by
  refine z_Ct.of (ls := [some (.ref a0)]) hst rfl (by show plainName yX4_init.cls = true; decide +kernel) (z_le rfl) rfl ?_
  show z_V l G m_X4_init (z_Fm G m_X4_init Q) 0 0 h 0 [some (.ref a0)] []
  refine z_aload_n (q := 1) (i := 0) (x := a0) dX4_init_0 rfl rfl rfl ?_
  refine z_cINv m_X3_init [] (a0) (q := 4) (rc2 := 0) (rs2 := 0) (st := []) dX4_init_1 rfl (z_nwm q214 rfl) oI_X3_init rfl rfl ⟨z_le rfl, z_le rfl⟩ (z_le rfl) rfl  rfl hf (fun h_1 hf => ?_)
  exact z_vret dX4_init_4 rfl hf

theorem u_X4_lays {l : Launch} {G : z_G} {a0 : Nat} {a1 : Nat} {x2 : Int32} {a3 : Nat} {a4 : Nat} {h : z_H} {Q : z_Q} (hst : l.stackTraces = false)  (hf : z_V l G m_X4_lays (z_Fm G m_X4_lays Q) 0 0 h 3 [none, some (.ref a1), some (.int x2), none, some (.ref a4), some (.int 0)] []) : z_Ct l G m_X4_lays [.ref a0, .ref a1, .int x2, .ref a3, .ref a4] h Q := by
  refine z_Ct.of (ls := [some (.ref a0), some (.ref a1), some (.int x2), some (.ref a3), some (.ref a4), none]) hst rfl (by show plainName yX4_lays.cls = true; decide +kernel) (z_le rfl) rfl ?_
  show z_V l G m_X4_lays (z_Fm G m_X4_lays Q) 0 0 h 0 [some (.ref a0), some (.ref a1), some (.int x2), some (.ref a3), some (.ref a4), none] []
  refine z_iconst (q := 1) (v := 0) dX4_lays_0 rfl rfl ?_
  refine z_istore (q := 3) (i := 5) (ls2 := [some (.ref a0), some (.ref a1), some (.int x2), some (.ref a3), some (.ref a4), some (.int 0)]) (x := 0) dX4_lays_1 (z_lt rfl) rfl rfl ?_
  refine z_prune [false, true, true, false, true, true] (ls2 := [none, some (.ref a1), some (.int x2), none, some (.ref a4), some (.int 0)]) rfl ?_
  exact hf

theorem b_X4_lays_3 {l : Launch} {G : z_G} {a1 : Nat} {x2 : Int32} {a4 : Nat} {x5 : Int32} {h : z_H} {Q : z_Q}  (hf : (x2 ≤ x5 → Q none h) ∧ (¬ x2 ≤ x5 → ∃ n_1, h.T a1 = (1, n_1) ∧ vp_in x5 n_1 ∧ ∃ n_4, h.T a4 = (1, n_4) ∧ vp_in x5 n_4 ∧ z_V l G m_X4_lays (z_Fm G m_X4_lays Q) 0 0 (h.sI a4 (Int32.toNatClampNeg x5) (h.I a1 (Int32.toNatClampNeg x5))) 3 [none, some (.ref a1), some (.int x2), none, some (.ref a4), some (.int (x5 + 1))] [])) : z_V l G m_X4_lays (z_Fm G m_X4_lays Q) 0 0 h 3 [none, some (.ref a1), some (.int x2), none, some (.ref a4), some (.int x5)] [] := by
  refine z_iload (q := 5) (i := 5) (x := x5) dX4_lays_3 rfl rfl ?_
  refine z_iload_n (q := 6) (i := 2) (x := x2) dX4_lays_5 rfl rfl rfl ?_
  refine z_icmp_ge (q := 9) (tgt := 24) dX4_lays_6 rfl rfl (fun hc => ?_) (fun hc => ?_)
  · have hf := hf.1 hc
    exact z_vret dX4_lays_24 rfl hf
  · have hf := hf.2 hc
    refine z_aload (q := 11) (i := 4) (x := a4) dX4_lays_9 rfl rfl ?_
    refine z_iload (q := 13) (i := 5) (x := x5) dX4_lays_11 rfl rfl ?_
    refine z_aload_n (q := 14) (i := 1) (x := a1) dX4_lays_13 rfl rfl rfl ?_
    refine z_iload (q := 16) (i := 5) (x := x5) dX4_lays_14 rfl rfl ?_
    obtain ⟨n_1, g_2, hf⟩ := hf
    obtain ⟨g_3, hf⟩ := hf
    refine z_iald (q := 17) (n := n_1) g_2 g_3 dX4_lays_16 rfl ?_
    obtain ⟨n_4, g_5, hf⟩ := hf
    obtain ⟨g_6, hf⟩ := hf
    refine z_iast (q := 18) (n := n_4) g_5 g_6 dX4_lays_17 rfl ?_
    refine z_iinc (q := 21) (i := 5) (x := x5) (v := (x5 + 1)) (ls2 := [none, some (.ref a1), some (.int x2), none, some (.ref a4), some (.int (x5 + 1))]) dX4_lays_18 rfl rfl (z_lt rfl) rfl rfl ?_
    refine z_goto (q := 3) dX4_lays_21 rfl ?_
    exact hf

theorem u_X5_init {l : Launch} {G : z_G} {a0 : Nat} {h : z_H} {Q : z_Q} (hst : l.stackTraces = false)  (hf : z_Ct l G m_X3_init [.ref a0] h (z_Qv (fun h_1 => Q none h_1))) : z_Ct l G m_X5_init [.ref a0] h Q := by
  refine z_Ct.of (ls := [some (.ref a0)]) hst rfl (by show plainName yX5_init.cls = true; decide +kernel) (z_le rfl) rfl ?_
  show z_V l G m_X5_init (z_Fm G m_X5_init Q) 0 0 h 0 [some (.ref a0)] []
  refine z_aload_n (q := 1) (i := 0) (x := a0) dX5_init_0 rfl rfl rfl ?_
  refine z_cINv m_X3_init [] (a0) (q := 4) (rc2 := 0) (rs2 := 0) (st := []) dX5_init_1 rfl (z_nwm q224 rfl) oI_X3_init rfl rfl ⟨z_le rfl, z_le rfl⟩ (z_le rfl) rfl  rfl hf (fun h_1 hf => ?_)
  exact z_vret dX5_init_4 rfl hf

theorem u_X5_lays {l : Launch} {G : z_G} {a0 : Nat} {a1 : Nat} {x2 : Int32} {a3 : Nat} {a4 : Nat} {h : z_H} {Q : z_Q} (hst : l.stackTraces = false)  (hf : z_V l G m_X5_lays (z_Fm G m_X5_lays Q) 0 0 h 3 [none, some (.ref a1), some (.int x2), none, some (.ref a4), some (.int 0)] []) : z_Ct l G m_X5_lays [.ref a0, .ref a1, .int x2, .ref a3, .ref a4] h Q := by
  refine z_Ct.of (ls := [some (.ref a0), some (.ref a1), some (.int x2), some (.ref a3), some (.ref a4), none]) hst rfl (by show plainName yX5_lays.cls = true; decide +kernel) (z_le rfl) rfl ?_
  show z_V l G m_X5_lays (z_Fm G m_X5_lays Q) 0 0 h 0 [some (.ref a0), some (.ref a1), some (.int x2), some (.ref a3), some (.ref a4), none] []
  refine z_iconst (q := 1) (v := 0) dX5_lays_0 rfl rfl ?_
  refine z_istore (q := 3) (i := 5) (ls2 := [some (.ref a0), some (.ref a1), some (.int x2), some (.ref a3), some (.ref a4), some (.int 0)]) (x := 0) dX5_lays_1 (z_lt rfl) rfl rfl ?_
  refine z_prune [false, true, true, false, true, true] (ls2 := [none, some (.ref a1), some (.int x2), none, some (.ref a4), some (.int 0)]) rfl ?_
  exact hf

theorem b_X5_lays_3 {l : Launch} {G : z_G} {a1 : Nat} {x2 : Int32} {a4 : Nat} {x5 : Int32} {h : z_H} {Q : z_Q}  (hf : (x2 ≤ x5 → Q none h) ∧ (¬ x2 ≤ x5 → ∃ n_1, h.T a1 = (1, n_1) ∧ vp_in ((x2 - 1) - x5) n_1 ∧ ∃ n_4, h.T a4 = (1, n_4) ∧ vp_in x5 n_4 ∧ z_V l G m_X5_lays (z_Fm G m_X5_lays Q) 0 0 (h.sI a4 (Int32.toNatClampNeg x5) (h.I a1 (Int32.toNatClampNeg ((x2 - 1) - x5)))) 3 [none, some (.ref a1), some (.int x2), none, some (.ref a4), some (.int (x5 + 1))] [])) : z_V l G m_X5_lays (z_Fm G m_X5_lays Q) 0 0 h 3 [none, some (.ref a1), some (.int x2), none, some (.ref a4), some (.int x5)] [] := by
  refine z_iload (q := 5) (i := 5) (x := x5) dX5_lays_3 rfl rfl ?_
  refine z_iload_n (q := 6) (i := 2) (x := x2) dX5_lays_5 rfl rfl rfl ?_
  refine z_icmp_ge (q := 9) (tgt := 28) dX5_lays_6 rfl rfl (fun hc => ?_) (fun hc => ?_)
  · have hf := hf.1 hc
    exact z_vret dX5_lays_28 rfl hf
  · have hf := hf.2 hc
    refine z_aload (q := 11) (i := 4) (x := a4) dX5_lays_9 rfl rfl ?_
    refine z_iload (q := 13) (i := 5) (x := x5) dX5_lays_11 rfl rfl ?_
    refine z_aload_n (q := 14) (i := 1) (x := a1) dX5_lays_13 rfl rfl rfl ?_
    refine z_iload_n (q := 15) (i := 2) (x := x2) dX5_lays_14 rfl rfl rfl ?_
    refine z_iconst (q := 16) (v := 1) dX5_lays_15 rfl rfl ?_
    refine z_isub (q := 17) dX5_lays_16 rfl ?_
    refine z_iload (q := 19) (i := 5) (x := x5) dX5_lays_17 rfl rfl ?_
    refine z_isub (q := 20) dX5_lays_19 rfl ?_
    obtain ⟨n_1, g_2, hf⟩ := hf
    obtain ⟨g_3, hf⟩ := hf
    refine z_iald (q := 21) (n := n_1) g_2 g_3 dX5_lays_20 rfl ?_
    obtain ⟨n_4, g_5, hf⟩ := hf
    obtain ⟨g_6, hf⟩ := hf
    refine z_iast (q := 22) (n := n_4) g_5 g_6 dX5_lays_21 rfl ?_
    refine z_iinc (q := 25) (i := 5) (x := x5) (v := (x5 + 1)) (ls2 := [none, some (.ref a1), some (.int x2), none, some (.ref a4), some (.int (x5 + 1))]) dX5_lays_22 rfl rfl (z_lt rfl) rfl rfl ?_
    refine z_goto (q := 3) dX5_lays_25 rfl ?_
    exact hf

theorem u_X6_init {l : Launch} {G : z_G} {a0 : Nat} {h : z_H} {Q : z_Q} (hst : l.stackTraces = false)  (hf : z_Ct l G m_X3_init [.ref a0] h (z_Qv (fun h_1 => Q none h_1))) : z_Ct l G m_X6_init [.ref a0] h Q := by
  refine z_Ct.of (ls := [some (.ref a0)]) hst rfl (by show plainName yX6_init.cls = true; decide +kernel) (z_le rfl) rfl ?_
  show z_V l G m_X6_init (z_Fm G m_X6_init Q) 0 0 h 0 [some (.ref a0)] []
  refine z_aload_n (q := 1) (i := 0) (x := a0) dX6_init_0 rfl rfl rfl ?_
  refine z_cINv m_X3_init [] (a0) (q := 4) (rc2 := 0) (rs2 := 0) (st := []) dX6_init_1 rfl (z_nwm q231 rfl) oI_X3_init rfl rfl ⟨z_le rfl, z_le rfl⟩ (z_le rfl) rfl  rfl hf (fun h_1 hf => ?_)
  exact z_vret dX6_init_4 rfl hf

theorem u_X6_lays {l : Launch} {G : z_G} {a0 : Nat} {a1 : Nat} {x2 : Int32} {a3 : Nat} {a4 : Nat} {h : z_H} {Q : z_Q} (hst : l.stackTraces = false)  (hf : z_V l G m_X6_lays (z_Fm G m_X6_lays Q) 0 0 h 7 [none, some (.ref a1), some (.int x2), some (.ref a3), some (.ref a4), some (.int 0), some (.int 6), none] []) : z_Ct l G m_X6_lays [.ref a0, .ref a1, .int x2, .ref a3, .ref a4] h Q := by
  refine z_Ct.of (ls := [some (.ref a0), some (.ref a1), some (.int x2), some (.ref a3), some (.ref a4), none, none, none]) hst rfl (by show plainName yX6_lays.cls = true; decide +kernel) (z_le rfl) rfl ?_
  show z_V l G m_X6_lays (z_Fm G m_X6_lays Q) 0 0 h 0 [some (.ref a0), some (.ref a1), some (.int x2), some (.ref a3), some (.ref a4), none, none, none] []
  refine z_iconst (q := 1) (v := 0) dX6_lays_0 rfl rfl ?_
  refine z_istore (q := 3) (i := 5) (ls2 := [some (.ref a0), some (.ref a1), some (.int x2), some (.ref a3), some (.ref a4), some (.int 0), none, none]) (x := 0) dX6_lays_1 (z_lt rfl) rfl rfl ?_
  refine z_bipush (q := 5) (v := 6) dX6_lays_3 (by decide) rfl ?_
  refine z_istore (q := 7) (i := 6) (ls2 := [some (.ref a0), some (.ref a1), some (.int x2), some (.ref a3), some (.ref a4), some (.int 0), some (.int 6), none]) (x := 6) dX6_lays_5 (z_lt rfl) rfl rfl ?_
  refine z_prune [false, true, true, true, true, true, true, false] (ls2 := [none, some (.ref a1), some (.int x2), some (.ref a3), some (.ref a4), some (.int 0), some (.int 6), none]) rfl ?_
  exact hf

theorem b_X6_lays_7 {l : Launch} {G : z_G} {a1 : Nat} {x2 : Int32} {a3 : Nat} {a4 : Nat} {x5 : Int32} {x6 : Int32} {h : z_H} {Q : z_Q}  (hf : (x6 < 0 → Q none h) ∧ (¬ x6 < 0 → z_V l G m_X6_lays (z_Fm G m_X6_lays Q) 0 0 h 15 [none, some (.ref a1), some (.int x2), some (.ref a3), some (.ref a4), some (.int x5), some (.int x6), some (.int 0)] [])) : z_V l G m_X6_lays (z_Fm G m_X6_lays Q) 0 0 h 7 [none, some (.ref a1), some (.int x2), some (.ref a3), some (.ref a4), some (.int x5), some (.int x6), none] [] := by
  refine z_iload (q := 9) (i := 6) (x := x6) dX6_lays_7 rfl rfl ?_
  refine z_if_lt (q := 12) (tgt := 56) dX6_lays_9 rfl rfl (fun hc => ?_) (fun hc => ?_)
  · have hf := hf.1 hc
    exact z_vret dX6_lays_56 rfl hf
  · have hf := hf.2 hc
    refine z_iconst (q := 13) (v := 0) dX6_lays_12 rfl rfl ?_
    refine z_istore (q := 15) (i := 7) (ls2 := [none, some (.ref a1), some (.int x2), some (.ref a3), some (.ref a4), some (.int x5), some (.int x6), some (.int 0)]) (x := 0) dX6_lays_13 (z_lt rfl) rfl rfl ?_
    exact hf

theorem b_X6_lays_15 {l : Launch} {G : z_G} {a1 : Nat} {x2 : Int32} {a3 : Nat} {a4 : Nat} {x5 : Int32} {x6 : Int32} {x7 : Int32} {h : z_H} {Q : z_Q}  (hf : (x2 ≤ x7 → z_V l G m_X6_lays (z_Fm G m_X6_lays Q) 0 0 h 7 [none, some (.ref a1), some (.int x2), some (.ref a3), some (.ref a4), some (.int x5), some (.int (x6 + (-1))), none] []) ∧ (¬ x2 ≤ x7 → ∃ n_1, h.T a1 = (1, n_1) ∧ vp_in x7 n_1 ∧ ∃ n_4, h.T a3 = (1, n_4) ∧ vp_in (h.I a1 (Int32.toNatClampNeg x7)) n_4 ∧ ((h.I a3 (Int32.toNatClampNeg (h.I a1 (Int32.toNatClampNeg x7)))) = x6 → vp_in x7 n_1 ∧ ∃ n_8, h.T a4 = (1, n_8) ∧ vp_in x5 n_8 ∧ z_V l G m_X6_lays (z_Fm G m_X6_lays Q) 0 0 (h.sI a4 (Int32.toNatClampNeg x5) (h.I a1 (Int32.toNatClampNeg x7))) 15 [none, some (.ref a1), some (.int x2), some (.ref a3), some (.ref a4), some (.int (x5 + 1)), some (.int x6), some (.int (x7 + 1))] []) ∧ (¬ (h.I a3 (Int32.toNatClampNeg (h.I a1 (Int32.toNatClampNeg x7)))) = x6 → z_V l G m_X6_lays (z_Fm G m_X6_lays Q) 0 0 h 15 [none, some (.ref a1), some (.int x2), some (.ref a3), some (.ref a4), some (.int x5), some (.int x6), some (.int (x7 + 1))] []))) : z_V l G m_X6_lays (z_Fm G m_X6_lays Q) 0 0 h 15 [none, some (.ref a1), some (.int x2), some (.ref a3), some (.ref a4), some (.int x5), some (.int x6), some (.int x7)] [] := by
  refine z_iload (q := 17) (i := 7) (x := x7) dX6_lays_15 rfl rfl ?_
  refine z_iload_n (q := 18) (i := 2) (x := x2) dX6_lays_17 rfl rfl rfl ?_
  refine z_icmp_ge (q := 21) (tgt := 50) dX6_lays_18 rfl rfl (fun hc => ?_) (fun hc => ?_)
  · have hf := hf.1 hc
    refine z_iinc (q := 53) (i := 6) (x := x6) (v := (x6 + (-1))) (ls2 := [none, some (.ref a1), some (.int x2), some (.ref a3), some (.ref a4), some (.int x5), some (.int (x6 + (-1))), some (.int x7)]) dX6_lays_50 rfl rfl (z_lt rfl) rfl rfl ?_
    refine z_goto (q := 7) dX6_lays_53 rfl ?_
    refine z_prune [false, true, true, true, true, true, true, false] (ls2 := [none, some (.ref a1), some (.int x2), some (.ref a3), some (.ref a4), some (.int x5), some (.int (x6 + (-1))), none]) rfl ?_
    exact hf
  · have hf := hf.2 hc
    refine z_aload_n (q := 22) (i := 3) (x := a3) dX6_lays_21 rfl rfl rfl ?_
    refine z_aload_n (q := 23) (i := 1) (x := a1) dX6_lays_22 rfl rfl rfl ?_
    refine z_iload (q := 25) (i := 7) (x := x7) dX6_lays_23 rfl rfl ?_
    obtain ⟨n_1, g_2, hf⟩ := hf
    obtain ⟨g_3, hf⟩ := hf
    refine z_iald (q := 26) (n := n_1) g_2 g_3 dX6_lays_25 rfl ?_
    obtain ⟨n_4, g_5, hf⟩ := hf
    obtain ⟨g_6, hf⟩ := hf
    refine z_iald (q := 27) (n := n_4) g_5 g_6 dX6_lays_26 rfl ?_
    refine z_iload (q := 29) (i := 6) (x := x6) dX6_lays_27 rfl rfl ?_
    refine z_icmp_ne (q := 32) (tgt := 44) dX6_lays_29 rfl rfl (fun hc => ?_) (fun hc => ?_)
    · have hf := hf.2 hc
      refine z_iinc (q := 47) (i := 7) (x := x7) (v := (x7 + 1)) (ls2 := [none, some (.ref a1), some (.int x2), some (.ref a3), some (.ref a4), some (.int x5), some (.int x6), some (.int (x7 + 1))]) dX6_lays_44 rfl rfl (z_lt rfl) rfl rfl ?_
      refine z_goto (q := 15) dX6_lays_47 rfl ?_
      exact hf
    · have hf := hf.1 hc
      refine z_aload (q := 34) (i := 4) (x := a4) dX6_lays_32 rfl rfl ?_
      refine z_iload (q := 36) (i := 5) (x := x5) dX6_lays_34 rfl rfl ?_
      refine z_iinc (q := 39) (i := 5) (x := x5) (v := (x5 + 1)) (ls2 := [none, some (.ref a1), some (.int x2), some (.ref a3), some (.ref a4), some (.int (x5 + 1)), some (.int x6), some (.int x7)]) dX6_lays_36 rfl rfl (z_lt rfl) rfl rfl ?_
      refine z_aload_n (q := 40) (i := 1) (x := a1) dX6_lays_39 rfl rfl rfl ?_
      refine z_iload (q := 42) (i := 7) (x := x7) dX6_lays_40 rfl rfl ?_
      obtain ⟨g_7, hf⟩ := hf
      refine z_iald (q := 43) (n := n_1) g_2 g_7 dX6_lays_42 rfl ?_
      obtain ⟨n_8, g_9, hf⟩ := hf
      obtain ⟨g_10, hf⟩ := hf
      refine z_iast (q := 44) (n := n_8) g_9 g_10 dX6_lays_43 rfl ?_
      refine z_iinc (q := 47) (i := 7) (x := x7) (v := (x7 + 1)) (ls2 := [none, some (.ref a1), some (.int x2), some (.ref a3), some (.ref a4), some (.int (x5 + 1)), some (.int x6), some (.int (x7 + 1))]) dX6_lays_44 rfl rfl (z_lt rfl) rfl rfl ?_
      refine z_goto (q := 15) dX6_lays_47 rfl ?_
      exact hf

theorem u_X7_init {l : Launch} {G : z_G} {a0 : Nat} {h : z_H} {Q : z_Q} (hst : l.stackTraces = false)  (hf : z_Ct l G m_X3_init [.ref a0] h (z_Qv (fun h_1 => Q none h_1))) : z_Ct l G m_X7_init [.ref a0] h Q := by
  refine z_Ct.of (ls := [some (.ref a0)]) hst rfl (by show plainName yX7_init.cls = true; decide +kernel) (z_le rfl) rfl ?_
  show z_V l G m_X7_init (z_Fm G m_X7_init Q) 0 0 h 0 [some (.ref a0)] []
  refine z_aload_n (q := 1) (i := 0) (x := a0) dX7_init_0 rfl rfl rfl ?_
  refine z_cINv m_X3_init [] (a0) (q := 4) (rc2 := 0) (rs2 := 0) (st := []) dX7_init_1 rfl (z_nwm q238 rfl) oI_X3_init rfl rfl ⟨z_le rfl, z_le rfl⟩ (z_le rfl) rfl  rfl hf (fun h_1 hf => ?_)
  exact z_vret dX7_init_4 rfl hf

theorem u_X7_lays {l : Launch} {G : z_G} {a0 : Nat} {a1 : Nat} {x2 : Int32} {a3 : Nat} {a4 : Nat} {h : z_H} {Q : z_Q} (hst : l.stackTraces = false)  (hf : z_V l G m_X7_lays (z_Fm G m_X7_lays Q) 0 0 h 6 [none, some (.ref a1), some (.int x2), some (.ref a3), some (.ref a4), some (.int 0), some (.int 0)] []) : z_Ct l G m_X7_lays [.ref a0, .ref a1, .int x2, .ref a3, .ref a4] h Q := by
  refine z_Ct.of (ls := [some (.ref a0), some (.ref a1), some (.int x2), some (.ref a3), some (.ref a4), none, none]) hst rfl (by show plainName yX7_lays.cls = true; decide +kernel) (z_le rfl) rfl ?_
  show z_V l G m_X7_lays (z_Fm G m_X7_lays Q) 0 0 h 0 [some (.ref a0), some (.ref a1), some (.int x2), some (.ref a3), some (.ref a4), none, none] []
  refine z_iconst (q := 1) (v := 0) dX7_lays_0 rfl rfl ?_
  refine z_istore (q := 3) (i := 5) (ls2 := [some (.ref a0), some (.ref a1), some (.int x2), some (.ref a3), some (.ref a4), some (.int 0), none]) (x := 0) dX7_lays_1 (z_lt rfl) rfl rfl ?_
  refine z_iconst (q := 4) (v := 0) dX7_lays_3 rfl rfl ?_
  refine z_istore (q := 6) (i := 6) (ls2 := [some (.ref a0), some (.ref a1), some (.int x2), some (.ref a3), some (.ref a4), some (.int 0), some (.int 0)]) (x := 0) dX7_lays_4 (z_lt rfl) rfl rfl ?_
  refine z_prune [false, true, true, true, true, true, true] (ls2 := [none, some (.ref a1), some (.int x2), some (.ref a3), some (.ref a4), some (.int 0), some (.int 0)]) rfl ?_
  exact hf

theorem b_X7_lays_6 {l : Launch} {G : z_G} {a1 : Nat} {x2 : Int32} {a3 : Nat} {a4 : Nat} {x5 : Int32} {x6 : Int32} {h : z_H} {Q : z_Q}  (hf : (x2 ≤ x6 → z_V l G m_X7_lays (z_Fm G m_X7_lays Q) 0 0 h 42 [none, some (.ref a1), some (.int x2), some (.ref a3), some (.ref a4), some (.int x5), some (.int 0)] []) ∧ (¬ x2 ≤ x6 → ∃ n_1, h.T a1 = (1, n_1) ∧ vp_in x6 n_1 ∧ ∃ n_4, h.T a3 = (1, n_4) ∧ vp_in (h.I a1 (Int32.toNatClampNeg x6)) n_4 ∧ ((h.I a3 (Int32.toNatClampNeg (h.I a1 (Int32.toNatClampNeg x6)))) = 0 → vp_in x6 n_1 ∧ ∃ n_8, h.T a4 = (1, n_8) ∧ vp_in x5 n_8 ∧ z_V l G m_X7_lays (z_Fm G m_X7_lays Q) 0 0 (h.sI a4 (Int32.toNatClampNeg x5) (h.I a1 (Int32.toNatClampNeg x6))) 6 [none, some (.ref a1), some (.int x2), some (.ref a3), some (.ref a4), some (.int (x5 + 1)), some (.int (x6 + 1))] []) ∧ (¬ (h.I a3 (Int32.toNatClampNeg (h.I a1 (Int32.toNatClampNeg x6)))) = 0 → z_V l G m_X7_lays (z_Fm G m_X7_lays Q) 0 0 h 6 [none, some (.ref a1), some (.int x2), some (.ref a3), some (.ref a4), some (.int x5), some (.int (x6 + 1))] []))) : z_V l G m_X7_lays (z_Fm G m_X7_lays Q) 0 0 h 6 [none, some (.ref a1), some (.int x2), some (.ref a3), some (.ref a4), some (.int x5), some (.int x6)] [] := by
  refine z_iload (q := 8) (i := 6) (x := x6) dX7_lays_6 rfl rfl ?_
  refine z_iload_n (q := 9) (i := 2) (x := x2) dX7_lays_8 rfl rfl rfl ?_
  refine z_icmp_ge (q := 12) (tgt := 39) dX7_lays_9 rfl rfl (fun hc => ?_) (fun hc => ?_)
  · have hf := hf.1 hc
    refine z_iconst (q := 40) (v := 0) dX7_lays_39 rfl rfl ?_
    refine z_istore (q := 42) (i := 6) (ls2 := [none, some (.ref a1), some (.int x2), some (.ref a3), some (.ref a4), some (.int x5), some (.int 0)]) (x := 0) dX7_lays_40 (z_lt rfl) rfl rfl ?_
    exact hf
  · have hf := hf.2 hc
    refine z_aload_n (q := 13) (i := 3) (x := a3) dX7_lays_12 rfl rfl rfl ?_
    refine z_aload_n (q := 14) (i := 1) (x := a1) dX7_lays_13 rfl rfl rfl ?_
    refine z_iload (q := 16) (i := 6) (x := x6) dX7_lays_14 rfl rfl ?_
    obtain ⟨n_1, g_2, hf⟩ := hf
    obtain ⟨g_3, hf⟩ := hf
    refine z_iald (q := 17) (n := n_1) g_2 g_3 dX7_lays_16 rfl ?_
    obtain ⟨n_4, g_5, hf⟩ := hf
    obtain ⟨g_6, hf⟩ := hf
    refine z_iald (q := 18) (n := n_4) g_5 g_6 dX7_lays_17 rfl ?_
    refine z_if_ne (q := 21) (tgt := 33) dX7_lays_18 rfl rfl (fun hc => ?_) (fun hc => ?_)
    · have hf := hf.2 hc
      refine z_iinc (q := 36) (i := 6) (x := x6) (v := (x6 + 1)) (ls2 := [none, some (.ref a1), some (.int x2), some (.ref a3), some (.ref a4), some (.int x5), some (.int (x6 + 1))]) dX7_lays_33 rfl rfl (z_lt rfl) rfl rfl ?_
      refine z_goto (q := 6) dX7_lays_36 rfl ?_
      exact hf
    · have hf := hf.1 hc
      refine z_aload (q := 23) (i := 4) (x := a4) dX7_lays_21 rfl rfl ?_
      refine z_iload (q := 25) (i := 5) (x := x5) dX7_lays_23 rfl rfl ?_
      refine z_iinc (q := 28) (i := 5) (x := x5) (v := (x5 + 1)) (ls2 := [none, some (.ref a1), some (.int x2), some (.ref a3), some (.ref a4), some (.int (x5 + 1)), some (.int x6)]) dX7_lays_25 rfl rfl (z_lt rfl) rfl rfl ?_
      refine z_aload_n (q := 29) (i := 1) (x := a1) dX7_lays_28 rfl rfl rfl ?_
      refine z_iload (q := 31) (i := 6) (x := x6) dX7_lays_29 rfl rfl ?_
      obtain ⟨g_7, hf⟩ := hf
      refine z_iald (q := 32) (n := n_1) g_2 g_7 dX7_lays_31 rfl ?_
      obtain ⟨n_8, g_9, hf⟩ := hf
      obtain ⟨g_10, hf⟩ := hf
      refine z_iast (q := 33) (n := n_8) g_9 g_10 dX7_lays_32 rfl ?_
      refine z_iinc (q := 36) (i := 6) (x := x6) (v := (x6 + 1)) (ls2 := [none, some (.ref a1), some (.int x2), some (.ref a3), some (.ref a4), some (.int (x5 + 1)), some (.int (x6 + 1))]) dX7_lays_33 rfl rfl (z_lt rfl) rfl rfl ?_
      refine z_goto (q := 6) dX7_lays_36 rfl ?_
      exact hf

theorem b_X7_lays_42 {l : Launch} {G : z_G} {a1 : Nat} {x2 : Int32} {a3 : Nat} {a4 : Nat} {x5 : Int32} {x6 : Int32} {h : z_H} {Q : z_Q}  (hf : (x2 ≤ x6 → Q none h) ∧ (¬ x2 ≤ x6 → ∃ n_1, h.T a1 = (1, n_1) ∧ vp_in x6 n_1 ∧ ∃ n_4, h.T a3 = (1, n_4) ∧ vp_in (h.I a1 (Int32.toNatClampNeg x6)) n_4 ∧ ((h.I a3 (Int32.toNatClampNeg (h.I a1 (Int32.toNatClampNeg x6)))) ≤ 0 → z_V l G m_X7_lays (z_Fm G m_X7_lays Q) 0 0 h 42 [none, some (.ref a1), some (.int x2), some (.ref a3), some (.ref a4), some (.int x5), some (.int (x6 + 1))] []) ∧ (¬ (h.I a3 (Int32.toNatClampNeg (h.I a1 (Int32.toNatClampNeg x6)))) ≤ 0 → vp_in x6 n_1 ∧ ∃ n_8, h.T a4 = (1, n_8) ∧ vp_in x5 n_8 ∧ z_V l G m_X7_lays (z_Fm G m_X7_lays Q) 0 0 (h.sI a4 (Int32.toNatClampNeg x5) (h.I a1 (Int32.toNatClampNeg x6))) 42 [none, some (.ref a1), some (.int x2), some (.ref a3), some (.ref a4), some (.int (x5 + 1)), some (.int (x6 + 1))] []))) : z_V l G m_X7_lays (z_Fm G m_X7_lays Q) 0 0 h 42 [none, some (.ref a1), some (.int x2), some (.ref a3), some (.ref a4), some (.int x5), some (.int x6)] [] := by
  refine z_iload (q := 44) (i := 6) (x := x6) dX7_lays_42 rfl rfl ?_
  refine z_iload_n (q := 45) (i := 2) (x := x2) dX7_lays_44 rfl rfl rfl ?_
  refine z_icmp_ge (q := 48) (tgt := 75) dX7_lays_45 rfl rfl (fun hc => ?_) (fun hc => ?_)
  · have hf := hf.1 hc
    exact z_vret dX7_lays_75 rfl hf
  · have hf := hf.2 hc
    refine z_aload_n (q := 49) (i := 3) (x := a3) dX7_lays_48 rfl rfl rfl ?_
    refine z_aload_n (q := 50) (i := 1) (x := a1) dX7_lays_49 rfl rfl rfl ?_
    refine z_iload (q := 52) (i := 6) (x := x6) dX7_lays_50 rfl rfl ?_
    obtain ⟨n_1, g_2, hf⟩ := hf
    obtain ⟨g_3, hf⟩ := hf
    refine z_iald (q := 53) (n := n_1) g_2 g_3 dX7_lays_52 rfl ?_
    obtain ⟨n_4, g_5, hf⟩ := hf
    obtain ⟨g_6, hf⟩ := hf
    refine z_iald (q := 54) (n := n_4) g_5 g_6 dX7_lays_53 rfl ?_
    refine z_if_le (q := 57) (tgt := 69) dX7_lays_54 rfl rfl (fun hc => ?_) (fun hc => ?_)
    · have hf := hf.1 hc
      refine z_iinc (q := 72) (i := 6) (x := x6) (v := (x6 + 1)) (ls2 := [none, some (.ref a1), some (.int x2), some (.ref a3), some (.ref a4), some (.int x5), some (.int (x6 + 1))]) dX7_lays_69 rfl rfl (z_lt rfl) rfl rfl ?_
      refine z_goto (q := 42) dX7_lays_72 rfl ?_
      exact hf
    · have hf := hf.2 hc
      refine z_aload (q := 59) (i := 4) (x := a4) dX7_lays_57 rfl rfl ?_
      refine z_iload (q := 61) (i := 5) (x := x5) dX7_lays_59 rfl rfl ?_
      refine z_iinc (q := 64) (i := 5) (x := x5) (v := (x5 + 1)) (ls2 := [none, some (.ref a1), some (.int x2), some (.ref a3), some (.ref a4), some (.int (x5 + 1)), some (.int x6)]) dX7_lays_61 rfl rfl (z_lt rfl) rfl rfl ?_
      refine z_aload_n (q := 65) (i := 1) (x := a1) dX7_lays_64 rfl rfl rfl ?_
      refine z_iload (q := 67) (i := 6) (x := x6) dX7_lays_65 rfl rfl ?_
      obtain ⟨g_7, hf⟩ := hf
      refine z_iald (q := 68) (n := n_1) g_2 g_7 dX7_lays_67 rfl ?_
      obtain ⟨n_8, g_9, hf⟩ := hf
      obtain ⟨g_10, hf⟩ := hf
      refine z_iast (q := 69) (n := n_8) g_9 g_10 dX7_lays_68 rfl ?_
      refine z_iinc (q := 72) (i := 6) (x := x6) (v := (x6 + 1)) (ls2 := [none, some (.ref a1), some (.int x2), some (.ref a3), some (.ref a4), some (.int (x5 + 1)), some (.int (x6 + 1))]) dX7_lays_69 rfl rfl (z_lt rfl) rfl rfl ?_
      refine z_goto (q := 42) dX7_lays_72 rfl ?_
      exact hf

theorem u_X8_init {l : Launch} {G : z_G} {a0 : Nat} {h : z_H} {Q : z_Q} (hst : l.stackTraces = false)  (hf : z_Ct l G m_X3_init [.ref a0] h (z_Qv (fun h_1 => Q none h_1))) : z_Ct l G m_X8_init [.ref a0] h Q := by
  refine z_Ct.of (ls := [some (.ref a0)]) hst rfl (by show plainName yX8_init.cls = true; decide +kernel) (z_le rfl) rfl ?_
  show z_V l G m_X8_init (z_Fm G m_X8_init Q) 0 0 h 0 [some (.ref a0)] []
  refine z_aload_n (q := 1) (i := 0) (x := a0) dX8_init_0 rfl rfl rfl ?_
  refine z_cINv m_X3_init [] (a0) (q := 4) (rc2 := 0) (rs2 := 0) (st := []) dX8_init_1 rfl (z_nwm q245 rfl) oI_X3_init rfl rfl ⟨z_le rfl, z_le rfl⟩ (z_le rfl) rfl  rfl hf (fun h_1 hf => ?_)
  exact z_vret dX8_init_4 rfl hf

theorem u_X8_lays {l : Launch} {G : z_G} {a0 : Nat} {a1 : Nat} {x2 : Int32} {a3 : Nat} {a4 : Nat} {h : z_H} {Q : z_Q} (hst : l.stackTraces = false)  (hf : ∀ v_1 : Int32, v_1 = (x2 - (x2 / 2)) → z_V l G m_X8_lays (z_Fm G m_X8_lays Q) 0 0 h 10 [none, some (.ref a1), some (.int x2), none, some (.ref a4), some (.int v_1), some (.int 0)] []) : z_Ct l G m_X8_lays [.ref a0, .ref a1, .int x2, .ref a3, .ref a4] h Q := by
  refine z_Ct.of (ls := [some (.ref a0), some (.ref a1), some (.int x2), some (.ref a3), some (.ref a4), none, none]) hst rfl (by show plainName yX8_lays.cls = true; decide +kernel) (z_le rfl) rfl ?_
  show z_V l G m_X8_lays (z_Fm G m_X8_lays Q) 0 0 h 0 [some (.ref a0), some (.ref a1), some (.int x2), some (.ref a3), some (.ref a4), none, none] []
  refine z_iload_n (q := 1) (i := 2) (x := x2) dX8_lays_0 rfl rfl rfl ?_
  refine z_iload_n (q := 2) (i := 2) (x := x2) dX8_lays_1 rfl rfl rfl ?_
  refine z_iconst (q := 3) (v := 2) dX8_lays_2 rfl rfl ?_
  refine z_idiv (q := 4) dX8_lays_3 (by decide) rfl ?_
  refine z_isub (q := 5) dX8_lays_4 rfl ?_
  refine z_nmI (fun v_1 hv_2 => ?_)
  have hf := hf v_1 hv_2
  refine z_istore (q := 7) (i := 5) (ls2 := [some (.ref a0), some (.ref a1), some (.int x2), some (.ref a3), some (.ref a4), some (.int v_1), none]) (x := v_1) dX8_lays_5 (z_lt rfl) rfl rfl ?_
  refine z_iconst (q := 8) (v := 0) dX8_lays_7 rfl rfl ?_
  refine z_istore (q := 10) (i := 6) (ls2 := [some (.ref a0), some (.ref a1), some (.int x2), some (.ref a3), some (.ref a4), some (.int v_1), some (.int 0)]) (x := 0) dX8_lays_8 (z_lt rfl) rfl rfl ?_
  refine z_prune [false, true, true, false, true, true, true] (ls2 := [none, some (.ref a1), some (.int x2), none, some (.ref a4), some (.int v_1), some (.int 0)]) rfl ?_
  exact hf

theorem b_X8_lays_10 {l : Launch} {G : z_G} {a1 : Nat} {x2 : Int32} {a4 : Nat} {x5 : Int32} {x6 : Int32} {h : z_H} {Q : z_Q}  (hf : (x2 ≤ x6 → Q none h) ∧ (¬ x2 ≤ x6 → ¬ x2 = 0 ∧ ∃ n_2, h.T a1 = (1, n_2) ∧ vp_in ((x6 + x5) - (x6 + x5) / x2 * x2) n_2 ∧ ∃ n_5, h.T a4 = (1, n_5) ∧ vp_in x6 n_5 ∧ z_V l G m_X8_lays (z_Fm G m_X8_lays Q) 0 0 (h.sI a4 (Int32.toNatClampNeg x6) (h.I a1 (Int32.toNatClampNeg ((x6 + x5) - (x6 + x5) / x2 * x2)))) 10 [none, some (.ref a1), some (.int x2), none, some (.ref a4), some (.int x5), some (.int (x6 + 1))] [])) : z_V l G m_X8_lays (z_Fm G m_X8_lays Q) 0 0 h 10 [none, some (.ref a1), some (.int x2), none, some (.ref a4), some (.int x5), some (.int x6)] [] := by
  refine z_iload (q := 12) (i := 6) (x := x6) dX8_lays_10 rfl rfl ?_
  refine z_iload_n (q := 13) (i := 2) (x := x2) dX8_lays_12 rfl rfl rfl ?_
  refine z_icmp_ge (q := 16) (tgt := 36) dX8_lays_13 rfl rfl (fun hc => ?_) (fun hc => ?_)
  · have hf := hf.1 hc
    exact z_vret dX8_lays_36 rfl hf
  · have hf := hf.2 hc
    refine z_aload (q := 18) (i := 4) (x := a4) dX8_lays_16 rfl rfl ?_
    refine z_iload (q := 20) (i := 6) (x := x6) dX8_lays_18 rfl rfl ?_
    refine z_aload_n (q := 21) (i := 1) (x := a1) dX8_lays_20 rfl rfl rfl ?_
    refine z_iload (q := 23) (i := 6) (x := x6) dX8_lays_21 rfl rfl ?_
    refine z_iload (q := 25) (i := 5) (x := x5) dX8_lays_23 rfl rfl ?_
    refine z_iadd (q := 26) dX8_lays_25 rfl ?_
    refine z_iload_n (q := 27) (i := 2) (x := x2) dX8_lays_26 rfl rfl rfl ?_
    obtain ⟨g_1, hf⟩ := hf
    refine z_irem (q := 28) dX8_lays_27 g_1 rfl ?_
    obtain ⟨n_2, g_3, hf⟩ := hf
    obtain ⟨g_4, hf⟩ := hf
    refine z_iald (q := 29) (n := n_2) g_3 g_4 dX8_lays_28 rfl ?_
    obtain ⟨n_5, g_6, hf⟩ := hf
    obtain ⟨g_7, hf⟩ := hf
    refine z_iast (q := 30) (n := n_5) g_6 g_7 dX8_lays_29 rfl ?_
    refine z_iinc (q := 33) (i := 6) (x := x6) (v := (x6 + 1)) (ls2 := [none, some (.ref a1), some (.int x2), none, some (.ref a4), some (.int x5), some (.int (x6 + 1))]) dX8_lays_30 rfl rfl (z_lt rfl) rfl rfl ?_
    refine z_goto (q := 10) dX8_lays_33 rfl ?_
    exact hf

theorem u_X9_again {l : Launch} {G : z_G} {a0 : Nat} {a1 : Nat} {x2 : Int32} {x3 : Int32} {h : z_H} {Q : z_Q} (hst : l.stackTraces = false)  (hf : z_L7 h a0 ∧ z_Ct l G m_X9_packs [.ref a0, .ref a1, .int 0] h (z_Ql (fun y_2 h_3 => z_L7 h_3 a0 ∧ z_Ct l G m_X9_packs [.ref a0, .ref a1, .int 16] h_3 (z_Ql (fun y_5 h_6 => z_L7 h_6 a0 ∧ z_Ct l G m_X9_packs [.ref a0, .ref a1, .int 32] h_6 (z_Ql (fun y_8 h_9 => z_L9 h_9 a1 ∧ ∀ v_11 : Int64, v_11 = (((Int32.toInt64 (h_9.I a1 6)) * 2) + (Int32.toInt64 (h_9.I a1 11))) → z_V l G m_X9_again (z_Fm G m_X9_again Q) 0 0 h_9 46 [some (.ref a0), some (.ref a1), some (.int x2), some (.int x3), some (.long y_2), none, some (.long y_5), none, some (.long y_8), none, some (.long v_11), none, some (.int 0)] []))))))) : z_Ct l G m_X9_again [.ref a0, .ref a1, .int x2, .int x3] h Q := by
  refine z_Ct.of (ls := [some (.ref a0), some (.ref a1), some (.int x2), some (.int x3), none, none, none, none, none, none, none, none, none]) hst rfl (by show plainName yX9_again.cls = true; decide +kernel) (z_le rfl) rfl ?_
  show z_V l G m_X9_again (z_Fm G m_X9_again Q) 0 0 h 0 [some (.ref a0), some (.ref a1), some (.int x2), some (.int x3), none, none, none, none, none, none, none, none, none] []
  refine z_aload_n (q := 1) (i := 0) (x := a0) dX9_again_0 rfl rfl rfl ?_
  refine z_aload_n (q := 2) (i := 1) (x := a1) dX9_again_1 rfl rfl rfl ?_
  refine z_iconst (q := 3) (v := 0) dX9_again_2 rfl rfl ?_
  obtain ⟨g_1, hf⟩ := hf
  refine z_cVl m_X9_packs [.ref a1, .int 0] (a0) (q := 6) (rc2 := 0) (rs2 := 0) (st := []) dX9_again_3 rfl q1431 oV_X9_packs rfl rfl ⟨z_le rfl, z_le rfl⟩ (z_le rfl) (z_rcv_of 7 rfl (z_L7_T g_1) rfl) rfl  rfl hf (fun y_2 h_3 hf => ?_)
  refine z_lstore (q := 8) (i := 4) (ls2 := [some (.ref a0), some (.ref a1), some (.int x2), some (.int x3), some (.long y_2), none, none, none, none, none, none, none, none]) (x := y_2) dX9_again_6 (z_lt rfl) rfl rfl ?_
  refine z_aload_n (q := 9) (i := 0) (x := a0) dX9_again_8 rfl rfl rfl ?_
  refine z_aload_n (q := 10) (i := 1) (x := a1) dX9_again_9 rfl rfl rfl ?_
  refine z_bipush (q := 12) (v := 16) dX9_again_10 (by decide) rfl ?_
  obtain ⟨g_4, hf⟩ := hf
  refine z_cVl m_X9_packs [.ref a1, .int 16] (a0) (q := 15) (rc2 := 0) (rs2 := 0) (st := []) dX9_again_12 rfl q1431 oV_X9_packs rfl rfl ⟨z_le rfl, z_le rfl⟩ (z_le rfl) (z_rcv_of 7 rfl (z_L7_T g_4) rfl) rfl  rfl hf (fun y_5 h_6 hf => ?_)
  refine z_lstore (q := 17) (i := 6) (ls2 := [some (.ref a0), some (.ref a1), some (.int x2), some (.int x3), some (.long y_2), none, some (.long y_5), none, none, none, none, none, none]) (x := y_5) dX9_again_15 (z_lt rfl) rfl rfl ?_
  refine z_aload_n (q := 18) (i := 0) (x := a0) dX9_again_17 rfl rfl rfl ?_
  refine z_aload_n (q := 19) (i := 1) (x := a1) dX9_again_18 rfl rfl rfl ?_
  refine z_bipush (q := 21) (v := 32) dX9_again_19 (by decide) rfl ?_
  obtain ⟨g_7, hf⟩ := hf
  refine z_cVl m_X9_packs [.ref a1, .int 32] (a0) (q := 24) (rc2 := 0) (rs2 := 0) (st := []) dX9_again_21 rfl q1431 oV_X9_packs rfl rfl ⟨z_le rfl, z_le rfl⟩ (z_le rfl) (z_rcv_of 7 rfl (z_L7_T g_7) rfl) rfl  rfl hf (fun y_8 h_9 hf => ?_)
  refine z_lstore (q := 26) (i := 8) (ls2 := [some (.ref a0), some (.ref a1), some (.int x2), some (.int x3), some (.long y_2), none, some (.long y_5), none, some (.long y_8), none, none, none, none]) (x := y_8) dX9_again_24 (z_lt rfl) rfl rfl ?_
  refine z_aload_n (q := 27) (i := 1) (x := a1) dX9_again_26 rfl rfl rfl ?_
  obtain ⟨g_10, hf⟩ := hf
  refine z_getN 9 6 (q := 30) (v := .int (h_9.I a1 6)) rfl (z_lt rfl) (z_L9_T g_10) (z_nwm q386 rfl) dX9_again_27 rfl rfl ?_
  refine z_i2l (q := 31) dX9_again_30 rfl ?_
  refine z_ldc2 (q := 34) (v := 2) dX9_again_31 q1436 rfl ?_
  refine z_lmul (q := 35) dX9_again_34 rfl ?_
  refine z_aload_n (q := 36) (i := 1) (x := a1) dX9_again_35 rfl rfl rfl ?_
  refine z_getN 9 11 (q := 39) (v := .int (h_9.I a1 11)) rfl (z_lt rfl) (z_L9_T g_10) (z_nwm q398 rfl) dX9_again_36 rfl rfl ?_
  refine z_i2l (q := 40) dX9_again_39 rfl ?_
  refine z_ladd (q := 41) dX9_again_40 rfl ?_
  refine z_nmL (fun v_11 hv_12 => ?_)
  have hf := hf v_11 hv_12
  refine z_lstore (q := 43) (i := 10) (ls2 := [some (.ref a0), some (.ref a1), some (.int x2), some (.int x3), some (.long y_2), none, some (.long y_5), none, some (.long y_8), none, some (.long v_11), none, none]) (x := v_11) dX9_again_41 (z_lt rfl) rfl rfl ?_
  refine z_iconst (q := 44) (v := 0) dX9_again_43 rfl rfl ?_
  refine z_istore (q := 46) (i := 12) (ls2 := [some (.ref a0), some (.ref a1), some (.int x2), some (.int x3), some (.long y_2), none, some (.long y_5), none, some (.long y_8), none, some (.long v_11), none, some (.int 0)]) (x := 0) dX9_again_44 (z_lt rfl) rfl rfl ?_
  exact hf

theorem b_X9_again_46 {l : Launch} {G : z_G} {a0 : Nat} {a1 : Nat} {x2 : Int32} {x3 : Int32} {y4 : Int64} {y6 : Int64} {y8 : Int64} {y10 : Int64} {x12 : Int32} {h : z_H} {Q : z_Q}  (hf : z_L7 h a0 ∧ ((h.I a0 6) ≤ x12 → vp_in (h.I a0 6) 3001 ∧ vp_in (h.I a0 6) 3001 ∧ vp_in (h.I a0 6) 3001 ∧ vp_in (h.I a0 6) 3001 ∧ z_L9 h a1 ∧ vp_in (h.I a0 6) 3001 ∧ vp_in (h.I a0 6) 3001 ∧ Q (some (.int 0)) (((((((h.sL (a0 + 1) (Int32.toNatClampNeg (h.I a0 6)) y4).sL (a0 + 2) (Int32.toNatClampNeg (h.I a0 6)) y6).sL (a0 + 3) (Int32.toNatClampNeg (h.I a0 6)) y8).sL (a0 + 4) (Int32.toNatClampNeg (h.I a0 6)) y10).sI (a0 + 5) (Int32.toNatClampNeg (h.I a0 6)) ((h.I a1 13) - x2)).sI a0 6 ((h.I a0 6) + 1)).sI (a0 + 6) (Int32.toNatClampNeg (h.I a0 6)) ((((((((h.sL (a0 + 1) (Int32.toNatClampNeg (h.I a0 6)) y4).sL (a0 + 2) (Int32.toNatClampNeg (h.I a0 6)) y6).sL (a0 + 3) (Int32.toNatClampNeg (h.I a0 6)) y8).sL (a0 + 4) (Int32.toNatClampNeg (h.I a0 6)) y10).sI (a0 + 5) (Int32.toNatClampNeg (h.I a0 6)) ((h.I a1 13) - x2)).sI a0 6 ((h.I a0 6) + 1)).I a1 14) - x3))) ∧ (¬ (h.I a0 6) ≤ x12 → vp_in x12 3001 ∧ ((lg_cmp (h.L (a0 + 1) (Int32.toNatClampNeg x12)) y4) = 0 → vp_in x12 3001 ∧ ((lg_cmp (h.L (a0 + 2) (Int32.toNatClampNeg x12)) y6) = 0 → vp_in x12 3001 ∧ ((lg_cmp (h.L (a0 + 3) (Int32.toNatClampNeg x12)) y8) = 0 → vp_in x12 3001 ∧ ((lg_cmp (h.L (a0 + 4) (Int32.toNatClampNeg x12)) y10) = 0 → vp_in x12 3001 ∧ vp_in x12 3001 ∧ z_L9 h a1 ∧ Q (some (.int 1)) ((((h.sI a0 7 2).sI a0 8 (h.I (a0 + 5) (Int32.toNatClampNeg x12))).sI a0 9 (h.I (a0 + 6) (Int32.toNatClampNeg x12))).sI a0 10 ((((((h.sI a0 7 2).sI a0 8 (h.I (a0 + 5) (Int32.toNatClampNeg x12))).sI a0 9 (h.I (a0 + 6) (Int32.toNatClampNeg x12))).I a1 13) - x2) - (h.I (a0 + 5) (Int32.toNatClampNeg x12))))) ∧ (¬ (lg_cmp (h.L (a0 + 4) (Int32.toNatClampNeg x12)) y10) = 0 → z_V l G m_X9_again (z_Fm G m_X9_again Q) 0 0 h 46 [some (.ref a0), some (.ref a1), some (.int x2), some (.int x3), some (.long y4), none, some (.long y6), none, some (.long y8), none, some (.long y10), none, some (.int (x12 + 1))] [])) ∧ (¬ (lg_cmp (h.L (a0 + 3) (Int32.toNatClampNeg x12)) y8) = 0 → z_V l G m_X9_again (z_Fm G m_X9_again Q) 0 0 h 46 [some (.ref a0), some (.ref a1), some (.int x2), some (.int x3), some (.long y4), none, some (.long y6), none, some (.long y8), none, some (.long y10), none, some (.int (x12 + 1))] [])) ∧ (¬ (lg_cmp (h.L (a0 + 2) (Int32.toNatClampNeg x12)) y6) = 0 → z_V l G m_X9_again (z_Fm G m_X9_again Q) 0 0 h 46 [some (.ref a0), some (.ref a1), some (.int x2), some (.int x3), some (.long y4), none, some (.long y6), none, some (.long y8), none, some (.long y10), none, some (.int (x12 + 1))] [])) ∧ (¬ (lg_cmp (h.L (a0 + 1) (Int32.toNatClampNeg x12)) y4) = 0 → z_V l G m_X9_again (z_Fm G m_X9_again Q) 0 0 h 46 [some (.ref a0), some (.ref a1), some (.int x2), some (.int x3), some (.long y4), none, some (.long y6), none, some (.long y8), none, some (.long y10), none, some (.int (x12 + 1))] []))) : z_V l G m_X9_again (z_Fm G m_X9_again Q) 0 0 h 46 [some (.ref a0), some (.ref a1), some (.int x2), some (.int x3), some (.long y4), none, some (.long y6), none, some (.long y8), none, some (.long y10), none, some (.int x12)] [] := by
  refine z_iload (q := 48) (i := 12) (x := x12) dX9_again_46 rfl rfl ?_
  refine z_aload_n (q := 49) (i := 0) (x := a0) dX9_again_48 rfl rfl rfl ?_
  obtain ⟨g_1, hf⟩ := hf
  refine z_get 7 6 (q := 52) (v := .int (h.I a0 6)) rfl (z_lt rfl) (z_L7_T g_1) q259 dX9_again_49 rfl rfl ?_
  refine z_icmp_ge (q := 55) (tgt := 160) dX9_again_52 rfl rfl (fun hc => ?_) (fun hc => ?_)
  · have hf := hf.1 hc
    refine z_aload_n (q := 161) (i := 0) (x := a0) dX9_again_160 rfl rfl rfl ?_
    refine z_get 7 0 (q := 164) (v := .ref (a0 + 1)) rfl (z_lt rfl) (z_L7_T g_1) q253 dX9_again_161 rfl (z_fvR (fun _ _ _ => rfl) (z_L7_P0 g_1)) ?_
    refine z_aload_n (q := 165) (i := 0) (x := a0) dX9_again_164 rfl rfl rfl ?_
    refine z_get 7 6 (q := 168) (v := .int (h.I a0 6)) rfl (z_lt rfl) (z_L7_T g_1) q259 dX9_again_165 rfl rfl ?_
    refine z_lload (q := 170) (i := 4) (x := y4) dX9_again_168 rfl rfl ?_
    obtain ⟨g_2, hf⟩ := hf
    refine z_last (q := 171) (n := 3001) (z_L7_A0 g_1) g_2 dX9_again_170 rfl ?_
    refine z_aload_n (q := 172) (i := 0) (x := a0) dX9_again_171 rfl rfl rfl ?_
    refine z_get 7 1 (q := 175) (v := .ref (a0 + 2)) rfl (z_lt rfl) (z_L7_T g_1) q254 dX9_again_172 rfl (z_fvR (fun _ _ _ => rfl) (z_L7_P1 g_1)) ?_
    refine z_aload_n (q := 176) (i := 0) (x := a0) dX9_again_175 rfl rfl rfl ?_
    refine z_get 7 6 (q := 179) (v := .int (h.I a0 6)) rfl (z_lt rfl) (z_L7_T g_1) q259 dX9_again_176 rfl rfl ?_
    refine z_lload (q := 181) (i := 6) (x := y6) dX9_again_179 rfl rfl ?_
    obtain ⟨g_3, hf⟩ := hf
    refine z_last (q := 182) (n := 3001) (z_L7_A1 g_1) g_3 dX9_again_181 rfl ?_
    refine z_aload_n (q := 183) (i := 0) (x := a0) dX9_again_182 rfl rfl rfl ?_
    refine z_get 7 2 (q := 186) (v := .ref (a0 + 3)) rfl (z_lt rfl) (z_L7_T g_1) q255 dX9_again_183 rfl (z_fvR (fun _ _ _ => rfl) (z_L7_P2 g_1)) ?_
    refine z_aload_n (q := 187) (i := 0) (x := a0) dX9_again_186 rfl rfl rfl ?_
    refine z_get 7 6 (q := 190) (v := .int (h.I a0 6)) rfl (z_lt rfl) (z_L7_T g_1) q259 dX9_again_187 rfl rfl ?_
    refine z_lload (q := 192) (i := 8) (x := y8) dX9_again_190 rfl rfl ?_
    obtain ⟨g_4, hf⟩ := hf
    refine z_last (q := 193) (n := 3001) (z_L7_A2 g_1) g_4 dX9_again_192 rfl ?_
    refine z_aload_n (q := 194) (i := 0) (x := a0) dX9_again_193 rfl rfl rfl ?_
    refine z_get 7 3 (q := 197) (v := .ref (a0 + 4)) rfl (z_lt rfl) (z_L7_T g_1) q256 dX9_again_194 rfl (z_fvR (fun _ _ _ => rfl) (z_L7_P3 g_1)) ?_
    refine z_aload_n (q := 198) (i := 0) (x := a0) dX9_again_197 rfl rfl rfl ?_
    refine z_get 7 6 (q := 201) (v := .int (h.I a0 6)) rfl (z_lt rfl) (z_L7_T g_1) q259 dX9_again_198 rfl rfl ?_
    refine z_lload (q := 203) (i := 10) (x := y10) dX9_again_201 rfl rfl ?_
    obtain ⟨g_5, hf⟩ := hf
    refine z_last (q := 204) (n := 3001) (z_L7_A3 g_1) g_5 dX9_again_203 rfl ?_
    refine z_aload_n (q := 205) (i := 0) (x := a0) dX9_again_204 rfl rfl rfl ?_
    refine z_get 7 4 (q := 208) (v := .ref (a0 + 5)) rfl (z_lt rfl) (z_L7_T g_1) q257 dX9_again_205 rfl (z_fvR (fun _ _ _ => rfl) (z_L7_P4 g_1)) ?_
    refine z_aload_n (q := 209) (i := 0) (x := a0) dX9_again_208 rfl rfl rfl ?_
    refine z_get 7 6 (q := 212) (v := .int (h.I a0 6)) rfl (z_lt rfl) (z_L7_T g_1) q259 dX9_again_209 rfl rfl ?_
    refine z_aload_n (q := 213) (i := 1) (x := a1) dX9_again_212 rfl rfl rfl ?_
    obtain ⟨g_6, hf⟩ := hf
    refine z_getN 9 13 (q := 216) (v := .int (h.I a1 13)) rfl (z_lt rfl) (z_L9_T g_6) (z_nwm q404 rfl) dX9_again_213 rfl rfl ?_
    refine z_iload_n (q := 217) (i := 2) (x := x2) dX9_again_216 rfl rfl rfl ?_
    refine z_isub (q := 218) dX9_again_217 rfl ?_
    obtain ⟨g_7, hf⟩ := hf
    refine z_iast (q := 219) (n := 3001) (z_L7_A4 g_1) g_7 dX9_again_218 rfl ?_
    refine z_aload_n (q := 220) (i := 0) (x := a0) dX9_again_219 rfl rfl rfl ?_
    refine z_get 7 5 (q := 223) (v := .ref (a0 + 6)) rfl (z_lt rfl) (z_L7_T g_1) q258 dX9_again_220 rfl (z_fvR (fun _ _ _ => rfl) (z_L7_P5 g_1)) ?_
    refine z_aload_n (q := 224) (i := 0) (x := a0) dX9_again_223 rfl rfl rfl ?_
    refine z_dup (q := 225) dX9_again_224 rfl rfl ?_
    refine z_get 7 6 (q := 228) (v := .int (h.I a0 6)) rfl (z_lt rfl) (z_L7_T g_1) q259 dX9_again_225 rfl (congrArg Value.int (z_rIa (by omega))) ?_
    refine z_dup_x1 (q := 229) dX9_again_228 rfl rfl rfl ?_
    refine z_iconst (q := 230) (v := 1) dX9_again_229 rfl rfl ?_
    refine z_iadd (q := 231) dX9_again_230 rfl ?_
    refine z_putI 7 6 (q := 234) (x := ((h.I a0 6) + 1)) (v := .int ((h.I a0 6) + 1)) rfl (z_lt rfl) (z_L7_T g_1) q259 rfl dX9_again_231 rfl rfl rfl rfl (fun _ _ _ => rfl) ?_
    refine z_aload_n (q := 235) (i := 1) (x := a1) dX9_again_234 rfl rfl rfl ?_
    refine z_getN 9 14 (q := 238) (v := .int (((((((h.sL (a0 + 1) (Int32.toNatClampNeg (h.I a0 6)) y4).sL (a0 + 2) (Int32.toNatClampNeg (h.I a0 6)) y6).sL (a0 + 3) (Int32.toNatClampNeg (h.I a0 6)) y8).sL (a0 + 4) (Int32.toNatClampNeg (h.I a0 6)) y10).sI (a0 + 5) (Int32.toNatClampNeg (h.I a0 6)) ((h.I a1 13) - x2)).sI a0 6 ((h.I a0 6) + 1)).I a1 14)) rfl (z_lt rfl) (z_L9_T g_6) (z_nwm q407 rfl) dX9_again_235 rfl rfl ?_
    refine z_iload_n (q := 239) (i := 3) (x := x3) dX9_again_238 rfl rfl rfl ?_
    refine z_isub (q := 240) dX9_again_239 rfl ?_
    obtain ⟨g_8, hf⟩ := hf
    refine z_iast (q := 241) (n := 3001) (z_L7_A5 g_1) g_8 dX9_again_240 rfl ?_
    refine z_iconst (q := 242) (v := 0) dX9_again_241 rfl rfl ?_
    exact z_zret dX9_again_242 rfl (z_nb01 z_b0) hf
  · have hf := hf.2 hc
    refine z_aload_n (q := 56) (i := 0) (x := a0) dX9_again_55 rfl rfl rfl ?_
    refine z_get 7 0 (q := 59) (v := .ref (a0 + 1)) rfl (z_lt rfl) (z_L7_T g_1) q253 dX9_again_56 rfl (z_fvR (fun _ _ _ => rfl) (z_L7_P0 g_1)) ?_
    refine z_iload (q := 61) (i := 12) (x := x12) dX9_again_59 rfl rfl ?_
    obtain ⟨g_9, hf⟩ := hf
    refine z_lald (q := 62) (n := 3001) (z_L7_A0 g_1) g_9 dX9_again_61 rfl ?_
    refine z_lload (q := 64) (i := 4) (x := y4) dX9_again_62 rfl rfl ?_
    refine z_lcmp (q := 65) dX9_again_64 rfl ?_
    refine z_if_ne (q := 68) (tgt := 154) dX9_again_65 rfl rfl (fun hc => ?_) (fun hc => ?_)
    · have hf := hf.2 hc
      refine z_iinc (q := 157) (i := 12) (x := x12) (v := (x12 + 1)) (ls2 := [some (.ref a0), some (.ref a1), some (.int x2), some (.int x3), some (.long y4), none, some (.long y6), none, some (.long y8), none, some (.long y10), none, some (.int (x12 + 1))]) dX9_again_154 rfl rfl (z_lt rfl) rfl rfl ?_
      refine z_goto (q := 46) dX9_again_157 rfl ?_
      exact hf
    · have hf := hf.1 hc
      refine z_aload_n (q := 69) (i := 0) (x := a0) dX9_again_68 rfl rfl rfl ?_
      refine z_get 7 1 (q := 72) (v := .ref (a0 + 2)) rfl (z_lt rfl) (z_L7_T g_1) q254 dX9_again_69 rfl (z_fvR (fun _ _ _ => rfl) (z_L7_P1 g_1)) ?_
      refine z_iload (q := 74) (i := 12) (x := x12) dX9_again_72 rfl rfl ?_
      obtain ⟨g_10, hf⟩ := hf
      refine z_lald (q := 75) (n := 3001) (z_L7_A1 g_1) g_10 dX9_again_74 rfl ?_
      refine z_lload (q := 77) (i := 6) (x := y6) dX9_again_75 rfl rfl ?_
      refine z_lcmp (q := 78) dX9_again_77 rfl ?_
      refine z_if_ne (q := 81) (tgt := 154) dX9_again_78 rfl rfl (fun hc => ?_) (fun hc => ?_)
      · have hf := hf.2 hc
        refine z_iinc (q := 157) (i := 12) (x := x12) (v := (x12 + 1)) (ls2 := [some (.ref a0), some (.ref a1), some (.int x2), some (.int x3), some (.long y4), none, some (.long y6), none, some (.long y8), none, some (.long y10), none, some (.int (x12 + 1))]) dX9_again_154 rfl rfl (z_lt rfl) rfl rfl ?_
        refine z_goto (q := 46) dX9_again_157 rfl ?_
        exact hf
      · have hf := hf.1 hc
        refine z_aload_n (q := 82) (i := 0) (x := a0) dX9_again_81 rfl rfl rfl ?_
        refine z_get 7 2 (q := 85) (v := .ref (a0 + 3)) rfl (z_lt rfl) (z_L7_T g_1) q255 dX9_again_82 rfl (z_fvR (fun _ _ _ => rfl) (z_L7_P2 g_1)) ?_
        refine z_iload (q := 87) (i := 12) (x := x12) dX9_again_85 rfl rfl ?_
        obtain ⟨g_11, hf⟩ := hf
        refine z_lald (q := 88) (n := 3001) (z_L7_A2 g_1) g_11 dX9_again_87 rfl ?_
        refine z_lload (q := 90) (i := 8) (x := y8) dX9_again_88 rfl rfl ?_
        refine z_lcmp (q := 91) dX9_again_90 rfl ?_
        refine z_if_ne (q := 94) (tgt := 154) dX9_again_91 rfl rfl (fun hc => ?_) (fun hc => ?_)
        · have hf := hf.2 hc
          refine z_iinc (q := 157) (i := 12) (x := x12) (v := (x12 + 1)) (ls2 := [some (.ref a0), some (.ref a1), some (.int x2), some (.int x3), some (.long y4), none, some (.long y6), none, some (.long y8), none, some (.long y10), none, some (.int (x12 + 1))]) dX9_again_154 rfl rfl (z_lt rfl) rfl rfl ?_
          refine z_goto (q := 46) dX9_again_157 rfl ?_
          exact hf
        · have hf := hf.1 hc
          refine z_aload_n (q := 95) (i := 0) (x := a0) dX9_again_94 rfl rfl rfl ?_
          refine z_get 7 3 (q := 98) (v := .ref (a0 + 4)) rfl (z_lt rfl) (z_L7_T g_1) q256 dX9_again_95 rfl (z_fvR (fun _ _ _ => rfl) (z_L7_P3 g_1)) ?_
          refine z_iload (q := 100) (i := 12) (x := x12) dX9_again_98 rfl rfl ?_
          obtain ⟨g_12, hf⟩ := hf
          refine z_lald (q := 101) (n := 3001) (z_L7_A3 g_1) g_12 dX9_again_100 rfl ?_
          refine z_lload (q := 103) (i := 10) (x := y10) dX9_again_101 rfl rfl ?_
          refine z_lcmp (q := 104) dX9_again_103 rfl ?_
          refine z_if_eq (q := 107) (tgt := 110) dX9_again_104 rfl rfl (fun hc => ?_) (fun hc => ?_)
          · have hf := hf.1 hc
            refine z_aload_n (q := 111) (i := 0) (x := a0) dX9_again_110 rfl rfl rfl ?_
            refine z_iconst (q := 112) (v := 2) dX9_again_111 rfl rfl ?_
            refine z_putI 7 7 (q := 115) (x := 2) (v := .int 2) rfl (z_lt rfl) (z_L7_T g_1) q260 rfl dX9_again_112 rfl rfl rfl rfl (fun _ _ _ => rfl) ?_
            refine z_aload_n (q := 116) (i := 0) (x := a0) dX9_again_115 rfl rfl rfl ?_
            refine z_aload_n (q := 117) (i := 0) (x := a0) dX9_again_116 rfl rfl rfl ?_
            refine z_get 7 4 (q := 120) (v := .ref (a0 + 5)) rfl (z_lt rfl) (z_L7_T g_1) q257 dX9_again_117 rfl (z_fvR (fun _ _ _ => rfl) (z_L7_P4 g_1)) ?_
            refine z_iload (q := 122) (i := 12) (x := x12) dX9_again_120 rfl rfl ?_
            obtain ⟨g_13, hf⟩ := hf
            refine z_iald (q := 123) (n := 3001) (z_L7_A4 g_1) g_13 dX9_again_122 rfl ?_
            refine z_topI (z_rIa (by omega)) ?_
            refine z_putI 7 8 (q := 126) (x := (h.I (a0 + 5) (Int32.toNatClampNeg x12))) (v := .int (h.I (a0 + 5) (Int32.toNatClampNeg x12))) rfl (z_lt rfl) (z_L7_T g_1) q262 rfl dX9_again_123 rfl rfl rfl rfl (fun _ _ _ => rfl) ?_
            refine z_aload_n (q := 127) (i := 0) (x := a0) dX9_again_126 rfl rfl rfl ?_
            refine z_aload_n (q := 128) (i := 0) (x := a0) dX9_again_127 rfl rfl rfl ?_
            refine z_get 7 5 (q := 131) (v := .ref (a0 + 6)) rfl (z_lt rfl) (z_L7_T g_1) q258 dX9_again_128 rfl (z_fvR (fun _ _ _ => rfl) (z_L7_P5 g_1)) ?_
            refine z_iload (q := 133) (i := 12) (x := x12) dX9_again_131 rfl rfl ?_
            obtain ⟨g_14, hf⟩ := hf
            refine z_iald (q := 134) (n := 3001) (z_L7_A5 g_1) g_14 dX9_again_133 rfl ?_
            refine z_topI (Eq.trans (z_rIa (by omega)) (z_rIa (by omega))) ?_
            refine z_putI 7 9 (q := 137) (x := (h.I (a0 + 6) (Int32.toNatClampNeg x12))) (v := .int (h.I (a0 + 6) (Int32.toNatClampNeg x12))) rfl (z_lt rfl) (z_L7_T g_1) q264 rfl dX9_again_134 rfl rfl rfl rfl (fun _ _ _ => rfl) ?_
            refine z_aload_n (q := 138) (i := 0) (x := a0) dX9_again_137 rfl rfl rfl ?_
            refine z_aload_n (q := 139) (i := 1) (x := a1) dX9_again_138 rfl rfl rfl ?_
            obtain ⟨g_15, hf⟩ := hf
            refine z_getN 9 13 (q := 142) (v := .int ((((h.sI a0 7 2).sI a0 8 (h.I (a0 + 5) (Int32.toNatClampNeg x12))).sI a0 9 (h.I (a0 + 6) (Int32.toNatClampNeg x12))).I a1 13)) rfl (z_lt rfl) (z_L9_T g_15) (z_nwm q404 rfl) dX9_again_139 rfl rfl ?_
            refine z_iload_n (q := 143) (i := 2) (x := x2) dX9_again_142 rfl rfl rfl ?_
            refine z_isub (q := 144) dX9_again_143 rfl ?_
            refine z_aload_n (q := 145) (i := 0) (x := a0) dX9_again_144 rfl rfl rfl ?_
            refine z_get 7 8 (q := 148) (v := .int (h.I (a0 + 5) (Int32.toNatClampNeg x12))) rfl (z_lt rfl) (z_L7_T g_1) q262 dX9_again_145 rfl (congrArg Value.int (Eq.trans (z_rIf (by decide)) z_rIs)) ?_
            refine z_isub (q := 149) dX9_again_148 rfl ?_
            refine z_putI 7 10 (q := 152) (x := ((((((h.sI a0 7 2).sI a0 8 (h.I (a0 + 5) (Int32.toNatClampNeg x12))).sI a0 9 (h.I (a0 + 6) (Int32.toNatClampNeg x12))).I a1 13) - x2) - (h.I (a0 + 5) (Int32.toNatClampNeg x12)))) (v := .int ((((((h.sI a0 7 2).sI a0 8 (h.I (a0 + 5) (Int32.toNatClampNeg x12))).sI a0 9 (h.I (a0 + 6) (Int32.toNatClampNeg x12))).I a1 13) - x2) - (h.I (a0 + 5) (Int32.toNatClampNeg x12)))) rfl (z_lt rfl) (z_L7_T g_1) q266 rfl dX9_again_149 rfl rfl rfl rfl (fun _ _ _ => rfl) ?_
            refine z_iconst (q := 153) (v := 1) dX9_again_152 rfl rfl ?_
            exact z_zret dX9_again_153 rfl (z_nb01 z_b1) hf
          · have hf := hf.2 hc
            refine z_goto (q := 154) dX9_again_107 rfl ?_
            refine z_iinc (q := 157) (i := 12) (x := x12) (v := (x12 + 1)) (ls2 := [some (.ref a0), some (.ref a1), some (.int x2), some (.int x3), some (.long y4), none, some (.long y6), none, some (.long y8), none, some (.long y10), none, some (.int (x12 + 1))]) dX9_again_154 rfl rfl (z_lt rfl) rfl rfl ?_
            refine z_goto (q := 46) dX9_again_157 rfl ?_
            exact hf

theorem u_X9_goes {l : Launch} {G : z_G} {a0 : Nat} {a1 : Nat} {a2 : Nat} {x3 : Int32} {h : z_H} {Q : z_Q} (hst : l.stackTraces = false)  (hf : z_L9 h a1 ∧ z_L7 h a0 ∧ z_Ct l G m_X11_isRest [.ref a1] ((h.sI a0 6 0).sI a0 10 0) (z_Qi (fun x_3 h_4 => (x_3 = 0 → z_L7 h_4 a0 ∧ z_V l G m_X9_goes (z_Fm G m_X9_goes Q) 0 0 (h_4.sI a0 7 3) 44 [some (.ref a0), some (.ref a1), some (.ref a2), some (.int x3), some (.int (h.I a1 13)), some (.int (h.I a1 14)), none] []) ∧ (¬ x_3 = 0 → z_L7 h_4 a0 ∧ z_Ct l G m_X9_again [.ref a0, .ref a1, .int (h.I a1 13), .int (h.I a1 14)] h_4 (z_Qi (fun x_7 h_8 => z_L7 h_8 a0 ∧ z_V l G m_X9_goes (z_Fm G m_X9_goes Q) 0 0 (h_8.sI a0 7 3) 44 [some (.ref a0), some (.ref a1), some (.ref a2), some (.int x3), some (.int (h.I a1 13)), some (.int (h.I a1 14)), none] [])))))) : z_Ct l G m_X9_goes [.ref a0, .ref a1, .ref a2, .int x3] h Q := by
  refine z_Ct.of (ls := [some (.ref a0), some (.ref a1), some (.ref a2), some (.int x3), none, none, none]) hst rfl (by show plainName yX9_goes.cls = true; decide +kernel) (z_le rfl) rfl ?_
  show z_V l G m_X9_goes (z_Fm G m_X9_goes Q) 0 0 h 0 [some (.ref a0), some (.ref a1), some (.ref a2), some (.int x3), none, none, none] []
  refine z_aload_n (q := 1) (i := 1) (x := a1) dX9_goes_0 rfl rfl rfl ?_
  obtain ⟨g_1, hf⟩ := hf
  refine z_getN 9 13 (q := 4) (v := .int (h.I a1 13)) rfl (z_lt rfl) (z_L9_T g_1) (z_nwm q404 rfl) dX9_goes_1 rfl rfl ?_
  refine z_istore (q := 6) (i := 4) (ls2 := [some (.ref a0), some (.ref a1), some (.ref a2), some (.int x3), some (.int (h.I a1 13)), none, none]) (x := (h.I a1 13)) dX9_goes_4 (z_lt rfl) rfl rfl ?_
  refine z_aload_n (q := 7) (i := 1) (x := a1) dX9_goes_6 rfl rfl rfl ?_
  refine z_getN 9 14 (q := 10) (v := .int (h.I a1 14)) rfl (z_lt rfl) (z_L9_T g_1) (z_nwm q407 rfl) dX9_goes_7 rfl rfl ?_
  refine z_istore (q := 12) (i := 5) (ls2 := [some (.ref a0), some (.ref a1), some (.ref a2), some (.int x3), some (.int (h.I a1 13)), some (.int (h.I a1 14)), none]) (x := (h.I a1 14)) dX9_goes_10 (z_lt rfl) rfl rfl ?_
  refine z_aload_n (q := 13) (i := 0) (x := a0) dX9_goes_12 rfl rfl rfl ?_
  refine z_iconst (q := 14) (v := 0) dX9_goes_13 rfl rfl ?_
  obtain ⟨g_2, hf⟩ := hf
  refine z_putI 7 6 (q := 17) (x := 0) (v := .int 0) rfl (z_lt rfl) (z_L7_T g_2) q259 rfl dX9_goes_14 rfl rfl rfl rfl (fun _ _ _ => rfl) ?_
  refine z_aload_n (q := 18) (i := 0) (x := a0) dX9_goes_17 rfl rfl rfl ?_
  refine z_iconst (q := 19) (v := 0) dX9_goes_18 rfl rfl ?_
  refine z_putI 7 10 (q := 22) (x := 0) (v := .int 0) rfl (z_lt rfl) (z_L7_T g_2) q266 rfl dX9_goes_19 rfl rfl rfl rfl (fun _ _ _ => rfl) ?_
  refine z_aload_n (q := 23) (i := 1) (x := a1) dX9_goes_22 rfl rfl rfl ?_
  refine z_cVi m_X11_isRest [] (a1) (q := 26) (rc2 := 0) (rs2 := 0) (st := []) dX9_goes_23 rfl q1423 oV_X11_isRest rfl rfl ⟨z_le rfl, z_le rfl⟩ (z_le rfl) (z_rcv_of 9 rfl (z_L9_T g_1) rfl) rfl  rfl hf (fun x_3 h_4 hf => ?_)
  refine z_if_eq (q := 29) (tgt := 39) dX9_goes_26 rfl rfl (fun hc => ?_) (fun hc => ?_)
  · have hf := hf.1 hc
    refine z_aload_n (q := 40) (i := 0) (x := a0) dX9_goes_39 rfl rfl rfl ?_
    refine z_iconst (q := 41) (v := 3) dX9_goes_40 rfl rfl ?_
    obtain ⟨g_5, hf⟩ := hf
    refine z_putI 7 7 (q := 44) (x := 3) (v := .int 3) rfl (z_lt rfl) (z_L7_T g_5) q260 rfl dX9_goes_41 rfl rfl rfl rfl (fun _ _ _ => rfl) ?_
    exact hf
  · have hf := hf.2 hc
    refine z_aload_n (q := 30) (i := 0) (x := a0) dX9_goes_29 rfl rfl rfl ?_
    refine z_aload_n (q := 31) (i := 1) (x := a1) dX9_goes_30 rfl rfl rfl ?_
    refine z_iload (q := 33) (i := 4) (x := (h.I a1 13)) dX9_goes_31 rfl rfl ?_
    refine z_iload (q := 35) (i := 5) (x := (h.I a1 14)) dX9_goes_33 rfl rfl ?_
    obtain ⟨g_6, hf⟩ := hf
    refine z_cVi m_X9_again [.ref a1, .int (h.I a1 13), .int (h.I a1 14)] (a0) (q := 38) (rc2 := 0) (rs2 := 0) (st := []) dX9_goes_35 rfl q1427 oV_X9_again rfl rfl ⟨z_le rfl, z_le rfl⟩ (z_le rfl) (z_rcv_of 7 rfl (z_L7_T g_6) rfl) rfl  rfl hf (fun x_7 h_8 hf => ?_)
    refine z_pop (q := 39) dX9_goes_38 rfl rfl ?_
    refine z_aload_n (q := 40) (i := 0) (x := a0) dX9_goes_39 rfl rfl rfl ?_
    refine z_iconst (q := 41) (v := 3) dX9_goes_40 rfl rfl ?_
    obtain ⟨g_9, hf⟩ := hf
    refine z_putI 7 7 (q := 44) (x := 3) (v := .int 3) rfl (z_lt rfl) (z_L7_T g_9) q260 rfl dX9_goes_41 rfl rfl rfl rfl (fun _ _ _ => rfl) ?_
    exact hf

theorem b_X9_goes_44 {l : Launch} {G : z_G} {a0 : Nat} {a1 : Nat} {a2 : Nat} {x3 : Int32} {x4 : Int32} {x5 : Int32} {h : z_H} {Q : z_Q}  (hf : z_L9 h a1 ∧ (x3 ≤ ((h.I a1 13) - x4) → (0 ≤ (h.I a1 12) → z_V l G m_X9_goes (z_Fm G m_X9_goes Q) 0 0 h 148 [some (.ref a0), some (.ref a1), none, none, some (.int x4), some (.int x5), none] []) ∧ (¬ 0 ≤ (h.I a1 12) → z_Ct l G m_X11_cards [.ref a1, .int (h.I a1 11)] h (z_Qi (fun x_2 h_3 => (x_2 = 0 → z_L9 h_3 a1 ∧ z_V l G m_X9_goes (z_Fm G m_X9_goes Q) 0 0 (h_3.sI a1 12 (1 - (h_3.I a1 11))) 148 [some (.ref a0), some (.ref a1), none, none, some (.int x4), some (.int x5), none] []) ∧ (¬ x_2 = 0 → z_V l G m_X9_goes (z_Fm G m_X9_goes Q) 0 0 h_3 148 [some (.ref a0), some (.ref a1), none, none, some (.int x4), some (.int x5), none] []))))) ∧ (¬ x3 ≤ ((h.I a1 13) - x4) → z_L7 h a0 ∧ ∃ b_6, (h.P a0 11) = some b_6 ∧ z_L0 h b_6 ∧ ∃ b_9, (h.P a0 11) = some b_9 ∧ z_L0 h b_9 ∧ ∃ b_12, (h.P b_9 4) = some b_12 ∧ z_L8 h b_12 ∧ z_Ct l G m_X10_order [.ref b_12] h (z_Qi (fun x_15 h_16 => ∃ n_17, h_16.T (b_6 + 3) = (6, n_17) ∧ vp_in x_15 n_17 ∧ ∃ b_20, (h_16.P (b_6 + 3) (Int32.toNatClampNeg x_15)) = some b_20 ∧ z_L7 h_16 a0 ∧ ∃ b_23, (h_16.P a0 11) = some b_23 ∧ z_L0 h_16 b_23 ∧ vp_in 1 5 ∧ ∃ b_27, (h_16.P (b_23 + 3) (Int32.toNatClampNeg 1)) = some b_27 ∧ z_L9 h_16 a1 ∧ z_Ct l G m_X11_turn [.ref a1, .ref a2, .ref b_20, .ref b_27] h_16 (z_Qi (fun x_30 h_31 => (x_30 = 2 → z_L9 h_31 a1 ∧ (0 ≤ (h_31.I a1 12) → z_V l G m_X9_goes (z_Fm G m_X9_goes Q) 0 0 h_31 148 [some (.ref a0), some (.ref a1), none, none, some (.int x4), some (.int x5), none] []) ∧ (¬ 0 ≤ (h_31.I a1 12) → z_Ct l G m_X11_cards [.ref a1, .int (h_31.I a1 11)] h_31 (z_Qi (fun x_36 h_37 => (x_36 = 0 → z_L9 h_37 a1 ∧ z_V l G m_X9_goes (z_Fm G m_X9_goes Q) 0 0 (h_37.sI a1 12 (1 - (h_37.I a1 11))) 148 [some (.ref a0), some (.ref a1), none, none, some (.int x4), some (.int x5), none] []) ∧ (¬ x_36 = 0 → z_V l G m_X9_goes (z_Fm G m_X9_goes Q) 0 0 h_37 148 [some (.ref a0), some (.ref a1), none, none, some (.int x4), some (.int x5), none] []))))) ∧ (¬ x_30 = 2 → (x_30 = 1 → z_L7 h_31 a0 ∧ z_Ct l G m_X9_again [.ref a0, .ref a1, .int x4, .int x5] h_31 (z_Qi (fun x_33 h_34 => (x_33 = 0 → z_V l G m_X9_goes (z_Fm G m_X9_goes Q) 0 0 h_34 44 [some (.ref a0), some (.ref a1), some (.ref a2), some (.int x3), some (.int x4), some (.int x5), none] []) ∧ (¬ x_33 = 0 → Q none h_34)))) ∧ (¬ x_30 = 1 → z_V l G m_X9_goes (z_Fm G m_X9_goes Q) 0 0 h_31 44 [some (.ref a0), some (.ref a1), some (.ref a2), some (.int x3), some (.int x4), some (.int x5), none] [])))))))) : z_V l G m_X9_goes (z_Fm G m_X9_goes Q) 0 0 h 44 [some (.ref a0), some (.ref a1), some (.ref a2), some (.int x3), some (.int x4), some (.int x5), none] [] := by
  refine z_aload_n (q := 45) (i := 1) (x := a1) dX9_goes_44 rfl rfl rfl ?_
  obtain ⟨g_1, hf⟩ := hf
  refine z_getN 9 13 (q := 48) (v := .int (h.I a1 13)) rfl (z_lt rfl) (z_L9_T g_1) (z_nwm q404 rfl) dX9_goes_45 rfl rfl ?_
  refine z_iload (q := 50) (i := 4) (x := x4) dX9_goes_48 rfl rfl ?_
  refine z_isub (q := 51) dX9_goes_50 rfl ?_
  refine z_iload_n (q := 52) (i := 3) (x := x3) dX9_goes_51 rfl rfl rfl ?_
  refine z_icmp_ge (q := 55) (tgt := 120) dX9_goes_52 rfl rfl (fun hc => ?_) (fun hc => ?_)
  · have hf := hf.1 hc
    refine z_aload_n (q := 121) (i := 1) (x := a1) dX9_goes_120 rfl rfl rfl ?_
    refine z_getN 9 12 (q := 124) (v := .int (h.I a1 12)) rfl (z_lt rfl) (z_L9_T g_1) (z_nwm q401 rfl) dX9_goes_121 rfl rfl ?_
    refine z_if_ge (q := 127) (tgt := 148) dX9_goes_124 rfl rfl (fun hc => ?_) (fun hc => ?_)
    · have hf := hf.1 hc
      refine z_prune [true, true, false, false, true, true, false] (ls2 := [some (.ref a0), some (.ref a1), none, none, some (.int x4), some (.int x5), none]) rfl ?_
      exact hf
    · have hf := hf.2 hc
      refine z_aload_n (q := 128) (i := 1) (x := a1) dX9_goes_127 rfl rfl rfl ?_
      refine z_aload_n (q := 129) (i := 1) (x := a1) dX9_goes_128 rfl rfl rfl ?_
      refine z_getN 9 11 (q := 132) (v := .int (h.I a1 11)) rfl (z_lt rfl) (z_L9_T g_1) (z_nwm q398 rfl) dX9_goes_129 rfl rfl ?_
      refine z_cVi m_X11_cards [.int (h.I a1 11)] (a1) (q := 135) (rc2 := 0) (rs2 := 0) (st := []) dX9_goes_132 rfl q1444 oV_X11_cards rfl rfl ⟨z_le rfl, z_le rfl⟩ (z_le rfl) (z_rcv_of 9 rfl (z_L9_T g_1) rfl) rfl  rfl hf (fun x_2 h_3 hf => ?_)
      refine z_if_ne (q := 138) (tgt := 148) dX9_goes_135 rfl rfl (fun hc => ?_) (fun hc => ?_)
      · have hf := hf.2 hc
        refine z_prune [true, true, false, false, true, true, false] (ls2 := [some (.ref a0), some (.ref a1), none, none, some (.int x4), some (.int x5), none]) rfl ?_
        exact hf
      · have hf := hf.1 hc
        refine z_aload_n (q := 139) (i := 1) (x := a1) dX9_goes_138 rfl rfl rfl ?_
        refine z_iconst (q := 140) (v := 1) dX9_goes_139 rfl rfl ?_
        refine z_aload_n (q := 141) (i := 1) (x := a1) dX9_goes_140 rfl rfl rfl ?_
        obtain ⟨g_4, hf⟩ := hf
        refine z_getN 9 11 (q := 144) (v := .int (h_3.I a1 11)) rfl (z_lt rfl) (z_L9_T g_4) (z_nwm q398 rfl) dX9_goes_141 rfl rfl ?_
        refine z_isub (q := 145) dX9_goes_144 rfl ?_
        refine z_putIN 9 12 (q := 148) (x := (1 - (h_3.I a1 11))) (v := .int (1 - (h_3.I a1 11))) rfl (z_lt rfl) (z_L9_T g_4) (z_nwm q401 rfl) rfl dX9_goes_145 rfl rfl rfl rfl (fun _ _ _ => rfl) ?_
        refine z_prune [true, true, false, false, true, true, false] (ls2 := [some (.ref a0), some (.ref a1), none, none, some (.int x4), some (.int x5), none]) rfl ?_
        exact hf
  · have hf := hf.2 hc
    refine z_aload_n (q := 56) (i := 1) (x := a1) dX9_goes_55 rfl rfl rfl ?_
    refine z_aload_n (q := 57) (i := 2) (x := a2) dX9_goes_56 rfl rfl rfl ?_
    refine z_aload_n (q := 58) (i := 0) (x := a0) dX9_goes_57 rfl rfl rfl ?_
    obtain ⟨g_5, hf⟩ := hf
    obtain ⟨b_6, g_7, hf⟩ := hf
    refine z_get 7 11 (q := 61) (v := .ref b_6) rfl (z_lt rfl) (z_L7_T g_5) q268 dX9_goes_58 rfl (z_fvR (fun _ _ _ => rfl) g_7) ?_
    obtain ⟨g_8, hf⟩ := hf
    refine z_getN 0 2 (q := 64) (v := .ref (b_6 + 3)) rfl (z_lt rfl) (z_L0_T g_8) (z_nwm q506 rfl) dX9_goes_61 rfl (z_fvR (fun _ _ _ => rfl) (z_L0_P2 g_8)) ?_
    refine z_aload_n (q := 65) (i := 0) (x := a0) dX9_goes_64 rfl rfl rfl ?_
    obtain ⟨b_9, g_10, hf⟩ := hf
    refine z_get 7 11 (q := 68) (v := .ref b_9) rfl (z_lt rfl) (z_L7_T g_5) q268 dX9_goes_65 rfl (z_fvR (fun _ _ _ => rfl) g_10) ?_
    obtain ⟨g_11, hf⟩ := hf
    obtain ⟨b_12, g_13, hf⟩ := hf
    refine z_getN 0 4 (q := 71) (v := .ref b_12) rfl (z_lt rfl) (z_L0_T g_11) (z_nwm q509 rfl) dX9_goes_68 rfl (z_fvR (fun _ _ _ => rfl) g_13) ?_
    obtain ⟨g_14, hf⟩ := hf
    refine z_cVi m_X10_order [] (b_12) (q := 74) (rc2 := 0) (rs2 := 0) (st := [.ref (b_6 + 3), .ref a2, .ref a1]) dX9_goes_71 rfl q1437 oV_X10_order rfl rfl ⟨z_le rfl, z_le rfl⟩ (z_le rfl) (z_rcv_of 8 rfl (z_L8_T g_14) rfl) rfl  rfl hf (fun x_15 h_16 hf => ?_)
    obtain ⟨n_17, g_18, hf⟩ := hf
    obtain ⟨g_19, hf⟩ := hf
    obtain ⟨b_20, g_21, hf⟩ := hf
    refine z_aald (q := 75) (n := n_17) (v := .ref b_20) g_18 (by decide) g_19 dX9_goes_74 rfl (z_rfR g_21) ?_
    refine z_aload_n (q := 76) (i := 0) (x := a0) dX9_goes_75 rfl rfl rfl ?_
    obtain ⟨g_22, hf⟩ := hf
    obtain ⟨b_23, g_24, hf⟩ := hf
    refine z_get 7 11 (q := 79) (v := .ref b_23) rfl (z_lt rfl) (z_L7_T g_22) q268 dX9_goes_76 rfl (z_fvR (fun _ _ _ => rfl) g_24) ?_
    obtain ⟨g_25, hf⟩ := hf
    refine z_getN 0 2 (q := 82) (v := .ref (b_23 + 3)) rfl (z_lt rfl) (z_L0_T g_25) (z_nwm q506 rfl) dX9_goes_79 rfl (z_fvR (fun _ _ _ => rfl) (z_L0_P2 g_25)) ?_
    refine z_iconst (q := 83) (v := 1) dX9_goes_82 rfl rfl ?_
    obtain ⟨g_26, hf⟩ := hf
    obtain ⟨b_27, g_28, hf⟩ := hf
    refine z_aald (q := 84) (n := 5) (v := .ref b_27) (z_L0_A2 g_25) (by decide) g_26 dX9_goes_83 rfl (z_rfR g_28) ?_
    obtain ⟨g_29, hf⟩ := hf
    refine z_cVi m_X11_turn [.ref a2, .ref b_20, .ref b_27] (a1) (q := 87) (rc2 := 0) (rs2 := 0) (st := []) dX9_goes_84 rfl q1438 oV_X11_turn rfl rfl ⟨z_le rfl, z_le rfl⟩ (z_le rfl) (z_rcv_of 9 rfl (z_L9_T g_29) rfl) rfl  rfl hf (fun x_30 h_31 hf => ?_)
    refine z_istore (q := 89) (i := 6) (ls2 := [some (.ref a0), some (.ref a1), some (.ref a2), some (.int x3), some (.int x4), some (.int x5), some (.int x_30)]) (x := x_30) dX9_goes_87 (z_lt rfl) rfl rfl ?_
    refine z_iload (q := 91) (i := 6) (x := x_30) dX9_goes_89 rfl rfl ?_
    refine z_iconst (q := 92) (v := 2) dX9_goes_91 rfl rfl ?_
    refine z_icmp_ne (q := 95) (tgt := 98) dX9_goes_92 rfl rfl (fun hc => ?_) (fun hc => ?_)
    · have hf := hf.2 hc
      refine z_iload (q := 100) (i := 6) (x := x_30) dX9_goes_98 rfl rfl ?_
      refine z_iconst (q := 101) (v := 1) dX9_goes_100 rfl rfl ?_
      refine z_icmp_ne (q := 104) (tgt := 117) dX9_goes_101 rfl rfl (fun hc => ?_) (fun hc => ?_)
      · have hf := hf.2 hc
        refine z_goto (q := 44) dX9_goes_117 rfl ?_
        refine z_prune [true, true, true, true, true, true, false] (ls2 := [some (.ref a0), some (.ref a1), some (.ref a2), some (.int x3), some (.int x4), some (.int x5), none]) rfl ?_
        exact hf
      · have hf := hf.1 hc
        refine z_aload_n (q := 105) (i := 0) (x := a0) dX9_goes_104 rfl rfl rfl ?_
        refine z_aload_n (q := 106) (i := 1) (x := a1) dX9_goes_105 rfl rfl rfl ?_
        refine z_iload (q := 108) (i := 4) (x := x4) dX9_goes_106 rfl rfl ?_
        refine z_iload (q := 110) (i := 5) (x := x5) dX9_goes_108 rfl rfl ?_
        obtain ⟨g_32, hf⟩ := hf
        refine z_cVi m_X9_again [.ref a1, .int x4, .int x5] (a0) (q := 113) (rc2 := 0) (rs2 := 0) (st := []) dX9_goes_110 rfl q1427 oV_X9_again rfl rfl ⟨z_le rfl, z_le rfl⟩ (z_le rfl) (z_rcv_of 7 rfl (z_L7_T g_32) rfl) rfl  rfl hf (fun x_33 h_34 hf => ?_)
        refine z_if_eq (q := 116) (tgt := 117) dX9_goes_113 rfl rfl (fun hc => ?_) (fun hc => ?_)
        · have hf := hf.1 hc
          refine z_goto (q := 44) dX9_goes_117 rfl ?_
          refine z_prune [true, true, true, true, true, true, false] (ls2 := [some (.ref a0), some (.ref a1), some (.ref a2), some (.int x3), some (.int x4), some (.int x5), none]) rfl ?_
          exact hf
        · have hf := hf.2 hc
          exact z_vret dX9_goes_116 rfl hf
    · have hf := hf.1 hc
      refine z_goto (q := 120) dX9_goes_95 rfl ?_
      refine z_aload_n (q := 121) (i := 1) (x := a1) dX9_goes_120 rfl rfl rfl ?_
      obtain ⟨g_35, hf⟩ := hf
      refine z_getN 9 12 (q := 124) (v := .int (h_31.I a1 12)) rfl (z_lt rfl) (z_L9_T g_35) (z_nwm q401 rfl) dX9_goes_121 rfl rfl ?_
      refine z_if_ge (q := 127) (tgt := 148) dX9_goes_124 rfl rfl (fun hc => ?_) (fun hc => ?_)
      · have hf := hf.1 hc
        refine z_prune [true, true, false, false, true, true, false] (ls2 := [some (.ref a0), some (.ref a1), none, none, some (.int x4), some (.int x5), none]) rfl ?_
        exact hf
      · have hf := hf.2 hc
        refine z_aload_n (q := 128) (i := 1) (x := a1) dX9_goes_127 rfl rfl rfl ?_
        refine z_aload_n (q := 129) (i := 1) (x := a1) dX9_goes_128 rfl rfl rfl ?_
        refine z_getN 9 11 (q := 132) (v := .int (h_31.I a1 11)) rfl (z_lt rfl) (z_L9_T g_35) (z_nwm q398 rfl) dX9_goes_129 rfl rfl ?_
        refine z_cVi m_X11_cards [.int (h_31.I a1 11)] (a1) (q := 135) (rc2 := 0) (rs2 := 0) (st := []) dX9_goes_132 rfl q1444 oV_X11_cards rfl rfl ⟨z_le rfl, z_le rfl⟩ (z_le rfl) (z_rcv_of 9 rfl (z_L9_T g_35) rfl) rfl  rfl hf (fun x_36 h_37 hf => ?_)
        refine z_if_ne (q := 138) (tgt := 148) dX9_goes_135 rfl rfl (fun hc => ?_) (fun hc => ?_)
        · have hf := hf.2 hc
          refine z_prune [true, true, false, false, true, true, false] (ls2 := [some (.ref a0), some (.ref a1), none, none, some (.int x4), some (.int x5), none]) rfl ?_
          exact hf
        · have hf := hf.1 hc
          refine z_aload_n (q := 139) (i := 1) (x := a1) dX9_goes_138 rfl rfl rfl ?_
          refine z_iconst (q := 140) (v := 1) dX9_goes_139 rfl rfl ?_
          refine z_aload_n (q := 141) (i := 1) (x := a1) dX9_goes_140 rfl rfl rfl ?_
          obtain ⟨g_38, hf⟩ := hf
          refine z_getN 9 11 (q := 144) (v := .int (h_37.I a1 11)) rfl (z_lt rfl) (z_L9_T g_38) (z_nwm q398 rfl) dX9_goes_141 rfl rfl ?_
          refine z_isub (q := 145) dX9_goes_144 rfl ?_
          refine z_putIN 9 12 (q := 148) (x := (1 - (h_37.I a1 11))) (v := .int (1 - (h_37.I a1 11))) rfl (z_lt rfl) (z_L9_T g_38) (z_nwm q401 rfl) rfl dX9_goes_145 rfl rfl rfl rfl (fun _ _ _ => rfl) ?_
          refine z_prune [true, true, false, false, true, true, false] (ls2 := [some (.ref a0), some (.ref a1), none, none, some (.int x4), some (.int x5), none]) rfl ?_
          exact hf

theorem b_X9_goes_148 {l : Launch} {G : z_G} {a0 : Nat} {a1 : Nat} {x4 : Int32} {x5 : Int32} {h : z_H} {Q : z_Q}  (hf : z_L9 h a1 ∧ ((h.I a1 12) < 0 → z_L7 h a0 ∧ Q none ((h.sI a0 8 ((h.I a1 13) - x4)).sI a0 9 (((h.sI a0 8 ((h.I a1 13) - x4)).I a1 14) - x5))) ∧ (¬ (h.I a1 12) < 0 → z_L7 h a0 ∧ Q none (((h.sI a0 7 (h.I a1 12)).sI a0 8 (((h.sI a0 7 (h.I a1 12)).I a1 13) - x4)).sI a0 9 ((((h.sI a0 7 (h.I a1 12)).sI a0 8 (((h.sI a0 7 (h.I a1 12)).I a1 13) - x4)).I a1 14) - x5)))) : z_V l G m_X9_goes (z_Fm G m_X9_goes Q) 0 0 h 148 [some (.ref a0), some (.ref a1), none, none, some (.int x4), some (.int x5), none] [] := by
  refine z_aload_n (q := 149) (i := 1) (x := a1) dX9_goes_148 rfl rfl rfl ?_
  obtain ⟨g_1, hf⟩ := hf
  refine z_getN 9 12 (q := 152) (v := .int (h.I a1 12)) rfl (z_lt rfl) (z_L9_T g_1) (z_nwm q401 rfl) dX9_goes_149 rfl rfl ?_
  refine z_if_lt (q := 155) (tgt := 163) dX9_goes_152 rfl rfl (fun hc => ?_) (fun hc => ?_)
  · have hf := hf.1 hc
    refine z_aload_n (q := 164) (i := 0) (x := a0) dX9_goes_163 rfl rfl rfl ?_
    refine z_aload_n (q := 165) (i := 1) (x := a1) dX9_goes_164 rfl rfl rfl ?_
    refine z_getN 9 13 (q := 168) (v := .int (h.I a1 13)) rfl (z_lt rfl) (z_L9_T g_1) (z_nwm q404 rfl) dX9_goes_165 rfl rfl ?_
    refine z_iload (q := 170) (i := 4) (x := x4) dX9_goes_168 rfl rfl ?_
    refine z_isub (q := 171) dX9_goes_170 rfl ?_
    obtain ⟨g_2, hf⟩ := hf
    refine z_putI 7 8 (q := 174) (x := ((h.I a1 13) - x4)) (v := .int ((h.I a1 13) - x4)) rfl (z_lt rfl) (z_L7_T g_2) q262 rfl dX9_goes_171 rfl rfl rfl rfl (fun _ _ _ => rfl) ?_
    refine z_aload_n (q := 175) (i := 0) (x := a0) dX9_goes_174 rfl rfl rfl ?_
    refine z_aload_n (q := 176) (i := 1) (x := a1) dX9_goes_175 rfl rfl rfl ?_
    refine z_getN 9 14 (q := 179) (v := .int ((h.sI a0 8 ((h.I a1 13) - x4)).I a1 14)) rfl (z_lt rfl) (z_L9_T g_1) (z_nwm q407 rfl) dX9_goes_176 rfl rfl ?_
    refine z_iload (q := 181) (i := 5) (x := x5) dX9_goes_179 rfl rfl ?_
    refine z_isub (q := 182) dX9_goes_181 rfl ?_
    refine z_putI 7 9 (q := 185) (x := (((h.sI a0 8 ((h.I a1 13) - x4)).I a1 14) - x5)) (v := .int (((h.sI a0 8 ((h.I a1 13) - x4)).I a1 14) - x5)) rfl (z_lt rfl) (z_L7_T g_2) q264 rfl dX9_goes_182 rfl rfl rfl rfl (fun _ _ _ => rfl) ?_
    exact z_vret dX9_goes_185 rfl hf
  · have hf := hf.2 hc
    refine z_aload_n (q := 156) (i := 0) (x := a0) dX9_goes_155 rfl rfl rfl ?_
    refine z_aload_n (q := 157) (i := 1) (x := a1) dX9_goes_156 rfl rfl rfl ?_
    refine z_getN 9 12 (q := 160) (v := .int (h.I a1 12)) rfl (z_lt rfl) (z_L9_T g_1) (z_nwm q401 rfl) dX9_goes_157 rfl rfl ?_
    obtain ⟨g_3, hf⟩ := hf
    refine z_putI 7 7 (q := 163) (x := (h.I a1 12)) (v := .int (h.I a1 12)) rfl (z_lt rfl) (z_L7_T g_3) q260 rfl dX9_goes_160 rfl rfl rfl rfl (fun _ _ _ => rfl) ?_
    refine z_aload_n (q := 164) (i := 0) (x := a0) dX9_goes_163 rfl rfl rfl ?_
    refine z_aload_n (q := 165) (i := 1) (x := a1) dX9_goes_164 rfl rfl rfl ?_
    refine z_getN 9 13 (q := 168) (v := .int ((h.sI a0 7 (h.I a1 12)).I a1 13)) rfl (z_lt rfl) (z_L9_T g_1) (z_nwm q404 rfl) dX9_goes_165 rfl rfl ?_
    refine z_iload (q := 170) (i := 4) (x := x4) dX9_goes_168 rfl rfl ?_
    refine z_isub (q := 171) dX9_goes_170 rfl ?_
    refine z_putI 7 8 (q := 174) (x := (((h.sI a0 7 (h.I a1 12)).I a1 13) - x4)) (v := .int (((h.sI a0 7 (h.I a1 12)).I a1 13) - x4)) rfl (z_lt rfl) (z_L7_T g_3) q262 rfl dX9_goes_171 rfl rfl rfl rfl (fun _ _ _ => rfl) ?_
    refine z_aload_n (q := 175) (i := 0) (x := a0) dX9_goes_174 rfl rfl rfl ?_
    refine z_aload_n (q := 176) (i := 1) (x := a1) dX9_goes_175 rfl rfl rfl ?_
    refine z_getN 9 14 (q := 179) (v := .int (((h.sI a0 7 (h.I a1 12)).sI a0 8 (((h.sI a0 7 (h.I a1 12)).I a1 13) - x4)).I a1 14)) rfl (z_lt rfl) (z_L9_T g_1) (z_nwm q407 rfl) dX9_goes_176 rfl rfl ?_
    refine z_iload (q := 181) (i := 5) (x := x5) dX9_goes_179 rfl rfl ?_
    refine z_isub (q := 182) dX9_goes_181 rfl ?_
    refine z_putI 7 9 (q := 185) (x := ((((h.sI a0 7 (h.I a1 12)).sI a0 8 (((h.sI a0 7 (h.I a1 12)).I a1 13) - x4)).I a1 14) - x5)) (v := .int ((((h.sI a0 7 (h.I a1 12)).sI a0 8 (((h.sI a0 7 (h.I a1 12)).I a1 13) - x4)).I a1 14) - x5)) rfl (z_lt rfl) (z_L7_T g_3) q264 rfl dX9_goes_182 rfl rfl rfl rfl (fun _ _ _ => rfl) ?_
    exact z_vret dX9_goes_185 rfl hf

theorem u_X9_init {l : Launch} {G : z_G} {a0 : Nat} {a1 : Nat} {h : z_H} {Q : z_Q} (hst : l.stackTraces = false) (hlt : a0 < h.n)  (hf : (h.T a0).1 = 17 ∧ Q none (((((((((((((h.sP a0 11 (some a1)).nw (4, 3001)).sP a0 0 (some (h.n))).nw (4, 3001)).sP a0 1 (some (h.n + 1))).nw (4, 3001)).sP a0 2 (some (h.n + 2))).nw (4, 3001)).sP a0 3 (some (h.n + 3))).nw (1, 3001)).sP a0 4 (some (h.n + 4))).nw (1, 3001)).sP a0 5 (some (h.n + 5)))) : z_Ct l G m_X9_init [.ref a0, .ref a1] h Q := by
  refine z_Ct.of (ls := [some (.ref a0), some (.ref a1)]) hst rfl (by show plainName yX9_init.cls = true; decide +kernel) (z_le rfl) rfl ?_
  show z_V l G m_X9_init (z_Fm G m_X9_init Q) 6 18006 h 0 [some (.ref a0), some (.ref a1)] []
  refine z_aload_n (q := 1) (i := 0) (x := a0) dX9_init_0 rfl rfl rfl ?_
  refine z_aload_n (q := 2) (i := 1) (x := a1) dX9_init_1 rfl rfl rfl ?_
  obtain ⟨g_1, hf⟩ := hf
  refine z_putP_F 7 11 (q := 5) (x := some a1) (v := .ref a1) rfl (z_lt rfl) g_1 q268 rfl rfl rfl dX9_init_2 rfl rfl rfl rfl (fun _ _ _ => rfl) ?_
  refine z_aload_n (q := 6) (i := 0) (x := a0) dX9_init_5 rfl rfl rfl ?_
  refine z_objInit (q := 9) dX9_init_6 rfl q252 q170 q171 ⟨z_le rfl, z_le rfl⟩ (z_le rfl) ?_
  refine z_aload_n (q := 10) (i := 0) (x := a0) dX9_init_9 rfl rfl rfl ?_
  refine z_sipush (q := 13) (v := 3001) dX9_init_10 (by decide) rfl ?_
  refine z_newa 4 (q := 15) (N := 3001) (rc2 := 5) (rs2 := 15005) (z_lt rfl) (z_lt rfl) rfl q294 (by decide) rfl (z_le rfl) dX9_init_13 rfl rfl rfl ?_
  refine z_putP_F 7 0 (q := 18) (x := some (h.n)) (v := .ref (h.n)) rfl (z_lt rfl) (z_nT (by show a0 ≠ h.n + 0; omega) g_1) q253 rfl rfl rfl dX9_init_15 rfl rfl rfl rfl (fun _ _ _ => rfl) ?_
  refine z_aload_n (q := 19) (i := 0) (x := a0) dX9_init_18 rfl rfl rfl ?_
  refine z_sipush (q := 22) (v := 3001) dX9_init_19 (by decide) rfl ?_
  refine z_newa 4 (q := 24) (N := 3001) (rc2 := 4) (rs2 := 12004) (z_lt rfl) (z_lt rfl) rfl q294 (by decide) rfl (z_le rfl) dX9_init_22 rfl rfl rfl ?_
  refine z_putP_F 7 1 (q := 27) (x := some (h.n + 1)) (v := .ref (h.n + 1)) rfl (z_lt rfl) (z_nT (by show a0 ≠ h.n + 1; omega) (z_nT (by show a0 ≠ h.n + 0; omega) g_1)) q254 rfl rfl rfl dX9_init_24 rfl rfl rfl rfl (fun _ _ _ => rfl) ?_
  refine z_aload_n (q := 28) (i := 0) (x := a0) dX9_init_27 rfl rfl rfl ?_
  refine z_sipush (q := 31) (v := 3001) dX9_init_28 (by decide) rfl ?_
  refine z_newa 4 (q := 33) (N := 3001) (rc2 := 3) (rs2 := 9003) (z_lt rfl) (z_lt rfl) rfl q294 (by decide) rfl (z_le rfl) dX9_init_31 rfl rfl rfl ?_
  refine z_putP_F 7 2 (q := 36) (x := some (h.n + 2)) (v := .ref (h.n + 2)) rfl (z_lt rfl) (z_nT (by show a0 ≠ h.n + 2; omega) (z_nT (by show a0 ≠ h.n + 1; omega) (z_nT (by show a0 ≠ h.n + 0; omega) g_1))) q255 rfl rfl rfl dX9_init_33 rfl rfl rfl rfl (fun _ _ _ => rfl) ?_
  refine z_aload_n (q := 37) (i := 0) (x := a0) dX9_init_36 rfl rfl rfl ?_
  refine z_sipush (q := 40) (v := 3001) dX9_init_37 (by decide) rfl ?_
  refine z_newa 4 (q := 42) (N := 3001) (rc2 := 2) (rs2 := 6002) (z_lt rfl) (z_lt rfl) rfl q294 (by decide) rfl (z_le rfl) dX9_init_40 rfl rfl rfl ?_
  refine z_putP_F 7 3 (q := 45) (x := some (h.n + 3)) (v := .ref (h.n + 3)) rfl (z_lt rfl) (z_nT (by show a0 ≠ h.n + 3; omega) (z_nT (by show a0 ≠ h.n + 2; omega) (z_nT (by show a0 ≠ h.n + 1; omega) (z_nT (by show a0 ≠ h.n + 0; omega) g_1)))) q256 rfl rfl rfl dX9_init_42 rfl rfl rfl rfl (fun _ _ _ => rfl) ?_
  refine z_aload_n (q := 46) (i := 0) (x := a0) dX9_init_45 rfl rfl rfl ?_
  refine z_sipush (q := 49) (v := 3001) dX9_init_46 (by decide) rfl ?_
  refine z_newa 1 (q := 51) (N := 3001) (rc2 := 1) (rs2 := 3001) (z_lt rfl) (z_lt rfl) rfl q295 (by decide) rfl (z_le rfl) dX9_init_49 rfl rfl rfl ?_
  refine z_putP_F 7 4 (q := 54) (x := some (h.n + 4)) (v := .ref (h.n + 4)) rfl (z_lt rfl) (z_nT (by show a0 ≠ h.n + 4; omega) (z_nT (by show a0 ≠ h.n + 3; omega) (z_nT (by show a0 ≠ h.n + 2; omega) (z_nT (by show a0 ≠ h.n + 1; omega) (z_nT (by show a0 ≠ h.n + 0; omega) g_1))))) q257 rfl rfl rfl dX9_init_51 rfl rfl rfl rfl (fun _ _ _ => rfl) ?_
  refine z_aload_n (q := 55) (i := 0) (x := a0) dX9_init_54 rfl rfl rfl ?_
  refine z_sipush (q := 58) (v := 3001) dX9_init_55 (by decide) rfl ?_
  refine z_newa 1 (q := 60) (N := 3001) (rc2 := 0) (rs2 := 0) (z_lt rfl) (z_lt rfl) rfl q295 (by decide) rfl (z_le rfl) dX9_init_58 rfl rfl rfl ?_
  refine z_putP_F 7 5 (q := 63) (x := some (h.n + 5)) (v := .ref (h.n + 5)) rfl (z_lt rfl) (z_nT (by show a0 ≠ h.n + 5; omega) (z_nT (by show a0 ≠ h.n + 4; omega) (z_nT (by show a0 ≠ h.n + 3; omega) (z_nT (by show a0 ≠ h.n + 2; omega) (z_nT (by show a0 ≠ h.n + 1; omega) (z_nT (by show a0 ≠ h.n + 0; omega) g_1)))))) q258 rfl rfl rfl dX9_init_60 rfl rfl rfl rfl (fun _ _ _ => rfl) ?_
  exact z_vret dX9_init_63 rfl hf

theorem u_X9_packs {l : Launch} {G : z_G} {a0 : Nat} {a1 : Nat} {x2 : Int32} {h : z_H} {Q : z_Q} (hst : l.stackTraces = false)  (hf : z_V l G m_X9_packs (z_Fm G m_X9_packs Q) 0 0 h 5 [none, some (.ref a1), some (.int x2), some (.long 0), none, some (.int x2)] []) : z_Ct l G m_X9_packs [.ref a0, .ref a1, .int x2] h Q := by
  refine z_Ct.of (ls := [some (.ref a0), some (.ref a1), some (.int x2), none, none, none]) hst rfl (by show plainName yX9_packs.cls = true; decide +kernel) (z_le rfl) rfl ?_
  show z_V l G m_X9_packs (z_Fm G m_X9_packs Q) 0 0 h 0 [some (.ref a0), some (.ref a1), some (.int x2), none, none, none] []
  refine z_lconst (q := 1) (v := 0) dX9_packs_0 (by decide) rfl ?_
  refine z_lstore_n (q := 2) (i := 3) (ls2 := [some (.ref a0), some (.ref a1), some (.int x2), some (.long 0), none, none]) (x := 0) dX9_packs_1 rfl (z_lt rfl) rfl rfl ?_
  refine z_iload_n (q := 3) (i := 2) (x := x2) dX9_packs_2 rfl rfl rfl ?_
  refine z_istore (q := 5) (i := 5) (ls2 := [some (.ref a0), some (.ref a1), some (.int x2), some (.long 0), none, some (.int x2)]) (x := x2) dX9_packs_3 (z_lt rfl) rfl rfl ?_
  refine z_prune [false, true, true, true, false, true] (ls2 := [none, some (.ref a1), some (.int x2), some (.long 0), none, some (.int x2)]) rfl ?_
  exact hf

theorem b_X9_packs_5 {l : Launch} {G : z_G} {a1 : Nat} {x2 : Int32} {y3 : Int64} {x5 : Int32} {h : z_H} {Q : z_Q}  (hf : ((x2 + 16) ≤ x5 → Q (some (.long y3)) h) ∧ (¬ (x2 + 16) ≤ x5 → z_L9 h a1 ∧ (((h.I a1 6) + (h.I a1 7)) ≤ x5 → Q (some (.long y3)) h) ∧ (¬ ((h.I a1 6) + (h.I a1 7)) ≤ x5 → (((h.I a1 6) ≤ x5 → vp_in (x5 - (h.I a1 6)) 48 ∧ True) ∧ (¬ (h.I a1 6) ≤ x5 → vp_in x5 48 ∧ True)) ∧ ∀ v_4 : Int64, v_4 = ((y3 * 8) + (Int32.toInt64 (if (h.I a1 6) ≤ x5 then (h.I (a1 + 2) (Int32.toNatClampNeg (x5 - (h.I a1 6)))) else (h.I (a1 + 1) (Int32.toNatClampNeg x5))))) → z_V l G m_X9_packs (z_Fm G m_X9_packs Q) 0 0 h 5 [none, some (.ref a1), some (.int x2), some (.long v_4), none, some (.int (x5 + 1))] []))) : z_V l G m_X9_packs (z_Fm G m_X9_packs Q) 0 0 h 5 [none, some (.ref a1), some (.int x2), some (.long y3), none, some (.int x5)] [] := by
  refine z_iload (q := 7) (i := 5) (x := x5) dX9_packs_5 rfl rfl ?_
  refine z_iload_n (q := 8) (i := 2) (x := x2) dX9_packs_7 rfl rfl rfl ?_
  refine z_bipush (q := 10) (v := 16) dX9_packs_8 (by decide) rfl ?_
  refine z_iadd (q := 11) dX9_packs_10 rfl ?_
  refine z_icmp_ge (q := 14) (tgt := 73) dX9_packs_11 rfl rfl (fun hc => ?_) (fun hc => ?_)
  · have hf := hf.1 hc
    refine z_lload_n (q := 74) (i := 3) (x := y3) dX9_packs_73 rfl rfl rfl ?_
    exact z_lret dX9_packs_74 rfl hf
  · have hf := hf.2 hc
    refine z_iload (q := 16) (i := 5) (x := x5) dX9_packs_14 rfl rfl ?_
    refine z_aload_n (q := 17) (i := 1) (x := a1) dX9_packs_16 rfl rfl rfl ?_
    obtain ⟨g_1, hf⟩ := hf
    refine z_getN 9 6 (q := 20) (v := .int (h.I a1 6)) rfl (z_lt rfl) (z_L9_T g_1) (z_nwm q386 rfl) dX9_packs_17 rfl rfl ?_
    refine z_aload_n (q := 21) (i := 1) (x := a1) dX9_packs_20 rfl rfl rfl ?_
    refine z_getN 9 7 (q := 24) (v := .int (h.I a1 7)) rfl (z_lt rfl) (z_L9_T g_1) (z_nwm q389 rfl) dX9_packs_21 rfl rfl ?_
    refine z_iadd (q := 25) dX9_packs_24 rfl ?_
    refine z_icmp_ge (q := 28) (tgt := 73) dX9_packs_25 rfl rfl (fun hc => ?_) (fun hc => ?_)
    · have hf := hf.1 hc
      refine z_lload_n (q := 74) (i := 3) (x := y3) dX9_packs_73 rfl rfl rfl ?_
      exact z_lret dX9_packs_74 rfl hf
    · have hf := hf.2 hc
      refine z_lload_n (q := 29) (i := 3) (x := y3) dX9_packs_28 rfl rfl rfl ?_
      refine z_ldc2 (q := 32) (v := 8) dX9_packs_29 q1435 rfl ?_
      refine z_lmul (q := 33) dX9_packs_32 rfl ?_
      refine z_iload (q := 35) (i := 5) (x := x5) dX9_packs_33 rfl rfl ?_
      refine z_aload_n (q := 36) (i := 1) (x := a1) dX9_packs_35 rfl rfl rfl ?_
      refine z_getN 9 6 (q := 39) (v := .int (h.I a1 6)) rfl (z_lt rfl) (z_L9_T g_1) (z_nwm q386 rfl) dX9_packs_36 rfl rfl ?_
      obtain ⟨hsc, hf⟩ := hf
      have hk : z_V l G m_X9_packs (z_Fm G m_X9_packs Q) 0 0 h 64 [none, some (.ref a1), some (.int x2), some (.long y3), none, some (.int x5)] [.int (if (h.I a1 6) ≤ x5 then (h.I (a1 + 2) (Int32.toNatClampNeg (x5 - (h.I a1 6)))) else (h.I (a1 + 1) (Int32.toNatClampNeg x5))), .long (y3 * 8)] := by
        refine z_i2l (q := 65) dX9_packs_64 rfl ?_
        refine z_ladd (q := 66) dX9_packs_65 rfl ?_
        refine z_nmL (fun v_4 hv_5 => ?_)
        have hf := hf v_4 hv_5
        refine z_lstore_n (q := 67) (i := 3) (ls2 := [none, some (.ref a1), some (.int x2), some (.long v_4), none, some (.int x5)]) (x := v_4) dX9_packs_66 rfl (z_lt rfl) rfl rfl ?_
        refine z_iinc (q := 70) (i := 5) (x := x5) (v := (x5 + 1)) (ls2 := [none, some (.ref a1), some (.int x2), some (.long v_4), none, some (.int (x5 + 1))]) dX9_packs_67 rfl rfl (z_lt rfl) rfl rfl ?_
        refine z_goto (q := 5) dX9_packs_70 rfl ?_
        exact hf
      refine z_icmp_ge (q := 42) (tgt := 52) dX9_packs_39 rfl rfl (fun hc => ?_) (fun hc => ?_)
      · have hk := (z_ite hk).1 hc
        have hsc := hsc.1 hc
        obtain ⟨g_2, hsc⟩ := hsc
        refine z_aload_n (q := 53) (i := 1) (x := a1) dX9_packs_52 rfl rfl rfl ?_
        refine z_getN 9 1 (q := 56) (v := .ref (a1 + 2)) rfl (z_lt rfl) (z_L9_T g_1) (z_nwm q376 rfl) dX9_packs_53 rfl (z_fvR (fun _ _ _ => rfl) (z_L9_P1 g_1)) ?_
        refine z_iload (q := 58) (i := 5) (x := x5) dX9_packs_56 rfl rfl ?_
        refine z_aload_n (q := 59) (i := 1) (x := a1) dX9_packs_58 rfl rfl rfl ?_
        refine z_getN 9 6 (q := 62) (v := .int (h.I a1 6)) rfl (z_lt rfl) (z_L9_T g_1) (z_nwm q386 rfl) dX9_packs_59 rfl rfl ?_
        refine z_isub (q := 63) dX9_packs_62 rfl ?_
        refine z_iald (q := 64) (n := 48) (z_L9_A1 g_1) g_2 dX9_packs_63 rfl ?_
        exact hk
      · have hk := (z_ite hk).2 hc
        have hsc := hsc.2 hc
        obtain ⟨g_3, hsc⟩ := hsc
        refine z_aload_n (q := 43) (i := 1) (x := a1) dX9_packs_42 rfl rfl rfl ?_
        refine z_getN 9 0 (q := 46) (v := .ref (a1 + 1)) rfl (z_lt rfl) (z_L9_T g_1) (z_nwm q373 rfl) dX9_packs_43 rfl (z_fvR (fun _ _ _ => rfl) (z_L9_P0 g_1)) ?_
        refine z_iload (q := 48) (i := 5) (x := x5) dX9_packs_46 rfl rfl ?_
        refine z_iald (q := 49) (n := 48) (z_L9_A0 g_1) g_3 dX9_packs_48 rfl ?_
        refine z_goto (q := 64) dX9_packs_49 rfl ?_
        exact hk

