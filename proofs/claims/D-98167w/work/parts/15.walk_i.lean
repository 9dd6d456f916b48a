set_option maxRecDepth 100000
set_option maxHeartbeats 4000000
theorem u_X1_init {l : Launch} {G : z_G} {a0 : Nat} {h : z_H} {Q : z_Q} (hst : l.stackTraces = false) (hlt : a0 < h.n)  (hf : ((h.nw (2, 1000)).T a0).1 = 10 ∧ z_Ct l G m_X2_init [.ref (h.n + 1)] (((h.nw (2, 1000)).sP a0 0 (some (h.n))).nw (11, 0)) (z_Qv (fun h_2 => (h_2.T a0).1 = 10 ∧ z_Ct l G m_X1_allOrders [] (h_2.sP a0 1 (some (h.n + 1))) (z_Qr (fun b_4 h_5 => (h_5.T a0).1 = 10 ∧ z_Ct l G m_X9_init [.ref (h_5.n), .ref a0] ((h_5.sP a0 2 (some b_4)).nw (17, 0)) (z_Qv (fun h_7 => (h_7.T a0).1 = 10 ∧ z_Ct l G m_X10_init [.ref (h_7.n)] ((h_7.sP a0 3 (some (h_5.n))).nw (18, 0)) (z_Qv (fun h_9 => (h_9.T a0).1 = 10 ∧ z_Ct l G m_J2_init [.ref (h_9.n), .int 2] ((h_9.sP a0 4 (some (h_7.n))).nw (31, 0)) (z_Qv (fun h_11 => (h_11.T a0).1 = 10 ∧ z_Ct l G m_X11_init [.ref (h_11.n)] ((h_11.sP a0 5 (some (h_9.n))).nw (19, 0)) (z_Qv (fun h_13 => (h_13.T a0).1 = 10 ∧ z_Ct l G m_X11_init [.ref (h_13.n)] ((h_13.sP a0 6 (some (h_11.n))).nw (19, 0)) (z_Qv (fun h_15 => (h_15.T a0).1 = 10 ∧ z_Ct l G m_X12_init [.ref (h_15.n)] ((h_15.sP a0 7 (some (h_13.n))).nw (20, 0)) (z_Qv (fun h_17 => (h_17.T a0).1 = 10 ∧ z_Ct l G m_X12_init [.ref (h_17.n)] ((h_17.sP a0 8 (some (h_15.n))).nw (20, 0)) (z_Qv (fun h_19 => (h_19.T a0).1 = 10 ∧ (((h_19.sP a0 9 (some (h_17.n))).nw (1, 4)).T a0).1 = 10 ∧ (((((h_19.sP a0 9 (some (h_17.n))).nw (1, 4)).sP a0 10 (some (h_19.n))).nw (7, 16)).T a0).1 = 10 ∧ (((((((h_19.sP a0 9 (some (h_17.n))).nw (1, 4)).sP a0 10 (some (h_19.n))).nw (7, 16)).sP a0 13 (some (h_19.n + 1))).nw (1, 24)).T a0).1 = 10 ∧ (((((((((h_19.sP a0 9 (some (h_17.n))).nw (1, 4)).sP a0 10 (some (h_19.n))).nw (7, 16)).sP a0 13 (some (h_19.n + 1))).nw (1, 24)).sP a0 15 (some (h_19.n + 2))).nw (1, 4)).T a0).1 = 10 ∧ (((((((((((h_19.sP a0 9 (some (h_17.n))).nw (1, 4)).sP a0 10 (some (h_19.n))).nw (7, 16)).sP a0 13 (some (h_19.n + 1))).nw (1, 24)).sP a0 15 (some (h_19.n + 2))).nw (1, 4)).sP a0 17 (some (h_19.n + 3))).nw (1, 6)).T a0).1 = 10 ∧ (((((((((((((h_19.sP a0 9 (some (h_17.n))).nw (1, 4)).sP a0 10 (some (h_19.n))).nw (7, 16)).sP a0 13 (some (h_19.n + 1))).nw (1, 24)).sP a0 15 (some (h_19.n + 2))).nw (1, 4)).sP a0 17 (some (h_19.n + 3))).nw (1, 6)).sP a0 18 (some (h_19.n + 4))).nw (7, 14)).T a0).1 = 10 ∧ (((((((((((((((h_19.sP a0 9 (some (h_17.n))).nw (1, 4)).sP a0 10 (some (h_19.n))).nw (7, 16)).sP a0 13 (some (h_19.n + 1))).nw (1, 24)).sP a0 15 (some (h_19.n + 2))).nw (1, 4)).sP a0 17 (some (h_19.n + 3))).nw (1, 6)).sP a0 18 (some (h_19.n + 4))).nw (7, 14)).sP a0 19 (some (h_19.n + 5))).nw (8, 4)).T a0).1 = 10 ∧ ∃ b_28, (((((((((((((((h_19.sP a0 9 (some (h_17.n))).nw (1, 4)).sP a0 10 (some (h_19.n))).nw (7, 16)).sP a0 13 (some (h_19.n + 1))).nw (1, 24)).sP a0 15 (some (h_19.n + 2))).nw (1, 4)).sP a0 17 (some (h_19.n + 3))).nw (1, 6)).sP a0 18 (some (h_19.n + 4))).nw (7, 14)).sP a0 19 (some (h_19.n + 5))).nw (8, 4)).P a0 6) = some b_28 ∧ z_L9 (((((((((((((((h_19.sP a0 9 (some (h_17.n))).nw (1, 4)).sP a0 10 (some (h_19.n))).nw (7, 16)).sP a0 13 (some (h_19.n + 1))).nw (1, 24)).sP a0 15 (some (h_19.n + 2))).nw (1, 4)).sP a0 17 (some (h_19.n + 3))).nw (1, 6)).sP a0 18 (some (h_19.n + 4))).nw (7, 14)).sP a0 19 (some (h_19.n + 5))).nw (8, 4)).sP a0 22 (some (h_19.n + 6))) b_28 ∧ z_Ct l G m_X11_begin [.ref b_28, .int 0] (((((((((((((((h_19.sP a0 9 (some (h_17.n))).nw (1, 4)).sP a0 10 (some (h_19.n))).nw (7, 16)).sP a0 13 (some (h_19.n + 1))).nw (1, 24)).sP a0 15 (some (h_19.n + 2))).nw (1, 4)).sP a0 17 (some (h_19.n + 3))).nw (1, 6)).sP a0 18 (some (h_19.n + 4))).nw (7, 14)).sP a0 19 (some (h_19.n + 5))).nw (8, 4)).sP a0 22 (some (h_19.n + 6))) (z_Qv (fun h_31 => Q none h_31))))))))))))))))))))) : z_Ct l G m_X1_init [.ref a0] h Q := by
  refine z_Ct.of (ls := [some (.ref a0)]) hst rfl (by show plainName yX1_init.cls = true; decide +kernel) (z_le rfl) rfl ?_
  show z_V l G m_X1_init (z_Fm G m_X1_init Q) 59 19964 h 0 [some (.ref a0)] []
  refine z_aload_n (q := 1) (i := 0) (x := a0) dX1_init_0 rfl rfl rfl ?_
  refine z_objInit (q := 4) dX1_init_1 rfl q169 q170 q171 ⟨z_le rfl, z_le rfl⟩ (z_le rfl) ?_
  refine z_aload_n (q := 5) (i := 0) (x := a0) dX1_init_4 rfl rfl rfl ?_
  refine z_sipush (q := 8) (v := 1000) dX1_init_5 (by decide) rfl ?_
  refine z_newa 2 (q := 10) (N := 1000) (rc2 := 58) (rs2 := 18964) (z_lt rfl) (z_lt rfl) rfl q203 (by decide) rfl (z_le rfl) dX1_init_8 rfl rfl rfl ?_
  obtain ⟨g_1, hf⟩ := hf
  refine z_putP_F 0 0 (q := 13) (x := some (h.n)) (v := .ref (h.n)) rfl (z_lt rfl) g_1 q504 rfl rfl rfl dX1_init_10 rfl rfl rfl rfl (fun _ _ _ => rfl) ?_
  refine z_aload_n (q := 14) (i := 0) (x := a0) dX1_init_13 rfl rfl rfl ?_
  refine z_new 1 (q := 17) (rc2 := 57) (rs2 := 18956) rfl q172 q173 q123 dX1_init_14 rfl rfl rfl ?_
  refine z_dup (q := 18) dX1_init_17 rfl rfl ?_
  refine z_cINv m_X2_init [] ((h.n + 1)) (q := 21) (rc2 := 57) (rs2 := 18956) (st := [.ref (h.n + 1), .ref a0]) dX1_init_18 rfl (z_nwm q174 rfl) oI_X2_init rfl rfl ⟨z_le rfl, z_le rfl⟩ (z_le rfl) rfl  rfl hf (fun h_2 hf => ?_)
  obtain ⟨g_3, hf⟩ := hf
  refine z_putP_F 0 1 (q := 24) (x := some (h.n + 1)) (v := .ref (h.n + 1)) rfl (z_lt rfl) g_3 q505 rfl rfl rfl dX1_init_21 rfl rfl rfl rfl (fun _ _ _ => rfl) ?_
  refine z_aload_n (q := 25) (i := 0) (x := a0) dX1_init_24 rfl rfl rfl ?_
  refine z_cSr m_X1_allOrders [] (q := 28) (rc2 := 51) (rs2 := 18951) (st := [.ref a0]) dX1_init_25 rfl q204 oS_X1_allOrders rfl rfl ⟨z_le rfl, z_le rfl⟩ (z_le rfl) rfl  rfl hf (fun b_4 h_5 hf => ?_)
  obtain ⟨g_6, hf⟩ := hf
  refine z_putP_F 0 2 (q := 31) (x := some b_4) (v := .ref b_4) rfl (z_lt rfl) g_6 q507 rfl rfl rfl dX1_init_28 rfl rfl rfl rfl (fun _ _ _ => rfl) ?_
  refine z_aload_n (q := 32) (i := 0) (x := a0) dX1_init_31 rfl rfl rfl ?_
  refine z_new 7 (q := 35) (rc2 := 50) (rs2 := 18939) rfl q247 q248 q130 dX1_init_32 rfl rfl rfl ?_
  refine z_dup (q := 36) dX1_init_35 rfl rfl ?_
  refine z_aload_n (q := 37) (i := 0) (x := a0) dX1_init_36 rfl rfl rfl ?_
  refine z_cINv m_X9_init [.ref a0] ((h_5.n)) (q := 40) (rc2 := 44) (rs2 := 933) (st := [.ref (h_5.n), .ref a0]) dX1_init_37 rfl (z_nwm q249 rfl) oI_X9_init rfl rfl ⟨z_le rfl, z_le rfl⟩ (z_le rfl) rfl  rfl hf (fun h_7 hf => ?_)
  obtain ⟨g_8, hf⟩ := hf
  refine z_putP_F 0 3 (q := 43) (x := some (h_5.n)) (v := .ref (h_5.n)) rfl (z_lt rfl) g_8 q508 rfl rfl rfl dX1_init_40 rfl rfl rfl rfl (fun _ _ _ => rfl) ?_
  refine z_aload_n (q := 44) (i := 0) (x := a0) dX1_init_43 rfl rfl rfl ?_
  refine z_new 8 (q := 47) (rc2 := 43) (rs2 := 926) rfl q296 q297 q131 dX1_init_44 rfl rfl rfl ?_
  refine z_dup (q := 48) dX1_init_47 rfl rfl ?_
  refine z_cINv m_X10_init [] ((h_7.n)) (q := 51) (rc2 := 39) (rs2 := 903) (st := [.ref (h_7.n), .ref a0]) dX1_init_48 rfl (z_nwm q298 rfl) oI_X10_init rfl rfl ⟨z_le rfl, z_le rfl⟩ (z_le rfl) rfl  rfl hf (fun h_9 hf => ?_)
  obtain ⟨g_10, hf⟩ := hf
  refine z_putP 0 4 (q := 54) (x := some (h_7.n)) (v := .ref (h_7.n)) rfl (z_lt rfl) g_10 q510 rfl dX1_init_51 rfl rfl rfl rfl (fun _ _ _ => rfl) ?_
  refine z_aload_n (q := 55) (i := 0) (x := a0) dX1_init_54 rfl rfl rfl ?_
  refine z_new 21 (q := 58) (rc2 := 38) (rs2 := 900) rfl q362 q303 q134 dX1_init_55 rfl rfl rfl ?_
  refine z_dup (q := 59) dX1_init_58 rfl rfl ?_
  refine z_iconst (q := 60) (v := 2) dX1_init_59 rfl rfl ?_
  refine z_cIv m_J2_init [.int 2] ((h_9.n)) (q := 63) (rc2 := 37) (rs2 := 896) (st := [.ref (h_9.n), .ref a0]) dX1_init_60 rfl q363 oI_J2_init rfl rfl ⟨z_le rfl, z_le rfl⟩ (z_le rfl) rfl  rfl hf (fun h_11 hf => ?_)
  obtain ⟨g_12, hf⟩ := hf
  refine z_putP 0 5 (q := 66) (x := some (h_9.n)) (v := .ref (h_9.n)) rfl (z_lt rfl) g_12 q511 rfl dX1_init_63 rfl rfl rfl rfl (fun _ _ _ => rfl) ?_
  refine z_aload_n (q := 67) (i := 0) (x := a0) dX1_init_66 rfl rfl rfl ?_
  refine z_new 9 (q := 70) (rc2 := 36) (rs2 := 872) rfl q364 q365 q135 dX1_init_67 rfl rfl rfl ?_
  refine z_dup (q := 71) dX1_init_70 rfl rfl ?_
  refine z_cINv m_X11_init [] ((h_11.n)) (q := 74) (rc2 := 24) (rs2 := 510) (st := [.ref (h_11.n), .ref a0]) dX1_init_71 rfl (z_nwm q366 rfl) oI_X11_init rfl rfl ⟨z_le rfl, z_le rfl⟩ (z_le rfl) rfl  rfl hf (fun h_13 hf => ?_)
  obtain ⟨g_14, hf⟩ := hf
  refine z_putP_F 0 6 (q := 77) (x := some (h_11.n)) (v := .ref (h_11.n)) rfl (z_lt rfl) g_14 q512 rfl rfl rfl dX1_init_74 rfl rfl rfl rfl (fun _ _ _ => rfl) ?_
  refine z_aload_n (q := 78) (i := 0) (x := a0) dX1_init_77 rfl rfl rfl ?_
  refine z_new 9 (q := 81) (rc2 := 23) (rs2 := 486) rfl q364 q365 q135 dX1_init_78 rfl rfl rfl ?_
  refine z_dup (q := 82) dX1_init_81 rfl rfl ?_
  refine z_cINv m_X11_init [] ((h_13.n)) (q := 85) (rc2 := 11) (rs2 := 124) (st := [.ref (h_13.n), .ref a0]) dX1_init_82 rfl (z_nwm q366 rfl) oI_X11_init rfl rfl ⟨z_le rfl, z_le rfl⟩ (z_le rfl) rfl  rfl hf (fun h_15 hf => ?_)
  obtain ⟨g_16, hf⟩ := hf
  refine z_putP_F 0 7 (q := 88) (x := some (h_13.n)) (v := .ref (h_13.n)) rfl (z_lt rfl) g_16 q513 rfl rfl rfl dX1_init_85 rfl rfl rfl rfl (fun _ _ _ => rfl) ?_
  refine z_aload_n (q := 89) (i := 0) (x := a0) dX1_init_88 rfl rfl rfl ?_
  refine z_new 10 (q := 92) (rc2 := 10) (rs2 := 122) rfl q477 q478 q136 dX1_init_89 rfl rfl rfl ?_
  refine z_dup (q := 93) dX1_init_92 rfl rfl ?_
  refine z_cINv m_X12_init [] ((h_15.n)) (q := 96) (rc2 := 9) (rs2 := 98) (st := [.ref (h_15.n), .ref a0]) dX1_init_93 rfl (z_nwm q479 rfl) oI_X12_init rfl rfl ⟨z_le rfl, z_le rfl⟩ (z_le rfl) rfl  rfl hf (fun h_17 hf => ?_)
  obtain ⟨g_18, hf⟩ := hf
  refine z_putP_F 0 8 (q := 99) (x := some (h_15.n)) (v := .ref (h_15.n)) rfl (z_lt rfl) g_18 q514 rfl rfl rfl dX1_init_96 rfl rfl rfl rfl (fun _ _ _ => rfl) ?_
  refine z_aload_n (q := 100) (i := 0) (x := a0) dX1_init_99 rfl rfl rfl ?_
  refine z_new 10 (q := 103) (rc2 := 8) (rs2 := 96) rfl q477 q478 q136 dX1_init_100 rfl rfl rfl ?_
  refine z_dup (q := 104) dX1_init_103 rfl rfl ?_
  refine z_cINv m_X12_init [] ((h_17.n)) (q := 107) (rc2 := 7) (rs2 := 72) (st := [.ref (h_17.n), .ref a0]) dX1_init_104 rfl (z_nwm q479 rfl) oI_X12_init rfl rfl ⟨z_le rfl, z_le rfl⟩ (z_le rfl) rfl  rfl hf (fun h_19 hf => ?_)
  obtain ⟨g_20, hf⟩ := hf
  refine z_putP_F 0 9 (q := 110) (x := some (h_17.n)) (v := .ref (h_17.n)) rfl (z_lt rfl) g_20 q515 rfl rfl rfl dX1_init_107 rfl rfl rfl rfl (fun _ _ _ => rfl) ?_
  refine z_aload_n (q := 111) (i := 0) (x := a0) dX1_init_110 rfl rfl rfl ?_
  refine z_iconst (q := 112) (v := 4) dX1_init_111 rfl rfl ?_
  refine z_newa 1 (q := 114) (N := 4) (rc2 := 6) (rs2 := 68) (z_lt rfl) (z_lt rfl) rfl q295 (by decide) rfl (z_le rfl) dX1_init_112 rfl rfl rfl ?_
  obtain ⟨g_21, hf⟩ := hf
  refine z_putP_F 0 10 (q := 117) (x := some (h_19.n)) (v := .ref (h_19.n)) rfl (z_lt rfl) g_21 q516 rfl rfl rfl dX1_init_114 rfl rfl rfl rfl (fun _ _ _ => rfl) ?_
  refine z_aload_n (q := 118) (i := 0) (x := a0) dX1_init_117 rfl rfl rfl ?_
  refine z_bipush (q := 120) (v := 16) dX1_init_118 (by decide) rfl ?_
  refine z_newq 7 (q := 123) (N := 16) (rc2 := 5) (rs2 := 52) (by decide) rfl (by simp [z_ao]) q364 (by decide) rfl (z_le rfl) dX1_init_120 rfl rfl rfl ?_
  obtain ⟨g_22, hf⟩ := hf
  refine z_putP_F 0 13 (q := 126) (x := some (h_19.n + 1)) (v := .ref (h_19.n + 1)) rfl (z_lt rfl) g_22 q519 rfl rfl rfl dX1_init_123 rfl rfl rfl rfl (fun _ _ _ => rfl) ?_
  refine z_aload_n (q := 127) (i := 0) (x := a0) dX1_init_126 rfl rfl rfl ?_
  refine z_bipush (q := 129) (v := 24) dX1_init_127 (by decide) rfl ?_
  refine z_newa 1 (q := 131) (N := 24) (rc2 := 4) (rs2 := 28) (z_lt rfl) (z_lt rfl) rfl q295 (by decide) rfl (z_le rfl) dX1_init_129 rfl rfl rfl ?_
  obtain ⟨g_23, hf⟩ := hf
  refine z_putP_F 0 15 (q := 134) (x := some (h_19.n + 2)) (v := .ref (h_19.n + 2)) rfl (z_lt rfl) g_23 q521 rfl rfl rfl dX1_init_131 rfl rfl rfl rfl (fun _ _ _ => rfl) ?_
  refine z_aload_n (q := 135) (i := 0) (x := a0) dX1_init_134 rfl rfl rfl ?_
  refine z_iconst (q := 136) (v := 4) dX1_init_135 rfl rfl ?_
  refine z_newa 1 (q := 138) (N := 4) (rc2 := 3) (rs2 := 24) (z_lt rfl) (z_lt rfl) rfl q295 (by decide) rfl (z_le rfl) dX1_init_136 rfl rfl rfl ?_
  obtain ⟨g_24, hf⟩ := hf
  refine z_putP_F 0 17 (q := 141) (x := some (h_19.n + 3)) (v := .ref (h_19.n + 3)) rfl (z_lt rfl) g_24 q523 rfl rfl rfl dX1_init_138 rfl rfl rfl rfl (fun _ _ _ => rfl) ?_
  refine z_aload_n (q := 142) (i := 0) (x := a0) dX1_init_141 rfl rfl rfl ?_
  refine z_bipush (q := 144) (v := 6) dX1_init_142 (by decide) rfl ?_
  refine z_newa 1 (q := 146) (N := 6) (rc2 := 2) (rs2 := 18) (z_lt rfl) (z_lt rfl) rfl q295 (by decide) rfl (z_le rfl) dX1_init_144 rfl rfl rfl ?_
  obtain ⟨g_25, hf⟩ := hf
  refine z_putP_F 0 18 (q := 149) (x := some (h_19.n + 4)) (v := .ref (h_19.n + 4)) rfl (z_lt rfl) g_25 q524 rfl rfl rfl dX1_init_146 rfl rfl rfl rfl (fun _ _ _ => rfl) ?_
  refine z_aload_n (q := 150) (i := 0) (x := a0) dX1_init_149 rfl rfl rfl ?_
  refine z_bipush (q := 152) (v := 14) dX1_init_150 (by decide) rfl ?_
  refine z_newq 7 (q := 155) (N := 14) (rc2 := 1) (rs2 := 4) (by decide) rfl (by simp [z_ao]) q364 (by decide) rfl (z_le rfl) dX1_init_152 rfl rfl rfl ?_
  obtain ⟨g_26, hf⟩ := hf
  refine z_putP_F 0 19 (q := 158) (x := some (h_19.n + 5)) (v := .ref (h_19.n + 5)) rfl (z_lt rfl) g_26 q525 rfl rfl rfl dX1_init_155 rfl rfl rfl rfl (fun _ _ _ => rfl) ?_
  refine z_aload_n (q := 159) (i := 0) (x := a0) dX1_init_158 rfl rfl rfl ?_
  refine z_iconst (q := 160) (v := 4) dX1_init_159 rfl rfl ?_
  refine z_newq 8 (q := 163) (N := 4) (rc2 := 0) (rs2 := 0) (by decide) rfl (by simp [z_ao]) q494 (by decide) rfl (z_le rfl) dX1_init_160 rfl rfl rfl ?_
  obtain ⟨g_27, hf⟩ := hf
  refine z_putP_F 0 22 (q := 166) (x := some (h_19.n + 6)) (v := .ref (h_19.n + 6)) rfl (z_lt rfl) g_27 q528 rfl rfl rfl dX1_init_163 rfl rfl rfl rfl (fun _ _ _ => rfl) ?_
  refine z_aload_n (q := 167) (i := 0) (x := a0) dX1_init_166 rfl rfl rfl ?_
  obtain ⟨b_28, g_29, hf⟩ := hf
  refine z_get 0 6 (q := 170) (v := .ref b_28) rfl (z_lt rfl) g_27 q512 dX1_init_167 rfl (z_fvR (fun _ _ _ => rfl) (Eq.trans (z_rPf (by decide)) g_29)) ?_
  refine z_iconst (q := 171) (v := 0) dX1_init_170 rfl rfl ?_
  obtain ⟨g_30, hf⟩ := hf
  refine z_cVv m_X11_begin [.int 0] (b_28) (q := 174) (rc2 := 0) (rs2 := 0) (st := []) dX1_init_171 rfl q496 oV_X11_begin rfl rfl ⟨z_le rfl, z_le rfl⟩ (z_le rfl) (z_rcv_of 9 rfl (z_L9_T g_30) rfl) rfl  rfl hf (fun h_31 hf => ?_)
  exact z_vret dX1_init_174 rfl hf

theorem u_X13_init {l : Launch} {G : z_G} {a0 : Nat} {h : z_H} {Q : z_Q} (hst : l.stackTraces = false) (hlt : a0 < h.n)  (hf : ((h.nw (1, 1000)).T a0).1 = 21 ∧ vp_in 0 24 ∧ vp_in 1 24 ∧ vp_in 2 24 ∧ vp_in 3 24 ∧ vp_in 4 24 ∧ vp_in 5 24 ∧ vp_in 6 24 ∧ vp_in 7 24 ∧ vp_in 8 24 ∧ vp_in 9 24 ∧ vp_in 10 24 ∧ vp_in 11 24 ∧ vp_in 12 24 ∧ vp_in 13 24 ∧ vp_in 14 24 ∧ vp_in 15 24 ∧ vp_in 16 24 ∧ vp_in 17 24 ∧ vp_in 18 24 ∧ vp_in 19 24 ∧ vp_in 20 24 ∧ vp_in 21 24 ∧ vp_in 22 24 ∧ vp_in 23 24 ∧ z_Ct l G m_X13_standsAsAlways [.ref a0, .int 0] (((((((((((((((((((((((((((((((((((((((((((((((((((((((((((((((((((((((((((((((((((((((((h.nw (1, 1000)).sP a0 1 (some (h.n))).nw (1, 1002)).sP a0 4 (some (h.n + 1))).nw (1, 1002)).sP a0 5 (some (h.n + 2))).nw (4, 1002)).sP a0 6 (some (h.n + 3))).nw (4, 24)).sL (h.n + 4) (Int32.toNatClampNeg 0) 570026).sL (h.n + 4) (Int32.toNatClampNeg 1) 812761).sL (h.n + 4) (Int32.toNatClampNeg 2) 811939).sL (h.n + 4) (Int32.toNatClampNeg 3) 16490).sL (h.n + 4) (Int32.toNatClampNeg 4) 11726208).sL (h.n + 4) (Int32.toNatClampNeg 5) 2943).sL (h.n + 4) (Int32.toNatClampNeg 6) 22963959).sL (h.n + 4) (Int32.toNatClampNeg 7) 40072202).sL (h.n + 4) (Int32.toNatClampNeg 8) 1996799).sL (h.n + 4) (Int32.toNatClampNeg 9) 417812).sL (h.n + 4) (Int32.toNatClampNeg 10) 17006).sL (h.n + 4) (Int32.toNatClampNeg 11) 557263975).sL (h.n + 4) (Int32.toNatClampNeg 12) 614923).sL (h.n + 4) (Int32.toNatClampNeg 13) 34200674).sL (h.n + 4) (Int32.toNatClampNeg 14) 999049827).sL (h.n + 4) (Int32.toNatClampNeg 15) 39605492240).sL (h.n + 4) (Int32.toNatClampNeg 16) 32056).sL (h.n + 4) (Int32.toNatClampNeg 17) 19741).sL (h.n + 4) (Int32.toNatClampNeg 18) 1891).sL (h.n + 4) (Int32.toNatClampNeg 19) 573).sL (h.n + 4) (Int32.toNatClampNeg 20) 2286271).sL (h.n + 4) (Int32.toNatClampNeg 21) 679695).sL (h.n + 4) (Int32.toNatClampNeg 22) 15248533).sL (h.n + 4) (Int32.toNatClampNeg 23) 38572112).sP a0 9 (some (h.n + 4))).nw (1, 420)).sP a0 10 (some (h.n + 5))).nw (1, 2200)).sP a0 11 (some (h.n + 6))).nw (1, 2200)).sP a0 12 (some (h.n + 7))).nw (4, 8)).sP a0 14 (some (h.n + 8))).nw (4, 8)).sP a0 15 (some (h.n + 9))).nw (1, 48)).sP a0 17 (some (h.n + 10))).nw (1, 2)).sP a0 18 (some (h.n + 11))).nw (1, 190)).sP a0 19 (some (h.n + 12))).nw (1, 4)).sP a0 20 (some (h.n + 13))).nw (1, 1100)).sP a0 21 (some (h.n + 14))).nw (1, 16560)).sP a0 22 (some (h.n + 15))).nw (3, 4)).sP a0 24 (some (h.n + 16))).sI a0 25 (-1)).nw (1, 48)).sP a0 27 (some (h.n + 17))).nw (4, 3010)).sP a0 28 (some (h.n + 18))).nw (4, 3010)).sP a0 29 (some (h.n + 19))).nw (4, 3010)).sP a0 30 (some (h.n + 20))).nw (1, 3010)).sP a0 31 (some (h.n + 21))).nw (1, 3010)).sP a0 32 (some (h.n + 22))).nw (1, 3010)).sP a0 33 (some (h.n + 23))).nw (1, 1024)).sP a0 34 (some (h.n + 24))).nw (1, 24)).sP a0 40 (some (h.n + 25))).nw (1, 20000)).sP a0 42 (some (h.n + 26))).nw (1, 20000)).sP a0 43 (some (h.n + 27))).nw (1, 48)).sP a0 46 (some (h.n + 28))).nw (1, 48)).sP a0 47 (some (h.n + 29))).nw (1, 8)).sP a0 52 (some (h.n + 30))).nw (1, 8)).sP a0 53 (some (h.n + 31))) (z_Qv (fun h_26 => (h_26.T a0).1 = 21 ∧ z_Ct l G m_X13_begins [.ref a0, .int 0] h_26 (z_Qv (fun h_28 => Q none h_28))))) : z_Ct l G m_X13_init [.ref a0] h Q := by
  refine z_Ct.of (ls := [some (.ref a0)]) hst rfl (by show plainName yX13_init.cls = true; decide +kernel) (z_le rfl) rfl ?_
  show z_V l G m_X13_init (z_Fm G m_X13_init Q) 32 86042 h 0 [some (.ref a0)] []
  refine z_aload_n (q := 1) (i := 0) (x := a0) dX13_init_0 rfl rfl rfl ?_
  refine z_objInit (q := 4) dX13_init_1 rfl q1725 q170 q171 ⟨z_le rfl, z_le rfl⟩ (z_le rfl) ?_
  refine z_aload_n (q := 5) (i := 0) (x := a0) dX13_init_4 rfl rfl rfl ?_
  refine z_sipush (q := 8) (v := 1000) dX13_init_5 (by decide) rfl ?_
  refine z_newa 1 (q := 10) (N := 1000) (rc2 := 31) (rs2 := 85042) (z_lt rfl) (z_lt rfl) rfl q295 (by decide) rfl (z_le rfl) dX13_init_8 rfl rfl rfl ?_
  obtain ⟨g_1, hf⟩ := hf
  refine z_putP_F 11 1 (q := 13) (x := some (h.n)) (v := .ref (h.n)) rfl (z_lt rfl) g_1 q1759 rfl rfl rfl dX13_init_10 rfl rfl rfl rfl (fun _ _ _ => rfl) ?_
  refine z_aload_n (q := 14) (i := 0) (x := a0) dX13_init_13 rfl rfl rfl ?_
  refine z_sipush (q := 17) (v := 1002) dX13_init_14 (by decide) rfl ?_
  refine z_newa 1 (q := 19) (N := 1002) (rc2 := 30) (rs2 := 84040) (z_lt rfl) (z_lt rfl) rfl q295 (by decide) rfl (z_le rfl) dX13_init_17 rfl rfl rfl ?_
  refine z_putP_F 11 4 (q := 22) (x := some (h.n + 1)) (v := .ref (h.n + 1)) rfl (z_lt rfl) (z_nT (by show a0 ≠ h.n + 1; omega) g_1) q1762 rfl rfl rfl dX13_init_19 rfl rfl rfl rfl (fun _ _ _ => rfl) ?_
  refine z_aload_n (q := 23) (i := 0) (x := a0) dX13_init_22 rfl rfl rfl ?_
  refine z_sipush (q := 26) (v := 1002) dX13_init_23 (by decide) rfl ?_
  refine z_newa 1 (q := 28) (N := 1002) (rc2 := 29) (rs2 := 83038) (z_lt rfl) (z_lt rfl) rfl q295 (by decide) rfl (z_le rfl) dX13_init_26 rfl rfl rfl ?_
  refine z_putP_F 11 5 (q := 31) (x := some (h.n + 2)) (v := .ref (h.n + 2)) rfl (z_lt rfl) (z_nT (by show a0 ≠ h.n + 2; omega) (z_nT (by show a0 ≠ h.n + 1; omega) g_1)) q1763 rfl rfl rfl dX13_init_28 rfl rfl rfl rfl (fun _ _ _ => rfl) ?_
  refine z_aload_n (q := 32) (i := 0) (x := a0) dX13_init_31 rfl rfl rfl ?_
  refine z_sipush (q := 35) (v := 1002) dX13_init_32 (by decide) rfl ?_
  refine z_newa 4 (q := 37) (N := 1002) (rc2 := 28) (rs2 := 82036) (z_lt rfl) (z_lt rfl) rfl q294 (by decide) rfl (z_le rfl) dX13_init_35 rfl rfl rfl ?_
  refine z_putP_F 11 6 (q := 40) (x := some (h.n + 3)) (v := .ref (h.n + 3)) rfl (z_lt rfl) (z_nT (by show a0 ≠ h.n + 3; omega) (z_nT (by show a0 ≠ h.n + 2; omega) (z_nT (by show a0 ≠ h.n + 1; omega) g_1))) q1764 rfl rfl rfl dX13_init_37 rfl rfl rfl rfl (fun _ _ _ => rfl) ?_
  refine z_aload_n (q := 41) (i := 0) (x := a0) dX13_init_40 rfl rfl rfl ?_
  refine z_bipush (q := 43) (v := 24) dX13_init_41 (by decide) rfl ?_
  refine z_newa 4 (q := 45) (N := 24) (rc2 := 27) (rs2 := 82012) (z_lt rfl) (z_lt rfl) rfl q294 (by decide) rfl (z_le rfl) dX13_init_43 rfl rfl rfl ?_
  refine z_dup (q := 46) dX13_init_45 rfl rfl ?_
  refine z_iconst (q := 47) (v := 0) dX13_init_46 rfl rfl ?_
  refine z_ldc2 (q := 50) (v := 570026) dX13_init_47 q1726 rfl ?_
  obtain ⟨g_2, hf⟩ := hf
  refine z_last (q := 51) (n := 24) (z_up_s _ _ _) g_2 dX13_init_50 rfl ?_
  refine z_dup (q := 52) dX13_init_51 rfl rfl ?_
  refine z_iconst (q := 53) (v := 1) dX13_init_52 rfl rfl ?_
  refine z_ldc2 (q := 56) (v := 812761) dX13_init_53 q1727 rfl ?_
  obtain ⟨g_3, hf⟩ := hf
  refine z_last (q := 57) (n := 24) (z_up_s _ _ _) g_3 dX13_init_56 rfl ?_
  refine z_dup (q := 58) dX13_init_57 rfl rfl ?_
  refine z_iconst (q := 59) (v := 2) dX13_init_58 rfl rfl ?_
  refine z_ldc2 (q := 62) (v := 811939) dX13_init_59 q1728 rfl ?_
  obtain ⟨g_4, hf⟩ := hf
  refine z_last (q := 63) (n := 24) (z_up_s _ _ _) g_4 dX13_init_62 rfl ?_
  refine z_dup (q := 64) dX13_init_63 rfl rfl ?_
  refine z_iconst (q := 65) (v := 3) dX13_init_64 rfl rfl ?_
  refine z_ldc2 (q := 68) (v := 16490) dX13_init_65 q1729 rfl ?_
  obtain ⟨g_5, hf⟩ := hf
  refine z_last (q := 69) (n := 24) (z_up_s _ _ _) g_5 dX13_init_68 rfl ?_
  refine z_dup (q := 70) dX13_init_69 rfl rfl ?_
  refine z_iconst (q := 71) (v := 4) dX13_init_70 rfl rfl ?_
  refine z_ldc2 (q := 74) (v := 11726208) dX13_init_71 q1730 rfl ?_
  obtain ⟨g_6, hf⟩ := hf
  refine z_last (q := 75) (n := 24) (z_up_s _ _ _) g_6 dX13_init_74 rfl ?_
  refine z_dup (q := 76) dX13_init_75 rfl rfl ?_
  refine z_iconst (q := 77) (v := 5) dX13_init_76 rfl rfl ?_
  refine z_ldc2 (q := 80) (v := 2943) dX13_init_77 q1731 rfl ?_
  obtain ⟨g_7, hf⟩ := hf
  refine z_last (q := 81) (n := 24) (z_up_s _ _ _) g_7 dX13_init_80 rfl ?_
  refine z_dup (q := 82) dX13_init_81 rfl rfl ?_
  refine z_bipush (q := 84) (v := 6) dX13_init_82 (by decide) rfl ?_
  refine z_ldc2 (q := 87) (v := 22963959) dX13_init_84 q1732 rfl ?_
  obtain ⟨g_8, hf⟩ := hf
  refine z_last (q := 88) (n := 24) (z_up_s _ _ _) g_8 dX13_init_87 rfl ?_
  refine z_dup (q := 89) dX13_init_88 rfl rfl ?_
  refine z_bipush (q := 91) (v := 7) dX13_init_89 (by decide) rfl ?_
  refine z_ldc2 (q := 94) (v := 40072202) dX13_init_91 q1733 rfl ?_
  obtain ⟨g_9, hf⟩ := hf
  refine z_last (q := 95) (n := 24) (z_up_s _ _ _) g_9 dX13_init_94 rfl ?_
  refine z_dup (q := 96) dX13_init_95 rfl rfl ?_
  refine z_bipush (q := 98) (v := 8) dX13_init_96 (by decide) rfl ?_
  refine z_ldc2 (q := 101) (v := 1996799) dX13_init_98 q1734 rfl ?_
  obtain ⟨g_10, hf⟩ := hf
  refine z_last (q := 102) (n := 24) (z_up_s _ _ _) g_10 dX13_init_101 rfl ?_
  refine z_dup (q := 103) dX13_init_102 rfl rfl ?_
  refine z_bipush (q := 105) (v := 9) dX13_init_103 (by decide) rfl ?_
  refine z_ldc2 (q := 108) (v := 417812) dX13_init_105 q1735 rfl ?_
  obtain ⟨g_11, hf⟩ := hf
  refine z_last (q := 109) (n := 24) (z_up_s _ _ _) g_11 dX13_init_108 rfl ?_
  refine z_dup (q := 110) dX13_init_109 rfl rfl ?_
  refine z_bipush (q := 112) (v := 10) dX13_init_110 (by decide) rfl ?_
  refine z_ldc2 (q := 115) (v := 17006) dX13_init_112 q1736 rfl ?_
  obtain ⟨g_12, hf⟩ := hf
  refine z_last (q := 116) (n := 24) (z_up_s _ _ _) g_12 dX13_init_115 rfl ?_
  refine z_dup (q := 117) dX13_init_116 rfl rfl ?_
  refine z_bipush (q := 119) (v := 11) dX13_init_117 (by decide) rfl ?_
  refine z_ldc2 (q := 122) (v := 557263975) dX13_init_119 q1737 rfl ?_
  obtain ⟨g_13, hf⟩ := hf
  refine z_last (q := 123) (n := 24) (z_up_s _ _ _) g_13 dX13_init_122 rfl ?_
  refine z_dup (q := 124) dX13_init_123 rfl rfl ?_
  refine z_bipush (q := 126) (v := 12) dX13_init_124 (by decide) rfl ?_
  refine z_ldc2 (q := 129) (v := 614923) dX13_init_126 q1738 rfl ?_
  obtain ⟨g_14, hf⟩ := hf
  refine z_last (q := 130) (n := 24) (z_up_s _ _ _) g_14 dX13_init_129 rfl ?_
  refine z_dup (q := 131) dX13_init_130 rfl rfl ?_
  refine z_bipush (q := 133) (v := 13) dX13_init_131 (by decide) rfl ?_
  refine z_ldc2 (q := 136) (v := 34200674) dX13_init_133 q1739 rfl ?_
  obtain ⟨g_15, hf⟩ := hf
  refine z_last (q := 137) (n := 24) (z_up_s _ _ _) g_15 dX13_init_136 rfl ?_
  refine z_dup (q := 138) dX13_init_137 rfl rfl ?_
  refine z_bipush (q := 140) (v := 14) dX13_init_138 (by decide) rfl ?_
  refine z_ldc2 (q := 143) (v := 999049827) dX13_init_140 q1740 rfl ?_
  obtain ⟨g_16, hf⟩ := hf
  refine z_last (q := 144) (n := 24) (z_up_s _ _ _) g_16 dX13_init_143 rfl ?_
  refine z_dup (q := 145) dX13_init_144 rfl rfl ?_
  refine z_bipush (q := 147) (v := 15) dX13_init_145 (by decide) rfl ?_
  refine z_ldc2 (q := 150) (v := 39605492240) dX13_init_147 q1741 rfl ?_
  obtain ⟨g_17, hf⟩ := hf
  refine z_last (q := 151) (n := 24) (z_up_s _ _ _) g_17 dX13_init_150 rfl ?_
  refine z_dup (q := 152) dX13_init_151 rfl rfl ?_
  refine z_bipush (q := 154) (v := 16) dX13_init_152 (by decide) rfl ?_
  refine z_ldc2 (q := 157) (v := 32056) dX13_init_154 q1742 rfl ?_
  obtain ⟨g_18, hf⟩ := hf
  refine z_last (q := 158) (n := 24) (z_up_s _ _ _) g_18 dX13_init_157 rfl ?_
  refine z_dup (q := 159) dX13_init_158 rfl rfl ?_
  refine z_bipush (q := 161) (v := 17) dX13_init_159 (by decide) rfl ?_
  refine z_ldc2 (q := 164) (v := 19741) dX13_init_161 q1743 rfl ?_
  obtain ⟨g_19, hf⟩ := hf
  refine z_last (q := 165) (n := 24) (z_up_s _ _ _) g_19 dX13_init_164 rfl ?_
  refine z_dup (q := 166) dX13_init_165 rfl rfl ?_
  refine z_bipush (q := 168) (v := 18) dX13_init_166 (by decide) rfl ?_
  refine z_ldc2 (q := 171) (v := 1891) dX13_init_168 q1744 rfl ?_
  obtain ⟨g_20, hf⟩ := hf
  refine z_last (q := 172) (n := 24) (z_up_s _ _ _) g_20 dX13_init_171 rfl ?_
  refine z_dup (q := 173) dX13_init_172 rfl rfl ?_
  refine z_bipush (q := 175) (v := 19) dX13_init_173 (by decide) rfl ?_
  refine z_ldc2 (q := 178) (v := 573) dX13_init_175 q1745 rfl ?_
  obtain ⟨g_21, hf⟩ := hf
  refine z_last (q := 179) (n := 24) (z_up_s _ _ _) g_21 dX13_init_178 rfl ?_
  refine z_dup (q := 180) dX13_init_179 rfl rfl ?_
  refine z_bipush (q := 182) (v := 20) dX13_init_180 (by decide) rfl ?_
  refine z_ldc2 (q := 185) (v := 2286271) dX13_init_182 q1746 rfl ?_
  obtain ⟨g_22, hf⟩ := hf
  refine z_last (q := 186) (n := 24) (z_up_s _ _ _) g_22 dX13_init_185 rfl ?_
  refine z_dup (q := 187) dX13_init_186 rfl rfl ?_
  refine z_bipush (q := 189) (v := 21) dX13_init_187 (by decide) rfl ?_
  refine z_ldc2 (q := 192) (v := 679695) dX13_init_189 q1747 rfl ?_
  obtain ⟨g_23, hf⟩ := hf
  refine z_last (q := 193) (n := 24) (z_up_s _ _ _) g_23 dX13_init_192 rfl ?_
  refine z_dup (q := 194) dX13_init_193 rfl rfl ?_
  refine z_bipush (q := 196) (v := 22) dX13_init_194 (by decide) rfl ?_
  refine z_ldc2 (q := 199) (v := 15248533) dX13_init_196 q1748 rfl ?_
  obtain ⟨g_24, hf⟩ := hf
  refine z_last (q := 200) (n := 24) (z_up_s _ _ _) g_24 dX13_init_199 rfl ?_
  refine z_dup (q := 201) dX13_init_200 rfl rfl ?_
  refine z_bipush (q := 203) (v := 23) dX13_init_201 (by decide) rfl ?_
  refine z_ldc2 (q := 206) (v := 38572112) dX13_init_203 q1749 rfl ?_
  obtain ⟨g_25, hf⟩ := hf
  refine z_last (q := 207) (n := 24) (z_up_s _ _ _) g_25 dX13_init_206 rfl ?_
  refine z_putP_F 11 9 (q := 210) (x := some (h.n + 4)) (v := .ref (h.n + 4)) rfl (z_lt rfl) (z_nT (by show a0 ≠ h.n + 4; omega) (z_nT (by show a0 ≠ h.n + 3; omega) (z_nT (by show a0 ≠ h.n + 2; omega) (z_nT (by show a0 ≠ h.n + 1; omega) g_1)))) q1767 rfl rfl rfl dX13_init_207 rfl rfl rfl rfl (fun _ _ _ => rfl) ?_
  refine z_aload_n (q := 211) (i := 0) (x := a0) dX13_init_210 rfl rfl rfl ?_
  refine z_sipush (q := 214) (v := 420) dX13_init_211 (by decide) rfl ?_
  refine z_newa 1 (q := 216) (N := 420) (rc2 := 26) (rs2 := 81592) (z_lt rfl) (z_lt rfl) rfl q295 (by decide) rfl (z_le rfl) dX13_init_214 rfl rfl rfl ?_
  refine z_putP_F 11 10 (q := 219) (x := some (h.n + 5)) (v := .ref (h.n + 5)) rfl (z_lt rfl) (z_nT (by show a0 ≠ h.n + 5; omega) (z_nT (by show a0 ≠ h.n + 4; omega) (z_nT (by show a0 ≠ h.n + 3; omega) (z_nT (by show a0 ≠ h.n + 2; omega) (z_nT (by show a0 ≠ h.n + 1; omega) g_1))))) q1768 rfl rfl rfl dX13_init_216 rfl rfl rfl rfl (fun _ _ _ => rfl) ?_
  refine z_aload_n (q := 220) (i := 0) (x := a0) dX13_init_219 rfl rfl rfl ?_
  refine z_sipush (q := 223) (v := 2200) dX13_init_220 (by decide) rfl ?_
  refine z_newa 1 (q := 225) (N := 2200) (rc2 := 25) (rs2 := 79392) (z_lt rfl) (z_lt rfl) rfl q295 (by decide) rfl (z_le rfl) dX13_init_223 rfl rfl rfl ?_
  refine z_putP_F 11 11 (q := 228) (x := some (h.n + 6)) (v := .ref (h.n + 6)) rfl (z_lt rfl) (z_nT (by show a0 ≠ h.n + 6; omega) (z_nT (by show a0 ≠ h.n + 5; omega) (z_nT (by show a0 ≠ h.n + 4; omega) (z_nT (by show a0 ≠ h.n + 3; omega) (z_nT (by show a0 ≠ h.n + 2; omega) (z_nT (by show a0 ≠ h.n + 1; omega) g_1)))))) q1769 rfl rfl rfl dX13_init_225 rfl rfl rfl rfl (fun _ _ _ => rfl) ?_
  refine z_aload_n (q := 229) (i := 0) (x := a0) dX13_init_228 rfl rfl rfl ?_
  refine z_sipush (q := 232) (v := 2200) dX13_init_229 (by decide) rfl ?_
  refine z_newa 1 (q := 234) (N := 2200) (rc2 := 24) (rs2 := 77192) (z_lt rfl) (z_lt rfl) rfl q295 (by decide) rfl (z_le rfl) dX13_init_232 rfl rfl rfl ?_
  refine z_putP_F 11 12 (q := 237) (x := some (h.n + 7)) (v := .ref (h.n + 7)) rfl (z_lt rfl) (z_nT (by show a0 ≠ h.n + 7; omega) (z_nT (by show a0 ≠ h.n + 6; omega) (z_nT (by show a0 ≠ h.n + 5; omega) (z_nT (by show a0 ≠ h.n + 4; omega) (z_nT (by show a0 ≠ h.n + 3; omega) (z_nT (by show a0 ≠ h.n + 2; omega) (z_nT (by show a0 ≠ h.n + 1; omega) g_1))))))) q1770 rfl rfl rfl dX13_init_234 rfl rfl rfl rfl (fun _ _ _ => rfl) ?_
  refine z_aload_n (q := 238) (i := 0) (x := a0) dX13_init_237 rfl rfl rfl ?_
  refine z_bipush (q := 240) (v := 8) dX13_init_238 (by decide) rfl ?_
  refine z_newa 4 (q := 242) (N := 8) (rc2 := 23) (rs2 := 77184) (z_lt rfl) (z_lt rfl) rfl q294 (by decide) rfl (z_le rfl) dX13_init_240 rfl rfl rfl ?_
  refine z_putP_F 11 14 (q := 245) (x := some (h.n + 8)) (v := .ref (h.n + 8)) rfl (z_lt rfl) (z_nT (by show a0 ≠ h.n + 8; omega) (z_nT (by show a0 ≠ h.n + 7; omega) (z_nT (by show a0 ≠ h.n + 6; omega) (z_nT (by show a0 ≠ h.n + 5; omega) (z_nT (by show a0 ≠ h.n + 4; omega) (z_nT (by show a0 ≠ h.n + 3; omega) (z_nT (by show a0 ≠ h.n + 2; omega) (z_nT (by show a0 ≠ h.n + 1; omega) g_1)))))))) q1772 rfl rfl rfl dX13_init_242 rfl rfl rfl rfl (fun _ _ _ => rfl) ?_
  refine z_aload_n (q := 246) (i := 0) (x := a0) dX13_init_245 rfl rfl rfl ?_
  refine z_bipush (q := 248) (v := 8) dX13_init_246 (by decide) rfl ?_
  refine z_newa 4 (q := 250) (N := 8) (rc2 := 22) (rs2 := 77176) (z_lt rfl) (z_lt rfl) rfl q294 (by decide) rfl (z_le rfl) dX13_init_248 rfl rfl rfl ?_
  refine z_putP_F 11 15 (q := 253) (x := some (h.n + 9)) (v := .ref (h.n + 9)) rfl (z_lt rfl) (z_nT (by show a0 ≠ h.n + 9; omega) (z_nT (by show a0 ≠ h.n + 8; omega) (z_nT (by show a0 ≠ h.n + 7; omega) (z_nT (by show a0 ≠ h.n + 6; omega) (z_nT (by show a0 ≠ h.n + 5; omega) (z_nT (by show a0 ≠ h.n + 4; omega) (z_nT (by show a0 ≠ h.n + 3; omega) (z_nT (by show a0 ≠ h.n + 2; omega) (z_nT (by show a0 ≠ h.n + 1; omega) g_1))))))))) q1773 rfl rfl rfl dX13_init_250 rfl rfl rfl rfl (fun _ _ _ => rfl) ?_
  refine z_aload_n (q := 254) (i := 0) (x := a0) dX13_init_253 rfl rfl rfl ?_
  refine z_bipush (q := 256) (v := 48) dX13_init_254 (by decide) rfl ?_
  refine z_newa 1 (q := 258) (N := 48) (rc2 := 21) (rs2 := 77128) (z_lt rfl) (z_lt rfl) rfl q295 (by decide) rfl (z_le rfl) dX13_init_256 rfl rfl rfl ?_
  refine z_putP_F 11 17 (q := 261) (x := some (h.n + 10)) (v := .ref (h.n + 10)) rfl (z_lt rfl) (z_nT (by show a0 ≠ h.n + 10; omega) (z_nT (by show a0 ≠ h.n + 9; omega) (z_nT (by show a0 ≠ h.n + 8; omega) (z_nT (by show a0 ≠ h.n + 7; omega) (z_nT (by show a0 ≠ h.n + 6; omega) (z_nT (by show a0 ≠ h.n + 5; omega) (z_nT (by show a0 ≠ h.n + 4; omega) (z_nT (by show a0 ≠ h.n + 3; omega) (z_nT (by show a0 ≠ h.n + 2; omega) (z_nT (by show a0 ≠ h.n + 1; omega) g_1)))))))))) q1775 rfl rfl rfl dX13_init_258 rfl rfl rfl rfl (fun _ _ _ => rfl) ?_
  refine z_aload_n (q := 262) (i := 0) (x := a0) dX13_init_261 rfl rfl rfl ?_
  refine z_iconst (q := 263) (v := 2) dX13_init_262 rfl rfl ?_
  refine z_newa 1 (q := 265) (N := 2) (rc2 := 20) (rs2 := 77126) (z_lt rfl) (z_lt rfl) rfl q295 (by decide) rfl (z_le rfl) dX13_init_263 rfl rfl rfl ?_
  refine z_putP_F 11 18 (q := 268) (x := some (h.n + 11)) (v := .ref (h.n + 11)) rfl (z_lt rfl) (z_nT (by show a0 ≠ h.n + 11; omega) (z_nT (by show a0 ≠ h.n + 10; omega) (z_nT (by show a0 ≠ h.n + 9; omega) (z_nT (by show a0 ≠ h.n + 8; omega) (z_nT (by show a0 ≠ h.n + 7; omega) (z_nT (by show a0 ≠ h.n + 6; omega) (z_nT (by show a0 ≠ h.n + 5; omega) (z_nT (by show a0 ≠ h.n + 4; omega) (z_nT (by show a0 ≠ h.n + 3; omega) (z_nT (by show a0 ≠ h.n + 2; omega) (z_nT (by show a0 ≠ h.n + 1; omega) g_1))))))))))) q1776 rfl rfl rfl dX13_init_265 rfl rfl rfl rfl (fun _ _ _ => rfl) ?_
  refine z_aload_n (q := 269) (i := 0) (x := a0) dX13_init_268 rfl rfl rfl ?_
  refine z_sipush (q := 272) (v := 190) dX13_init_269 (by decide) rfl ?_
  refine z_newa 1 (q := 274) (N := 190) (rc2 := 19) (rs2 := 76936) (z_lt rfl) (z_lt rfl) rfl q295 (by decide) rfl (z_le rfl) dX13_init_272 rfl rfl rfl ?_
  refine z_putP_F 11 19 (q := 277) (x := some (h.n + 12)) (v := .ref (h.n + 12)) rfl (z_lt rfl) (z_nT (by show a0 ≠ h.n + 12; omega) (z_nT (by show a0 ≠ h.n + 11; omega) (z_nT (by show a0 ≠ h.n + 10; omega) (z_nT (by show a0 ≠ h.n + 9; omega) (z_nT (by show a0 ≠ h.n + 8; omega) (z_nT (by show a0 ≠ h.n + 7; omega) (z_nT (by show a0 ≠ h.n + 6; omega) (z_nT (by show a0 ≠ h.n + 5; omega) (z_nT (by show a0 ≠ h.n + 4; omega) (z_nT (by show a0 ≠ h.n + 3; omega) (z_nT (by show a0 ≠ h.n + 2; omega) (z_nT (by show a0 ≠ h.n + 1; omega) g_1)))))))))))) q1777 rfl rfl rfl dX13_init_274 rfl rfl rfl rfl (fun _ _ _ => rfl) ?_
  refine z_aload_n (q := 278) (i := 0) (x := a0) dX13_init_277 rfl rfl rfl ?_
  refine z_iconst (q := 279) (v := 4) dX13_init_278 rfl rfl ?_
  refine z_newa 1 (q := 281) (N := 4) (rc2 := 18) (rs2 := 76932) (z_lt rfl) (z_lt rfl) rfl q295 (by decide) rfl (z_le rfl) dX13_init_279 rfl rfl rfl ?_
  refine z_putP_F 11 20 (q := 284) (x := some (h.n + 13)) (v := .ref (h.n + 13)) rfl (z_lt rfl) (z_nT (by show a0 ≠ h.n + 13; omega) (z_nT (by show a0 ≠ h.n + 12; omega) (z_nT (by show a0 ≠ h.n + 11; omega) (z_nT (by show a0 ≠ h.n + 10; omega) (z_nT (by show a0 ≠ h.n + 9; omega) (z_nT (by show a0 ≠ h.n + 8; omega) (z_nT (by show a0 ≠ h.n + 7; omega) (z_nT (by show a0 ≠ h.n + 6; omega) (z_nT (by show a0 ≠ h.n + 5; omega) (z_nT (by show a0 ≠ h.n + 4; omega) (z_nT (by show a0 ≠ h.n + 3; omega) (z_nT (by show a0 ≠ h.n + 2; omega) (z_nT (by show a0 ≠ h.n + 1; omega) g_1))))))))))))) q1778 rfl rfl rfl dX13_init_281 rfl rfl rfl rfl (fun _ _ _ => rfl) ?_
  refine z_aload_n (q := 285) (i := 0) (x := a0) dX13_init_284 rfl rfl rfl ?_
  refine z_sipush (q := 288) (v := 1100) dX13_init_285 (by decide) rfl ?_
  refine z_newa 1 (q := 290) (N := 1100) (rc2 := 17) (rs2 := 75832) (z_lt rfl) (z_lt rfl) rfl q295 (by decide) rfl (z_le rfl) dX13_init_288 rfl rfl rfl ?_
  refine z_putP_F 11 21 (q := 293) (x := some (h.n + 14)) (v := .ref (h.n + 14)) rfl (z_lt rfl) (z_nT (by show a0 ≠ h.n + 14; omega) (z_nT (by show a0 ≠ h.n + 13; omega) (z_nT (by show a0 ≠ h.n + 12; omega) (z_nT (by show a0 ≠ h.n + 11; omega) (z_nT (by show a0 ≠ h.n + 10; omega) (z_nT (by show a0 ≠ h.n + 9; omega) (z_nT (by show a0 ≠ h.n + 8; omega) (z_nT (by show a0 ≠ h.n + 7; omega) (z_nT (by show a0 ≠ h.n + 6; omega) (z_nT (by show a0 ≠ h.n + 5; omega) (z_nT (by show a0 ≠ h.n + 4; omega) (z_nT (by show a0 ≠ h.n + 3; omega) (z_nT (by show a0 ≠ h.n + 2; omega) (z_nT (by show a0 ≠ h.n + 1; omega) g_1)))))))))))))) q1779 rfl rfl rfl dX13_init_290 rfl rfl rfl rfl (fun _ _ _ => rfl) ?_
  refine z_aload_n (q := 294) (i := 0) (x := a0) dX13_init_293 rfl rfl rfl ?_
  refine z_sipush (q := 297) (v := 16560) dX13_init_294 (by decide) rfl ?_
  refine z_newa 1 (q := 299) (N := 16560) (rc2 := 16) (rs2 := 59272) (z_lt rfl) (z_lt rfl) rfl q295 (by decide) rfl (z_le rfl) dX13_init_297 rfl rfl rfl ?_
  refine z_putP_F 11 22 (q := 302) (x := some (h.n + 15)) (v := .ref (h.n + 15)) rfl (z_lt rfl) (z_nT (by show a0 ≠ h.n + 15; omega) (z_nT (by show a0 ≠ h.n + 14; omega) (z_nT (by show a0 ≠ h.n + 13; omega) (z_nT (by show a0 ≠ h.n + 12; omega) (z_nT (by show a0 ≠ h.n + 11; omega) (z_nT (by show a0 ≠ h.n + 10; omega) (z_nT (by show a0 ≠ h.n + 9; omega) (z_nT (by show a0 ≠ h.n + 8; omega) (z_nT (by show a0 ≠ h.n + 7; omega) (z_nT (by show a0 ≠ h.n + 6; omega) (z_nT (by show a0 ≠ h.n + 5; omega) (z_nT (by show a0 ≠ h.n + 4; omega) (z_nT (by show a0 ≠ h.n + 3; omega) (z_nT (by show a0 ≠ h.n + 2; omega) (z_nT (by show a0 ≠ h.n + 1; omega) g_1))))))))))))))) q1780 rfl rfl rfl dX13_init_299 rfl rfl rfl rfl (fun _ _ _ => rfl) ?_
  refine z_aload_n (q := 303) (i := 0) (x := a0) dX13_init_302 rfl rfl rfl ?_
  refine z_iconst (q := 304) (v := 4) dX13_init_303 rfl rfl ?_
  refine z_newa 3 (q := 306) (N := 4) (rc2 := 15) (rs2 := 59268) (z_lt rfl) (z_lt rfl) rfl q476 (by decide) rfl (z_le rfl) dX13_init_304 rfl rfl rfl ?_
  refine z_putP_F 11 24 (q := 309) (x := some (h.n + 16)) (v := .ref (h.n + 16)) rfl (z_lt rfl) (z_nT (by show a0 ≠ h.n + 16; omega) (z_nT (by show a0 ≠ h.n + 15; omega) (z_nT (by show a0 ≠ h.n + 14; omega) (z_nT (by show a0 ≠ h.n + 13; omega) (z_nT (by show a0 ≠ h.n + 12; omega) (z_nT (by show a0 ≠ h.n + 11; omega) (z_nT (by show a0 ≠ h.n + 10; omega) (z_nT (by show a0 ≠ h.n + 9; omega) (z_nT (by show a0 ≠ h.n + 8; omega) (z_nT (by show a0 ≠ h.n + 7; omega) (z_nT (by show a0 ≠ h.n + 6; omega) (z_nT (by show a0 ≠ h.n + 5; omega) (z_nT (by show a0 ≠ h.n + 4; omega) (z_nT (by show a0 ≠ h.n + 3; omega) (z_nT (by show a0 ≠ h.n + 2; omega) (z_nT (by show a0 ≠ h.n + 1; omega) g_1)))))))))))))))) q1782 rfl rfl rfl dX13_init_306 rfl rfl rfl rfl (fun _ _ _ => rfl) ?_
  refine z_aload_n (q := 310) (i := 0) (x := a0) dX13_init_309 rfl rfl rfl ?_
  refine z_iconst (q := 311) (v := (-1)) dX13_init_310 rfl rfl ?_
  refine z_putI 11 25 (q := 314) (x := (-1)) (v := .int (-1)) rfl (z_lt rfl) (z_nT (by show a0 ≠ h.n + 16; omega) (z_nT (by show a0 ≠ h.n + 15; omega) (z_nT (by show a0 ≠ h.n + 14; omega) (z_nT (by show a0 ≠ h.n + 13; omega) (z_nT (by show a0 ≠ h.n + 12; omega) (z_nT (by show a0 ≠ h.n + 11; omega) (z_nT (by show a0 ≠ h.n + 10; omega) (z_nT (by show a0 ≠ h.n + 9; omega) (z_nT (by show a0 ≠ h.n + 8; omega) (z_nT (by show a0 ≠ h.n + 7; omega) (z_nT (by show a0 ≠ h.n + 6; omega) (z_nT (by show a0 ≠ h.n + 5; omega) (z_nT (by show a0 ≠ h.n + 4; omega) (z_nT (by show a0 ≠ h.n + 3; omega) (z_nT (by show a0 ≠ h.n + 2; omega) (z_nT (by show a0 ≠ h.n + 1; omega) g_1)))))))))))))))) q1783 rfl dX13_init_311 rfl rfl rfl rfl (fun _ _ _ => rfl) ?_
  refine z_aload_n (q := 315) (i := 0) (x := a0) dX13_init_314 rfl rfl rfl ?_
  refine z_bipush (q := 317) (v := 48) dX13_init_315 (by decide) rfl ?_
  refine z_newa 1 (q := 319) (N := 48) (rc2 := 14) (rs2 := 59220) (z_lt rfl) (z_lt rfl) rfl q295 (by decide) rfl (z_le rfl) dX13_init_317 rfl rfl rfl ?_
  refine z_putP_F 11 27 (q := 322) (x := some (h.n + 17)) (v := .ref (h.n + 17)) rfl (z_lt rfl) (z_nT (by show a0 ≠ h.n + 17; omega) (z_nT (by show a0 ≠ h.n + 16; omega) (z_nT (by show a0 ≠ h.n + 15; omega) (z_nT (by show a0 ≠ h.n + 14; omega) (z_nT (by show a0 ≠ h.n + 13; omega) (z_nT (by show a0 ≠ h.n + 12; omega) (z_nT (by show a0 ≠ h.n + 11; omega) (z_nT (by show a0 ≠ h.n + 10; omega) (z_nT (by show a0 ≠ h.n + 9; omega) (z_nT (by show a0 ≠ h.n + 8; omega) (z_nT (by show a0 ≠ h.n + 7; omega) (z_nT (by show a0 ≠ h.n + 6; omega) (z_nT (by show a0 ≠ h.n + 5; omega) (z_nT (by show a0 ≠ h.n + 4; omega) (z_nT (by show a0 ≠ h.n + 3; omega) (z_nT (by show a0 ≠ h.n + 2; omega) (z_nT (by show a0 ≠ h.n + 1; omega) g_1))))))))))))))))) q1785 rfl rfl rfl dX13_init_319 rfl rfl rfl rfl (fun _ _ _ => rfl) ?_
  refine z_aload_n (q := 323) (i := 0) (x := a0) dX13_init_322 rfl rfl rfl ?_
  refine z_sipush (q := 326) (v := 3010) dX13_init_323 (by decide) rfl ?_
  refine z_newa 4 (q := 328) (N := 3010) (rc2 := 13) (rs2 := 56210) (z_lt rfl) (z_lt rfl) rfl q294 (by decide) rfl (z_le rfl) dX13_init_326 rfl rfl rfl ?_
  refine z_putP_F 11 28 (q := 331) (x := some (h.n + 18)) (v := .ref (h.n + 18)) rfl (z_lt rfl) (z_nT (by show a0 ≠ h.n + 18; omega) (z_nT (by show a0 ≠ h.n + 17; omega) (z_nT (by show a0 ≠ h.n + 16; omega) (z_nT (by show a0 ≠ h.n + 15; omega) (z_nT (by show a0 ≠ h.n + 14; omega) (z_nT (by show a0 ≠ h.n + 13; omega) (z_nT (by show a0 ≠ h.n + 12; omega) (z_nT (by show a0 ≠ h.n + 11; omega) (z_nT (by show a0 ≠ h.n + 10; omega) (z_nT (by show a0 ≠ h.n + 9; omega) (z_nT (by show a0 ≠ h.n + 8; omega) (z_nT (by show a0 ≠ h.n + 7; omega) (z_nT (by show a0 ≠ h.n + 6; omega) (z_nT (by show a0 ≠ h.n + 5; omega) (z_nT (by show a0 ≠ h.n + 4; omega) (z_nT (by show a0 ≠ h.n + 3; omega) (z_nT (by show a0 ≠ h.n + 2; omega) (z_nT (by show a0 ≠ h.n + 1; omega) g_1)))))))))))))))))) q1786 rfl rfl rfl dX13_init_328 rfl rfl rfl rfl (fun _ _ _ => rfl) ?_
  refine z_aload_n (q := 332) (i := 0) (x := a0) dX13_init_331 rfl rfl rfl ?_
  refine z_sipush (q := 335) (v := 3010) dX13_init_332 (by decide) rfl ?_
  refine z_newa 4 (q := 337) (N := 3010) (rc2 := 12) (rs2 := 53200) (z_lt rfl) (z_lt rfl) rfl q294 (by decide) rfl (z_le rfl) dX13_init_335 rfl rfl rfl ?_
  refine z_putP_F 11 29 (q := 340) (x := some (h.n + 19)) (v := .ref (h.n + 19)) rfl (z_lt rfl) (z_nT (by show a0 ≠ h.n + 19; omega) (z_nT (by show a0 ≠ h.n + 18; omega) (z_nT (by show a0 ≠ h.n + 17; omega) (z_nT (by show a0 ≠ h.n + 16; omega) (z_nT (by show a0 ≠ h.n + 15; omega) (z_nT (by show a0 ≠ h.n + 14; omega) (z_nT (by show a0 ≠ h.n + 13; omega) (z_nT (by show a0 ≠ h.n + 12; omega) (z_nT (by show a0 ≠ h.n + 11; omega) (z_nT (by show a0 ≠ h.n + 10; omega) (z_nT (by show a0 ≠ h.n + 9; omega) (z_nT (by show a0 ≠ h.n + 8; omega) (z_nT (by show a0 ≠ h.n + 7; omega) (z_nT (by show a0 ≠ h.n + 6; omega) (z_nT (by show a0 ≠ h.n + 5; omega) (z_nT (by show a0 ≠ h.n + 4; omega) (z_nT (by show a0 ≠ h.n + 3; omega) (z_nT (by show a0 ≠ h.n + 2; omega) (z_nT (by show a0 ≠ h.n + 1; omega) g_1))))))))))))))))))) q1787 rfl rfl rfl dX13_init_337 rfl rfl rfl rfl (fun _ _ _ => rfl) ?_
  refine z_aload_n (q := 341) (i := 0) (x := a0) dX13_init_340 rfl rfl rfl ?_
  refine z_sipush (q := 344) (v := 3010) dX13_init_341 (by decide) rfl ?_
  refine z_newa 4 (q := 346) (N := 3010) (rc2 := 11) (rs2 := 50190) (z_lt rfl) (z_lt rfl) rfl q294 (by decide) rfl (z_le rfl) dX13_init_344 rfl rfl rfl ?_
  refine z_putP_F 11 30 (q := 349) (x := some (h.n + 20)) (v := .ref (h.n + 20)) rfl (z_lt rfl) (z_nT (by show a0 ≠ h.n + 20; omega) (z_nT (by show a0 ≠ h.n + 19; omega) (z_nT (by show a0 ≠ h.n + 18; omega) (z_nT (by show a0 ≠ h.n + 17; omega) (z_nT (by show a0 ≠ h.n + 16; omega) (z_nT (by show a0 ≠ h.n + 15; omega) (z_nT (by show a0 ≠ h.n + 14; omega) (z_nT (by show a0 ≠ h.n + 13; omega) (z_nT (by show a0 ≠ h.n + 12; omega) (z_nT (by show a0 ≠ h.n + 11; omega) (z_nT (by show a0 ≠ h.n + 10; omega) (z_nT (by show a0 ≠ h.n + 9; omega) (z_nT (by show a0 ≠ h.n + 8; omega) (z_nT (by show a0 ≠ h.n + 7; omega) (z_nT (by show a0 ≠ h.n + 6; omega) (z_nT (by show a0 ≠ h.n + 5; omega) (z_nT (by show a0 ≠ h.n + 4; omega) (z_nT (by show a0 ≠ h.n + 3; omega) (z_nT (by show a0 ≠ h.n + 2; omega) (z_nT (by show a0 ≠ h.n + 1; omega) g_1)))))))))))))))))))) q1788 rfl rfl rfl dX13_init_346 rfl rfl rfl rfl (fun _ _ _ => rfl) ?_
  refine z_aload_n (q := 350) (i := 0) (x := a0) dX13_init_349 rfl rfl rfl ?_
  refine z_sipush (q := 353) (v := 3010) dX13_init_350 (by decide) rfl ?_
  refine z_newa 1 (q := 355) (N := 3010) (rc2 := 10) (rs2 := 47180) (z_lt rfl) (z_lt rfl) rfl q295 (by decide) rfl (z_le rfl) dX13_init_353 rfl rfl rfl ?_
  refine z_putP_F 11 31 (q := 358) (x := some (h.n + 21)) (v := .ref (h.n + 21)) rfl (z_lt rfl) (z_nT (by show a0 ≠ h.n + 21; omega) (z_nT (by show a0 ≠ h.n + 20; omega) (z_nT (by show a0 ≠ h.n + 19; omega) (z_nT (by show a0 ≠ h.n + 18; omega) (z_nT (by show a0 ≠ h.n + 17; omega) (z_nT (by show a0 ≠ h.n + 16; omega) (z_nT (by show a0 ≠ h.n + 15; omega) (z_nT (by show a0 ≠ h.n + 14; omega) (z_nT (by show a0 ≠ h.n + 13; omega) (z_nT (by show a0 ≠ h.n + 12; omega) (z_nT (by show a0 ≠ h.n + 11; omega) (z_nT (by show a0 ≠ h.n + 10; omega) (z_nT (by show a0 ≠ h.n + 9; omega) (z_nT (by show a0 ≠ h.n + 8; omega) (z_nT (by show a0 ≠ h.n + 7; omega) (z_nT (by show a0 ≠ h.n + 6; omega) (z_nT (by show a0 ≠ h.n + 5; omega) (z_nT (by show a0 ≠ h.n + 4; omega) (z_nT (by show a0 ≠ h.n + 3; omega) (z_nT (by show a0 ≠ h.n + 2; omega) (z_nT (by show a0 ≠ h.n + 1; omega) g_1))))))))))))))))))))) q1789 rfl rfl rfl dX13_init_355 rfl rfl rfl rfl (fun _ _ _ => rfl) ?_
  refine z_aload_n (q := 359) (i := 0) (x := a0) dX13_init_358 rfl rfl rfl ?_
  refine z_sipush (q := 362) (v := 3010) dX13_init_359 (by decide) rfl ?_
  refine z_newa 1 (q := 364) (N := 3010) (rc2 := 9) (rs2 := 44170) (z_lt rfl) (z_lt rfl) rfl q295 (by decide) rfl (z_le rfl) dX13_init_362 rfl rfl rfl ?_
  refine z_putP_F 11 32 (q := 367) (x := some (h.n + 22)) (v := .ref (h.n + 22)) rfl (z_lt rfl) (z_nT (by show a0 ≠ h.n + 22; omega) (z_nT (by show a0 ≠ h.n + 21; omega) (z_nT (by show a0 ≠ h.n + 20; omega) (z_nT (by show a0 ≠ h.n + 19; omega) (z_nT (by show a0 ≠ h.n + 18; omega) (z_nT (by show a0 ≠ h.n + 17; omega) (z_nT (by show a0 ≠ h.n + 16; omega) (z_nT (by show a0 ≠ h.n + 15; omega) (z_nT (by show a0 ≠ h.n + 14; omega) (z_nT (by show a0 ≠ h.n + 13; omega) (z_nT (by show a0 ≠ h.n + 12; omega) (z_nT (by show a0 ≠ h.n + 11; omega) (z_nT (by show a0 ≠ h.n + 10; omega) (z_nT (by show a0 ≠ h.n + 9; omega) (z_nT (by show a0 ≠ h.n + 8; omega) (z_nT (by show a0 ≠ h.n + 7; omega) (z_nT (by show a0 ≠ h.n + 6; omega) (z_nT (by show a0 ≠ h.n + 5; omega) (z_nT (by show a0 ≠ h.n + 4; omega) (z_nT (by show a0 ≠ h.n + 3; omega) (z_nT (by show a0 ≠ h.n + 2; omega) (z_nT (by show a0 ≠ h.n + 1; omega) g_1)))))))))))))))))))))) q1790 rfl rfl rfl dX13_init_364 rfl rfl rfl rfl (fun _ _ _ => rfl) ?_
  refine z_aload_n (q := 368) (i := 0) (x := a0) dX13_init_367 rfl rfl rfl ?_
  refine z_sipush (q := 371) (v := 3010) dX13_init_368 (by decide) rfl ?_
  refine z_newa 1 (q := 373) (N := 3010) (rc2 := 8) (rs2 := 41160) (z_lt rfl) (z_lt rfl) rfl q295 (by decide) rfl (z_le rfl) dX13_init_371 rfl rfl rfl ?_
  refine z_putP_F 11 33 (q := 376) (x := some (h.n + 23)) (v := .ref (h.n + 23)) rfl (z_lt rfl) (z_nT (by show a0 ≠ h.n + 23; omega) (z_nT (by show a0 ≠ h.n + 22; omega) (z_nT (by show a0 ≠ h.n + 21; omega) (z_nT (by show a0 ≠ h.n + 20; omega) (z_nT (by show a0 ≠ h.n + 19; omega) (z_nT (by show a0 ≠ h.n + 18; omega) (z_nT (by show a0 ≠ h.n + 17; omega) (z_nT (by show a0 ≠ h.n + 16; omega) (z_nT (by show a0 ≠ h.n + 15; omega) (z_nT (by show a0 ≠ h.n + 14; omega) (z_nT (by show a0 ≠ h.n + 13; omega) (z_nT (by show a0 ≠ h.n + 12; omega) (z_nT (by show a0 ≠ h.n + 11; omega) (z_nT (by show a0 ≠ h.n + 10; omega) (z_nT (by show a0 ≠ h.n + 9; omega) (z_nT (by show a0 ≠ h.n + 8; omega) (z_nT (by show a0 ≠ h.n + 7; omega) (z_nT (by show a0 ≠ h.n + 6; omega) (z_nT (by show a0 ≠ h.n + 5; omega) (z_nT (by show a0 ≠ h.n + 4; omega) (z_nT (by show a0 ≠ h.n + 3; omega) (z_nT (by show a0 ≠ h.n + 2; omega) (z_nT (by show a0 ≠ h.n + 1; omega) g_1))))))))))))))))))))))) q1791 rfl rfl rfl dX13_init_373 rfl rfl rfl rfl (fun _ _ _ => rfl) ?_
  refine z_aload_n (q := 377) (i := 0) (x := a0) dX13_init_376 rfl rfl rfl ?_
  refine z_sipush (q := 380) (v := 1024) dX13_init_377 (by decide) rfl ?_
  refine z_newa 1 (q := 382) (N := 1024) (rc2 := 7) (rs2 := 40136) (z_lt rfl) (z_lt rfl) rfl q295 (by decide) rfl (z_le rfl) dX13_init_380 rfl rfl rfl ?_
  refine z_putP_F 11 34 (q := 385) (x := some (h.n + 24)) (v := .ref (h.n + 24)) rfl (z_lt rfl) (z_nT (by show a0 ≠ h.n + 24; omega) (z_nT (by show a0 ≠ h.n + 23; omega) (z_nT (by show a0 ≠ h.n + 22; omega) (z_nT (by show a0 ≠ h.n + 21; omega) (z_nT (by show a0 ≠ h.n + 20; omega) (z_nT (by show a0 ≠ h.n + 19; omega) (z_nT (by show a0 ≠ h.n + 18; omega) (z_nT (by show a0 ≠ h.n + 17; omega) (z_nT (by show a0 ≠ h.n + 16; omega) (z_nT (by show a0 ≠ h.n + 15; omega) (z_nT (by show a0 ≠ h.n + 14; omega) (z_nT (by show a0 ≠ h.n + 13; omega) (z_nT (by show a0 ≠ h.n + 12; omega) (z_nT (by show a0 ≠ h.n + 11; omega) (z_nT (by show a0 ≠ h.n + 10; omega) (z_nT (by show a0 ≠ h.n + 9; omega) (z_nT (by show a0 ≠ h.n + 8; omega) (z_nT (by show a0 ≠ h.n + 7; omega) (z_nT (by show a0 ≠ h.n + 6; omega) (z_nT (by show a0 ≠ h.n + 5; omega) (z_nT (by show a0 ≠ h.n + 4; omega) (z_nT (by show a0 ≠ h.n + 3; omega) (z_nT (by show a0 ≠ h.n + 2; omega) (z_nT (by show a0 ≠ h.n + 1; omega) g_1)))))))))))))))))))))))) q1792 rfl rfl rfl dX13_init_382 rfl rfl rfl rfl (fun _ _ _ => rfl) ?_
  refine z_aload_n (q := 386) (i := 0) (x := a0) dX13_init_385 rfl rfl rfl ?_
  refine z_bipush (q := 388) (v := 24) dX13_init_386 (by decide) rfl ?_
  refine z_newa 1 (q := 390) (N := 24) (rc2 := 6) (rs2 := 40112) (z_lt rfl) (z_lt rfl) rfl q295 (by decide) rfl (z_le rfl) dX13_init_388 rfl rfl rfl ?_
  refine z_putP_F 11 40 (q := 393) (x := some (h.n + 25)) (v := .ref (h.n + 25)) rfl (z_lt rfl) (z_nT (by show a0 ≠ h.n + 25; omega) (z_nT (by show a0 ≠ h.n + 24; omega) (z_nT (by show a0 ≠ h.n + 23; omega) (z_nT (by show a0 ≠ h.n + 22; omega) (z_nT (by show a0 ≠ h.n + 21; omega) (z_nT (by show a0 ≠ h.n + 20; omega) (z_nT (by show a0 ≠ h.n + 19; omega) (z_nT (by show a0 ≠ h.n + 18; omega) (z_nT (by show a0 ≠ h.n + 17; omega) (z_nT (by show a0 ≠ h.n + 16; omega) (z_nT (by show a0 ≠ h.n + 15; omega) (z_nT (by show a0 ≠ h.n + 14; omega) (z_nT (by show a0 ≠ h.n + 13; omega) (z_nT (by show a0 ≠ h.n + 12; omega) (z_nT (by show a0 ≠ h.n + 11; omega) (z_nT (by show a0 ≠ h.n + 10; omega) (z_nT (by show a0 ≠ h.n + 9; omega) (z_nT (by show a0 ≠ h.n + 8; omega) (z_nT (by show a0 ≠ h.n + 7; omega) (z_nT (by show a0 ≠ h.n + 6; omega) (z_nT (by show a0 ≠ h.n + 5; omega) (z_nT (by show a0 ≠ h.n + 4; omega) (z_nT (by show a0 ≠ h.n + 3; omega) (z_nT (by show a0 ≠ h.n + 2; omega) (z_nT (by show a0 ≠ h.n + 1; omega) g_1))))))))))))))))))))))))) q1798 rfl rfl rfl dX13_init_390 rfl rfl rfl rfl (fun _ _ _ => rfl) ?_
  refine z_aload_n (q := 394) (i := 0) (x := a0) dX13_init_393 rfl rfl rfl ?_
  refine z_sipush (q := 397) (v := 20000) dX13_init_394 (by decide) rfl ?_
  refine z_newa 1 (q := 399) (N := 20000) (rc2 := 5) (rs2 := 20112) (z_lt rfl) (z_lt rfl) rfl q295 (by decide) rfl (z_le rfl) dX13_init_397 rfl rfl rfl ?_
  refine z_putP_F 11 42 (q := 402) (x := some (h.n + 26)) (v := .ref (h.n + 26)) rfl (z_lt rfl) (z_nT (by show a0 ≠ h.n + 26; omega) (z_nT (by show a0 ≠ h.n + 25; omega) (z_nT (by show a0 ≠ h.n + 24; omega) (z_nT (by show a0 ≠ h.n + 23; omega) (z_nT (by show a0 ≠ h.n + 22; omega) (z_nT (by show a0 ≠ h.n + 21; omega) (z_nT (by show a0 ≠ h.n + 20; omega) (z_nT (by show a0 ≠ h.n + 19; omega) (z_nT (by show a0 ≠ h.n + 18; omega) (z_nT (by show a0 ≠ h.n + 17; omega) (z_nT (by show a0 ≠ h.n + 16; omega) (z_nT (by show a0 ≠ h.n + 15; omega) (z_nT (by show a0 ≠ h.n + 14; omega) (z_nT (by show a0 ≠ h.n + 13; omega) (z_nT (by show a0 ≠ h.n + 12; omega) (z_nT (by show a0 ≠ h.n + 11; omega) (z_nT (by show a0 ≠ h.n + 10; omega) (z_nT (by show a0 ≠ h.n + 9; omega) (z_nT (by show a0 ≠ h.n + 8; omega) (z_nT (by show a0 ≠ h.n + 7; omega) (z_nT (by show a0 ≠ h.n + 6; omega) (z_nT (by show a0 ≠ h.n + 5; omega) (z_nT (by show a0 ≠ h.n + 4; omega) (z_nT (by show a0 ≠ h.n + 3; omega) (z_nT (by show a0 ≠ h.n + 2; omega) (z_nT (by show a0 ≠ h.n + 1; omega) g_1)))))))))))))))))))))))))) q1800 rfl rfl rfl dX13_init_399 rfl rfl rfl rfl (fun _ _ _ => rfl) ?_
  refine z_aload_n (q := 403) (i := 0) (x := a0) dX13_init_402 rfl rfl rfl ?_
  refine z_sipush (q := 406) (v := 20000) dX13_init_403 (by decide) rfl ?_
  refine z_newa 1 (q := 408) (N := 20000) (rc2 := 4) (rs2 := 112) (z_lt rfl) (z_lt rfl) rfl q295 (by decide) rfl (z_le rfl) dX13_init_406 rfl rfl rfl ?_
  refine z_putP_F 11 43 (q := 411) (x := some (h.n + 27)) (v := .ref (h.n + 27)) rfl (z_lt rfl) (z_nT (by show a0 ≠ h.n + 27; omega) (z_nT (by show a0 ≠ h.n + 26; omega) (z_nT (by show a0 ≠ h.n + 25; omega) (z_nT (by show a0 ≠ h.n + 24; omega) (z_nT (by show a0 ≠ h.n + 23; omega) (z_nT (by show a0 ≠ h.n + 22; omega) (z_nT (by show a0 ≠ h.n + 21; omega) (z_nT (by show a0 ≠ h.n + 20; omega) (z_nT (by show a0 ≠ h.n + 19; omega) (z_nT (by show a0 ≠ h.n + 18; omega) (z_nT (by show a0 ≠ h.n + 17; omega) (z_nT (by show a0 ≠ h.n + 16; omega) (z_nT (by show a0 ≠ h.n + 15; omega) (z_nT (by show a0 ≠ h.n + 14; omega) (z_nT (by show a0 ≠ h.n + 13; omega) (z_nT (by show a0 ≠ h.n + 12; omega) (z_nT (by show a0 ≠ h.n + 11; omega) (z_nT (by show a0 ≠ h.n + 10; omega) (z_nT (by show a0 ≠ h.n + 9; omega) (z_nT (by show a0 ≠ h.n + 8; omega) (z_nT (by show a0 ≠ h.n + 7; omega) (z_nT (by show a0 ≠ h.n + 6; omega) (z_nT (by show a0 ≠ h.n + 5; omega) (z_nT (by show a0 ≠ h.n + 4; omega) (z_nT (by show a0 ≠ h.n + 3; omega) (z_nT (by show a0 ≠ h.n + 2; omega) (z_nT (by show a0 ≠ h.n + 1; omega) g_1))))))))))))))))))))))))))) q1801 rfl rfl rfl dX13_init_408 rfl rfl rfl rfl (fun _ _ _ => rfl) ?_
  refine z_aload_n (q := 412) (i := 0) (x := a0) dX13_init_411 rfl rfl rfl ?_
  refine z_bipush (q := 414) (v := 48) dX13_init_412 (by decide) rfl ?_
  refine z_newa 1 (q := 416) (N := 48) (rc2 := 3) (rs2 := 64) (z_lt rfl) (z_lt rfl) rfl q295 (by decide) rfl (z_le rfl) dX13_init_414 rfl rfl rfl ?_
  refine z_putP_F 11 46 (q := 419) (x := some (h.n + 28)) (v := .ref (h.n + 28)) rfl (z_lt rfl) (z_nT (by show a0 ≠ h.n + 28; omega) (z_nT (by show a0 ≠ h.n + 27; omega) (z_nT (by show a0 ≠ h.n + 26; omega) (z_nT (by show a0 ≠ h.n + 25; omega) (z_nT (by show a0 ≠ h.n + 24; omega) (z_nT (by show a0 ≠ h.n + 23; omega) (z_nT (by show a0 ≠ h.n + 22; omega) (z_nT (by show a0 ≠ h.n + 21; omega) (z_nT (by show a0 ≠ h.n + 20; omega) (z_nT (by show a0 ≠ h.n + 19; omega) (z_nT (by show a0 ≠ h.n + 18; omega) (z_nT (by show a0 ≠ h.n + 17; omega) (z_nT (by show a0 ≠ h.n + 16; omega) (z_nT (by show a0 ≠ h.n + 15; omega) (z_nT (by show a0 ≠ h.n + 14; omega) (z_nT (by show a0 ≠ h.n + 13; omega) (z_nT (by show a0 ≠ h.n + 12; omega) (z_nT (by show a0 ≠ h.n + 11; omega) (z_nT (by show a0 ≠ h.n + 10; omega) (z_nT (by show a0 ≠ h.n + 9; omega) (z_nT (by show a0 ≠ h.n + 8; omega) (z_nT (by show a0 ≠ h.n + 7; omega) (z_nT (by show a0 ≠ h.n + 6; omega) (z_nT (by show a0 ≠ h.n + 5; omega) (z_nT (by show a0 ≠ h.n + 4; omega) (z_nT (by show a0 ≠ h.n + 3; omega) (z_nT (by show a0 ≠ h.n + 2; omega) (z_nT (by show a0 ≠ h.n + 1; omega) g_1)))))))))))))))))))))))))))) q1804 rfl rfl rfl dX13_init_416 rfl rfl rfl rfl (fun _ _ _ => rfl) ?_
  refine z_aload_n (q := 420) (i := 0) (x := a0) dX13_init_419 rfl rfl rfl ?_
  refine z_bipush (q := 422) (v := 48) dX13_init_420 (by decide) rfl ?_
  refine z_newa 1 (q := 424) (N := 48) (rc2 := 2) (rs2 := 16) (z_lt rfl) (z_lt rfl) rfl q295 (by decide) rfl (z_le rfl) dX13_init_422 rfl rfl rfl ?_
  refine z_putP_F 11 47 (q := 427) (x := some (h.n + 29)) (v := .ref (h.n + 29)) rfl (z_lt rfl) (z_nT (by show a0 ≠ h.n + 29; omega) (z_nT (by show a0 ≠ h.n + 28; omega) (z_nT (by show a0 ≠ h.n + 27; omega) (z_nT (by show a0 ≠ h.n + 26; omega) (z_nT (by show a0 ≠ h.n + 25; omega) (z_nT (by show a0 ≠ h.n + 24; omega) (z_nT (by show a0 ≠ h.n + 23; omega) (z_nT (by show a0 ≠ h.n + 22; omega) (z_nT (by show a0 ≠ h.n + 21; omega) (z_nT (by show a0 ≠ h.n + 20; omega) (z_nT (by show a0 ≠ h.n + 19; omega) (z_nT (by show a0 ≠ h.n + 18; omega) (z_nT (by show a0 ≠ h.n + 17; omega) (z_nT (by show a0 ≠ h.n + 16; omega) (z_nT (by show a0 ≠ h.n + 15; omega) (z_nT (by show a0 ≠ h.n + 14; omega) (z_nT (by show a0 ≠ h.n + 13; omega) (z_nT (by show a0 ≠ h.n + 12; omega) (z_nT (by show a0 ≠ h.n + 11; omega) (z_nT (by show a0 ≠ h.n + 10; omega) (z_nT (by show a0 ≠ h.n + 9; omega) (z_nT (by show a0 ≠ h.n + 8; omega) (z_nT (by show a0 ≠ h.n + 7; omega) (z_nT (by show a0 ≠ h.n + 6; omega) (z_nT (by show a0 ≠ h.n + 5; omega) (z_nT (by show a0 ≠ h.n + 4; omega) (z_nT (by show a0 ≠ h.n + 3; omega) (z_nT (by show a0 ≠ h.n + 2; omega) (z_nT (by show a0 ≠ h.n + 1; omega) g_1))))))))))))))))))))))))))))) q1805 rfl rfl rfl dX13_init_424 rfl rfl rfl rfl (fun _ _ _ => rfl) ?_
  refine z_aload_n (q := 428) (i := 0) (x := a0) dX13_init_427 rfl rfl rfl ?_
  refine z_bipush (q := 430) (v := 8) dX13_init_428 (by decide) rfl ?_
  refine z_newa 1 (q := 432) (N := 8) (rc2 := 1) (rs2 := 8) (z_lt rfl) (z_lt rfl) rfl q295 (by decide) rfl (z_le rfl) dX13_init_430 rfl rfl rfl ?_
  refine z_putP_F 11 52 (q := 435) (x := some (h.n + 30)) (v := .ref (h.n + 30)) rfl (z_lt rfl) (z_nT (by show a0 ≠ h.n + 30; omega) (z_nT (by show a0 ≠ h.n + 29; omega) (z_nT (by show a0 ≠ h.n + 28; omega) (z_nT (by show a0 ≠ h.n + 27; omega) (z_nT (by show a0 ≠ h.n + 26; omega) (z_nT (by show a0 ≠ h.n + 25; omega) (z_nT (by show a0 ≠ h.n + 24; omega) (z_nT (by show a0 ≠ h.n + 23; omega) (z_nT (by show a0 ≠ h.n + 22; omega) (z_nT (by show a0 ≠ h.n + 21; omega) (z_nT (by show a0 ≠ h.n + 20; omega) (z_nT (by show a0 ≠ h.n + 19; omega) (z_nT (by show a0 ≠ h.n + 18; omega) (z_nT (by show a0 ≠ h.n + 17; omega) (z_nT (by show a0 ≠ h.n + 16; omega) (z_nT (by show a0 ≠ h.n + 15; omega) (z_nT (by show a0 ≠ h.n + 14; omega) (z_nT (by show a0 ≠ h.n + 13; omega) (z_nT (by show a0 ≠ h.n + 12; omega) (z_nT (by show a0 ≠ h.n + 11; omega) (z_nT (by show a0 ≠ h.n + 10; omega) (z_nT (by show a0 ≠ h.n + 9; omega) (z_nT (by show a0 ≠ h.n + 8; omega) (z_nT (by show a0 ≠ h.n + 7; omega) (z_nT (by show a0 ≠ h.n + 6; omega) (z_nT (by show a0 ≠ h.n + 5; omega) (z_nT (by show a0 ≠ h.n + 4; omega) (z_nT (by show a0 ≠ h.n + 3; omega) (z_nT (by show a0 ≠ h.n + 2; omega) (z_nT (by show a0 ≠ h.n + 1; omega) g_1)))))))))))))))))))))))))))))) q1810 rfl rfl rfl dX13_init_432 rfl rfl rfl rfl (fun _ _ _ => rfl) ?_
  refine z_aload_n (q := 436) (i := 0) (x := a0) dX13_init_435 rfl rfl rfl ?_
  refine z_bipush (q := 438) (v := 8) dX13_init_436 (by decide) rfl ?_
  refine z_newa 1 (q := 440) (N := 8) (rc2 := 0) (rs2 := 0) (z_lt rfl) (z_lt rfl) rfl q295 (by decide) rfl (z_le rfl) dX13_init_438 rfl rfl rfl ?_
  refine z_putP_F 11 53 (q := 443) (x := some (h.n + 31)) (v := .ref (h.n + 31)) rfl (z_lt rfl) (z_nT (by show a0 ≠ h.n + 31; omega) (z_nT (by show a0 ≠ h.n + 30; omega) (z_nT (by show a0 ≠ h.n + 29; omega) (z_nT (by show a0 ≠ h.n + 28; omega) (z_nT (by show a0 ≠ h.n + 27; omega) (z_nT (by show a0 ≠ h.n + 26; omega) (z_nT (by show a0 ≠ h.n + 25; omega) (z_nT (by show a0 ≠ h.n + 24; omega) (z_nT (by show a0 ≠ h.n + 23; omega) (z_nT (by show a0 ≠ h.n + 22; omega) (z_nT (by show a0 ≠ h.n + 21; omega) (z_nT (by show a0 ≠ h.n + 20; omega) (z_nT (by show a0 ≠ h.n + 19; omega) (z_nT (by show a0 ≠ h.n + 18; omega) (z_nT (by show a0 ≠ h.n + 17; omega) (z_nT (by show a0 ≠ h.n + 16; omega) (z_nT (by show a0 ≠ h.n + 15; omega) (z_nT (by show a0 ≠ h.n + 14; omega) (z_nT (by show a0 ≠ h.n + 13; omega) (z_nT (by show a0 ≠ h.n + 12; omega) (z_nT (by show a0 ≠ h.n + 11; omega) (z_nT (by show a0 ≠ h.n + 10; omega) (z_nT (by show a0 ≠ h.n + 9; omega) (z_nT (by show a0 ≠ h.n + 8; omega) (z_nT (by show a0 ≠ h.n + 7; omega) (z_nT (by show a0 ≠ h.n + 6; omega) (z_nT (by show a0 ≠ h.n + 5; omega) (z_nT (by show a0 ≠ h.n + 4; omega) (z_nT (by show a0 ≠ h.n + 3; omega) (z_nT (by show a0 ≠ h.n + 2; omega) (z_nT (by show a0 ≠ h.n + 1; omega) g_1))))))))))))))))))))))))))))))) q1811 rfl rfl rfl dX13_init_440 rfl rfl rfl rfl (fun _ _ _ => rfl) ?_
  refine z_aload_n (q := 444) (i := 0) (x := a0) dX13_init_443 rfl rfl rfl ?_
  refine z_iconst (q := 445) (v := 0) dX13_init_444 rfl rfl ?_
  refine z_cVv m_X13_standsAsAlways [.int 0] (a0) (q := 448) (rc2 := 0) (rs2 := 0) (st := []) dX13_init_445 rfl q1750 oV_X13_standsAsAlways rfl rfl ⟨z_le rfl, z_le rfl⟩ (z_le rfl) (z_rcv_of 11 rfl (z_nT (by show a0 ≠ h.n + 31; omega) (z_nT (by show a0 ≠ h.n + 30; omega) (z_nT (by show a0 ≠ h.n + 29; omega) (z_nT (by show a0 ≠ h.n + 28; omega) (z_nT (by show a0 ≠ h.n + 27; omega) (z_nT (by show a0 ≠ h.n + 26; omega) (z_nT (by show a0 ≠ h.n + 25; omega) (z_nT (by show a0 ≠ h.n + 24; omega) (z_nT (by show a0 ≠ h.n + 23; omega) (z_nT (by show a0 ≠ h.n + 22; omega) (z_nT (by show a0 ≠ h.n + 21; omega) (z_nT (by show a0 ≠ h.n + 20; omega) (z_nT (by show a0 ≠ h.n + 19; omega) (z_nT (by show a0 ≠ h.n + 18; omega) (z_nT (by show a0 ≠ h.n + 17; omega) (z_nT (by show a0 ≠ h.n + 16; omega) (z_nT (by show a0 ≠ h.n + 15; omega) (z_nT (by show a0 ≠ h.n + 14; omega) (z_nT (by show a0 ≠ h.n + 13; omega) (z_nT (by show a0 ≠ h.n + 12; omega) (z_nT (by show a0 ≠ h.n + 11; omega) (z_nT (by show a0 ≠ h.n + 10; omega) (z_nT (by show a0 ≠ h.n + 9; omega) (z_nT (by show a0 ≠ h.n + 8; omega) (z_nT (by show a0 ≠ h.n + 7; omega) (z_nT (by show a0 ≠ h.n + 6; omega) (z_nT (by show a0 ≠ h.n + 5; omega) (z_nT (by show a0 ≠ h.n + 4; omega) (z_nT (by show a0 ≠ h.n + 3; omega) (z_nT (by show a0 ≠ h.n + 2; omega) (z_nT (by show a0 ≠ h.n + 1; omega) g_1))))))))))))))))))))))))))))))) rfl) rfl  rfl hf (fun h_26 hf => ?_)
  refine z_aload_n (q := 449) (i := 0) (x := a0) dX13_init_448 rfl rfl rfl ?_
  refine z_iconst (q := 450) (v := 0) dX13_init_449 rfl rfl ?_
  obtain ⟨g_27, hf⟩ := hf
  refine z_cVv m_X13_begins [.int 0] (a0) (q := 453) (rc2 := 0) (rs2 := 0) (st := []) dX13_init_450 rfl q1754 oV_X13_begins rfl rfl ⟨z_le rfl, z_le rfl⟩ (z_le rfl) (z_rcv_of 11 rfl g_27 rfl) rfl  rfl hf (fun h_28 hf => ?_)
  exact z_vret dX13_init_453 rfl hf

