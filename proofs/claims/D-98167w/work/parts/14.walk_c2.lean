set_option maxRecDepth 100000
set_option maxHeartbeats 4000000
theorem u_X13_lay {l : Launch} {G : z_G} {a0 : Nat} {y1 : Int64} {h : z_H} {Q : z_Q} (hst : l.stackTraces = false)  (hf : z_V l G m_X13_lay (z_Fm G m_X13_lay Q) 0 0 h 3 [some (.ref a0), some (.long y1), none, some (.int 56), none] []) : z_Ct l G m_X13_lay [.ref a0, .long y1] h Q := by
  refine z_Ct.of (ls := [some (.ref a0), some (.long y1), none, none, none]) hst rfl (by show plainName yX13_lay.cls = true; decide +kernel) (z_le rfl) rfl ?_
  show z_V l G m_X13_lay (z_Fm G m_X13_lay Q) 0 0 h 0 [some (.ref a0), some (.long y1), none, none, none] []
  refine z_bipush (q := 2) (v := 56) dX13_lay_0 (by decide) rfl ?_
  refine z_istore_n (q := 3) (i := 3) (ls2 := [some (.ref a0), some (.long y1), none, some (.int 56), none]) (x := 56) dX13_lay_2 rfl (z_lt rfl) rfl rfl ?_
  exact hf

theorem b_X13_lay_3 {l : Launch} {G : z_G} {a0 : Nat} {y1 : Int64} {x3 : Int32} {h : z_H} {Q : z_Q}  (hf : (x3 < 0 → Q none h) ∧ (¬ x3 < 0 → ∀ v_1 : Int32, v_1 = ((Int64.toInt32 (y1 >>> (Int32.toInt64 x3 &&& 63))) &&& 255) → (v_1 = 10 → z_L11 h a0 ∧ (1000 ≤ (h.I a0 2) → z_V l G m_X13_lay (z_Fm G m_X13_lay Q) 0 0 h 3 [some (.ref a0), some (.long y1), none, some (.int (x3 + (-8))), none] []) ∧ (¬ 1000 ≤ (h.I a0 2) → vp_in (h.I a0 2) 1000 ∧ z_V l G m_X13_lay (z_Fm G m_X13_lay Q) 0 0 ((h.sI (a0 + 1) (Int32.toNatClampNeg (h.I a0 2)) v_1).sI a0 2 ((h.I a0 2) + 1)) 3 [some (.ref a0), some (.long y1), none, some (.int (x3 + (-8))), none] [])) ∧ (¬ v_1 = 10 → (v_1 < 32 → z_V l G m_X13_lay (z_Fm G m_X13_lay Q) 0 0 h 3 [some (.ref a0), some (.long y1), none, some (.int (x3 + (-8))), none] []) ∧ (¬ v_1 < 32 → (126 < v_1 → z_V l G m_X13_lay (z_Fm G m_X13_lay Q) 0 0 h 3 [some (.ref a0), some (.long y1), none, some (.int (x3 + (-8))), none] []) ∧ (¬ 126 < v_1 → z_L11 h a0 ∧ (1000 ≤ (h.I a0 2) → z_V l G m_X13_lay (z_Fm G m_X13_lay Q) 0 0 h 3 [some (.ref a0), some (.long y1), none, some (.int (x3 + (-8))), none] []) ∧ (¬ 1000 ≤ (h.I a0 2) → vp_in (h.I a0 2) 1000 ∧ z_V l G m_X13_lay (z_Fm G m_X13_lay Q) 0 0 ((h.sI (a0 + 1) (Int32.toNatClampNeg (h.I a0 2)) v_1).sI a0 2 ((h.I a0 2) + 1)) 3 [some (.ref a0), some (.long y1), none, some (.int (x3 + (-8))), none] [])))))) : z_V l G m_X13_lay (z_Fm G m_X13_lay Q) 0 0 h 3 [some (.ref a0), some (.long y1), none, some (.int x3), none] [] := by
  refine z_iload_n (q := 4) (i := 3) (x := x3) dX13_lay_3 rfl rfl rfl ?_
  refine z_if_lt (q := 7) (tgt := 75) dX13_lay_4 rfl rfl (fun hc => ?_) (fun hc => ?_)
  · have hf := hf.1 hc
    exact z_vret dX13_lay_75 rfl hf
  · have hf := hf.2 hc
    refine z_lload_n (q := 8) (i := 1) (x := y1) dX13_lay_7 rfl rfl rfl ?_
    refine z_iload_n (q := 9) (i := 3) (x := x3) dX13_lay_8 rfl rfl rfl ?_
    refine z_lshr (q := 10) dX13_lay_9 rfl ?_
    refine z_l2i (q := 11) dX13_lay_10 rfl ?_
    refine z_sipush (q := 14) (v := 255) dX13_lay_11 (by decide) rfl ?_
    refine z_iand (q := 15) dX13_lay_14 rfl ?_
    refine z_nmI (fun v_1 hv_2 => ?_)
    have hf := hf v_1 hv_2
    refine z_istore (q := 17) (i := 4) (ls2 := [some (.ref a0), some (.long y1), none, some (.int x3), some (.int v_1)]) (x := v_1) dX13_lay_15 (z_lt rfl) rfl rfl ?_
    refine z_iload (q := 19) (i := 4) (x := v_1) dX13_lay_17 rfl rfl ?_
    refine z_bipush (q := 21) (v := 10) dX13_lay_19 (by decide) rfl ?_
    refine z_icmp_eq (q := 24) (tgt := 38) dX13_lay_21 rfl rfl (fun hc => ?_) (fun hc => ?_)
    · have hf := hf.1 hc
      refine z_aload_n (q := 39) (i := 0) (x := a0) dX13_lay_38 rfl rfl rfl ?_
      obtain ⟨g_4, hf⟩ := hf
      refine z_get 11 2 (q := 42) (v := .int (h.I a0 2)) rfl (z_lt rfl) (z_L11_T g_4) q1760 dX13_lay_39 rfl rfl ?_
      refine z_sipush (q := 45) (v := 1000) dX13_lay_42 (by decide) rfl ?_
      refine z_icmp_ge (q := 48) (tgt := 69) dX13_lay_45 rfl rfl (fun hc => ?_) (fun hc => ?_)
      · have hf := hf.1 hc
        refine z_iinc (q := 72) (i := 3) (x := x3) (v := (x3 + (-8))) (ls2 := [some (.ref a0), some (.long y1), none, some (.int (x3 + (-8))), some (.int v_1)]) dX13_lay_69 rfl rfl (z_lt rfl) rfl rfl ?_
        refine z_goto (q := 3) dX13_lay_72 rfl ?_
        refine z_prune [true, true, false, true, false] (ls2 := [some (.ref a0), some (.long y1), none, some (.int (x3 + (-8))), none]) rfl ?_
        exact hf
      · have hf := hf.2 hc
        refine z_aload_n (q := 49) (i := 0) (x := a0) dX13_lay_48 rfl rfl rfl ?_
        refine z_get 11 1 (q := 52) (v := .ref (a0 + 1)) rfl (z_lt rfl) (z_L11_T g_4) q1759 dX13_lay_49 rfl (z_fvR (fun _ _ _ => rfl) (z_L11_P1 g_4)) ?_
        refine z_aload_n (q := 53) (i := 0) (x := a0) dX13_lay_52 rfl rfl rfl ?_
        refine z_get 11 2 (q := 56) (v := .int (h.I a0 2)) rfl (z_lt rfl) (z_L11_T g_4) q1760 dX13_lay_53 rfl rfl ?_
        refine z_iload (q := 58) (i := 4) (x := v_1) dX13_lay_56 rfl rfl ?_
        obtain ⟨g_5, hf⟩ := hf
        refine z_iast (q := 59) (n := 1000) (z_L11_A1 g_4) g_5 dX13_lay_58 rfl ?_
        refine z_aload_n (q := 60) (i := 0) (x := a0) dX13_lay_59 rfl rfl rfl ?_
        refine z_dup (q := 61) dX13_lay_60 rfl rfl ?_
        refine z_get 11 2 (q := 64) (v := .int (h.I a0 2)) rfl (z_lt rfl) (z_L11_T g_4) q1760 dX13_lay_61 rfl (congrArg Value.int (z_rIa (by omega))) ?_
        refine z_iconst (q := 65) (v := 1) dX13_lay_64 rfl rfl ?_
        refine z_iadd (q := 66) dX13_lay_65 rfl ?_
        refine z_putI 11 2 (q := 69) (x := ((h.I a0 2) + 1)) (v := .int ((h.I a0 2) + 1)) rfl (z_lt rfl) (z_L11_T g_4) q1760 rfl dX13_lay_66 rfl rfl rfl rfl (fun _ _ _ => rfl) ?_
        refine z_iinc (q := 72) (i := 3) (x := x3) (v := (x3 + (-8))) (ls2 := [some (.ref a0), some (.long y1), none, some (.int (x3 + (-8))), some (.int v_1)]) dX13_lay_69 rfl rfl (z_lt rfl) rfl rfl ?_
        refine z_goto (q := 3) dX13_lay_72 rfl ?_
        refine z_prune [true, true, false, true, false] (ls2 := [some (.ref a0), some (.long y1), none, some (.int (x3 + (-8))), none]) rfl ?_
        exact hf
    · have hf := hf.2 hc
      refine z_iload (q := 26) (i := 4) (x := v_1) dX13_lay_24 rfl rfl ?_
      refine z_bipush (q := 28) (v := 32) dX13_lay_26 (by decide) rfl ?_
      refine z_icmp_lt (q := 31) (tgt := 69) dX13_lay_28 rfl rfl (fun hc => ?_) (fun hc => ?_)
      · have hf := hf.1 hc
        refine z_iinc (q := 72) (i := 3) (x := x3) (v := (x3 + (-8))) (ls2 := [some (.ref a0), some (.long y1), none, some (.int (x3 + (-8))), some (.int v_1)]) dX13_lay_69 rfl rfl (z_lt rfl) rfl rfl ?_
        refine z_goto (q := 3) dX13_lay_72 rfl ?_
        refine z_prune [true, true, false, true, false] (ls2 := [some (.ref a0), some (.long y1), none, some (.int (x3 + (-8))), none]) rfl ?_
        exact hf
      · have hf := hf.2 hc
        refine z_iload (q := 33) (i := 4) (x := v_1) dX13_lay_31 rfl rfl ?_
        refine z_bipush (q := 35) (v := 126) dX13_lay_33 (by decide) rfl ?_
        refine z_icmp_gt (q := 38) (tgt := 69) dX13_lay_35 rfl rfl (fun hc => ?_) (fun hc => ?_)
        · have hf := hf.1 hc
          refine z_iinc (q := 72) (i := 3) (x := x3) (v := (x3 + (-8))) (ls2 := [some (.ref a0), some (.long y1), none, some (.int (x3 + (-8))), some (.int v_1)]) dX13_lay_69 rfl rfl (z_lt rfl) rfl rfl ?_
          refine z_goto (q := 3) dX13_lay_72 rfl ?_
          refine z_prune [true, true, false, true, false] (ls2 := [some (.ref a0), some (.long y1), none, some (.int (x3 + (-8))), none]) rfl ?_
          exact hf
        · have hf := hf.2 hc
          refine z_aload_n (q := 39) (i := 0) (x := a0) dX13_lay_38 rfl rfl rfl ?_
          obtain ⟨g_6, hf⟩ := hf
          refine z_get 11 2 (q := 42) (v := .int (h.I a0 2)) rfl (z_lt rfl) (z_L11_T g_6) q1760 dX13_lay_39 rfl rfl ?_
          refine z_sipush (q := 45) (v := 1000) dX13_lay_42 (by decide) rfl ?_
          refine z_icmp_ge (q := 48) (tgt := 69) dX13_lay_45 rfl rfl (fun hc => ?_) (fun hc => ?_)
          · have hf := hf.1 hc
            refine z_iinc (q := 72) (i := 3) (x := x3) (v := (x3 + (-8))) (ls2 := [some (.ref a0), some (.long y1), none, some (.int (x3 + (-8))), some (.int v_1)]) dX13_lay_69 rfl rfl (z_lt rfl) rfl rfl ?_
            refine z_goto (q := 3) dX13_lay_72 rfl ?_
            refine z_prune [true, true, false, true, false] (ls2 := [some (.ref a0), some (.long y1), none, some (.int (x3 + (-8))), none]) rfl ?_
            exact hf
          · have hf := hf.2 hc
            refine z_aload_n (q := 49) (i := 0) (x := a0) dX13_lay_48 rfl rfl rfl ?_
            refine z_get 11 1 (q := 52) (v := .ref (a0 + 1)) rfl (z_lt rfl) (z_L11_T g_6) q1759 dX13_lay_49 rfl (z_fvR (fun _ _ _ => rfl) (z_L11_P1 g_6)) ?_
            refine z_aload_n (q := 53) (i := 0) (x := a0) dX13_lay_52 rfl rfl rfl ?_
            refine z_get 11 2 (q := 56) (v := .int (h.I a0 2)) rfl (z_lt rfl) (z_L11_T g_6) q1760 dX13_lay_53 rfl rfl ?_
            refine z_iload (q := 58) (i := 4) (x := v_1) dX13_lay_56 rfl rfl ?_
            obtain ⟨g_7, hf⟩ := hf
            refine z_iast (q := 59) (n := 1000) (z_L11_A1 g_6) g_7 dX13_lay_58 rfl ?_
            refine z_aload_n (q := 60) (i := 0) (x := a0) dX13_lay_59 rfl rfl rfl ?_
            refine z_dup (q := 61) dX13_lay_60 rfl rfl ?_
            refine z_get 11 2 (q := 64) (v := .int (h.I a0 2)) rfl (z_lt rfl) (z_L11_T g_6) q1760 dX13_lay_61 rfl (congrArg Value.int (z_rIa (by omega))) ?_
            refine z_iconst (q := 65) (v := 1) dX13_lay_64 rfl rfl ?_
            refine z_iadd (q := 66) dX13_lay_65 rfl ?_
            refine z_putI 11 2 (q := 69) (x := ((h.I a0 2) + 1)) (v := .int ((h.I a0 2) + 1)) rfl (z_lt rfl) (z_L11_T g_6) q1760 rfl dX13_lay_66 rfl rfl rfl rfl (fun _ _ _ => rfl) ?_
            refine z_iinc (q := 72) (i := 3) (x := x3) (v := (x3 + (-8))) (ls2 := [some (.ref a0), some (.long y1), none, some (.int (x3 + (-8))), some (.int v_1)]) dX13_lay_69 rfl rfl (z_lt rfl) rfl rfl ?_
            refine z_goto (q := 3) dX13_lay_72 rfl ?_
            refine z_prune [true, true, false, true, false] (ls2 := [some (.ref a0), some (.long y1), none, some (.int (x3 + (-8))), none]) rfl ?_
            exact hf

theorem u_X13_lays {l : Launch} {G : z_G} {a0 : Nat} {x1 : Int32} {x2 : Int32} {x3 : Int32} {h : z_H} {Q : z_Q} (hst : l.stackTraces = false)  (hf : (x3 = 0 → z_V l G m_X13_lays (z_Fm G m_X13_lays Q) 0 0 h 15 [some (.ref a0), some (.int x1), some (.int x2), some (.int x3), none, some (.int 0), none] []) ∧ (¬ x3 = 0 → (x3 = 1 → z_V l G m_X13_lays (z_Fm G m_X13_lays Q) 0 0 h 15 [some (.ref a0), some (.int x1), some (.int x2), some (.int x3), none, some (.int 0), none] []) ∧ (¬ x3 = 1 → (x3 = 4 → z_V l G m_X13_lays (z_Fm G m_X13_lays Q) 0 0 h 75 [some (.ref a0), some (.int x1), some (.int x2), none, none, some (.int ((x2 + 1) / 2)), some (.int 0)] []) ∧ (¬ x3 = 4 → z_V l G m_X13_lays (z_Fm G m_X13_lays Q) 0 0 h 132 [some (.ref a0), some (.int x1), some (.int x2), some (.int x3), some (.int 0), some (.int 6), none] [])))) : z_Ct l G m_X13_lays [.ref a0, .int x1, .int x2, .int x3] h Q := by
  refine z_Ct.of (ls := [some (.ref a0), some (.int x1), some (.int x2), some (.int x3), none, none, none]) hst rfl (by show plainName yX13_lays.cls = true; decide +kernel) (z_le rfl) rfl ?_
  show z_V l G m_X13_lays (z_Fm G m_X13_lays Q) 0 0 h 0 [some (.ref a0), some (.int x1), some (.int x2), some (.int x3), none, none, none] []
  refine z_iconst (q := 1) (v := 0) dX13_lays_0 rfl rfl ?_
  refine z_istore (q := 3) (i := 4) (ls2 := [some (.ref a0), some (.int x1), some (.int x2), some (.int x3), some (.int 0), none, none]) (x := 0) dX13_lays_1 (z_lt rfl) rfl rfl ?_
  refine z_iload_n (q := 4) (i := 3) (x := x3) dX13_lays_3 rfl rfl rfl ?_
  refine z_if_eq (q := 7) (tgt := 12) dX13_lays_4 rfl rfl (fun hc => ?_) (fun hc => ?_)
  · have hf := hf.1 hc
    refine z_iconst (q := 13) (v := 0) dX13_lays_12 rfl rfl ?_
    refine z_istore (q := 15) (i := 5) (ls2 := [some (.ref a0), some (.int x1), some (.int x2), some (.int x3), some (.int 0), some (.int 0), none]) (x := 0) dX13_lays_13 (z_lt rfl) rfl rfl ?_
    refine z_prune [true, true, true, true, false, true, false] (ls2 := [some (.ref a0), some (.int x1), some (.int x2), some (.int x3), none, some (.int 0), none]) rfl ?_
    exact hf
  · have hf := hf.2 hc
    refine z_iload_n (q := 8) (i := 3) (x := x3) dX13_lays_7 rfl rfl rfl ?_
    refine z_iconst (q := 9) (v := 1) dX13_lays_8 rfl rfl ?_
    refine z_icmp_ne (q := 12) (tgt := 60) dX13_lays_9 rfl rfl (fun hc => ?_) (fun hc => ?_)
    · have hf := hf.2 hc
      refine z_iload_n (q := 61) (i := 3) (x := x3) dX13_lays_60 rfl rfl rfl ?_
      refine z_iconst (q := 62) (v := 4) dX13_lays_61 rfl rfl ?_
      refine z_icmp_ne (q := 65) (tgt := 128) dX13_lays_62 rfl rfl (fun hc => ?_) (fun hc => ?_)
      · have hf := hf.2 hc
        refine z_bipush (q := 130) (v := 6) dX13_lays_128 (by decide) rfl ?_
        refine z_istore (q := 132) (i := 5) (ls2 := [some (.ref a0), some (.int x1), some (.int x2), some (.int x3), some (.int 0), some (.int 6), none]) (x := 6) dX13_lays_130 (z_lt rfl) rfl rfl ?_
        exact hf
      · have hf := hf.1 hc
        refine z_iload_n (q := 66) (i := 2) (x := x2) dX13_lays_65 rfl rfl rfl ?_
        refine z_iconst (q := 67) (v := 1) dX13_lays_66 rfl rfl ?_
        refine z_iadd (q := 68) dX13_lays_67 rfl ?_
        refine z_iconst (q := 69) (v := 2) dX13_lays_68 rfl rfl ?_
        refine z_idiv (q := 70) dX13_lays_69 (by decide) rfl ?_
        refine z_istore (q := 72) (i := 5) (ls2 := [some (.ref a0), some (.int x1), some (.int x2), some (.int x3), some (.int 0), some (.int ((x2 + 1) / 2)), none]) (x := ((x2 + 1) / 2)) dX13_lays_70 (z_lt rfl) rfl rfl ?_
        refine z_iconst (q := 73) (v := 0) dX13_lays_72 rfl rfl ?_
        refine z_istore (q := 75) (i := 6) (ls2 := [some (.ref a0), some (.int x1), some (.int x2), some (.int x3), some (.int 0), some (.int ((x2 + 1) / 2)), some (.int 0)]) (x := 0) dX13_lays_73 (z_lt rfl) rfl rfl ?_
        refine z_prune [true, true, true, false, false, true, true] (ls2 := [some (.ref a0), some (.int x1), some (.int x2), none, none, some (.int ((x2 + 1) / 2)), some (.int 0)]) rfl ?_
        exact hf
    · have hf := hf.1 hc
      refine z_iconst (q := 13) (v := 0) dX13_lays_12 rfl rfl ?_
      refine z_istore (q := 15) (i := 5) (ls2 := [some (.ref a0), some (.int x1), some (.int x2), some (.int x3), some (.int 0), some (.int 0), none]) (x := 0) dX13_lays_13 (z_lt rfl) rfl rfl ?_
      refine z_prune [true, true, true, true, false, true, false] (ls2 := [some (.ref a0), some (.int x1), some (.int x2), some (.int x3), none, some (.int 0), none]) rfl ?_
      exact hf

theorem b_X13_lays_15 {l : Launch} {G : z_G} {a0 : Nat} {x1 : Int32} {x2 : Int32} {x3 : Int32} {x5 : Int32} {h : z_H} {Q : z_Q}  (hf : (x2 ≤ x5 → Q none h) ∧ (¬ x2 ≤ x5 → z_L11 h a0 ∧ vp_in (x1 + (if x3 = 1 then ((x2 - 1) - x5) else x5)) 16560 ∧ vp_in x5 48 ∧ z_V l G m_X13_lays (z_Fm G m_X13_lays Q) 0 0 (h.sI (a0 + 18) (Int32.toNatClampNeg x5) (h.I (a0 + 16) (Int32.toNatClampNeg (x1 + (if x3 = 1 then ((x2 - 1) - x5) else x5))))) 15 [some (.ref a0), some (.int x1), some (.int x2), some (.int x3), none, some (.int (x5 + 1)), none] [])) : z_V l G m_X13_lays (z_Fm G m_X13_lays Q) 0 0 h 15 [some (.ref a0), some (.int x1), some (.int x2), some (.int x3), none, some (.int x5), none] [] := by
  refine z_iload (q := 17) (i := 5) (x := x5) dX13_lays_15 rfl rfl ?_
  refine z_iload_n (q := 18) (i := 2) (x := x2) dX13_lays_17 rfl rfl rfl ?_
  refine z_icmp_ge (q := 21) (tgt := 57) dX13_lays_18 rfl rfl (fun hc => ?_) (fun hc => ?_)
  · have hf := hf.1 hc
    refine z_goto (q := 191) dX13_lays_57 rfl ?_
    exact z_vret dX13_lays_191 rfl hf
  · have hf := hf.2 hc
    refine z_aload_n (q := 22) (i := 0) (x := a0) dX13_lays_21 rfl rfl rfl ?_
    obtain ⟨g_1, hf⟩ := hf
    refine z_get 11 27 (q := 25) (v := .ref (a0 + 18)) rfl (z_lt rfl) (z_L11_T g_1) q1785 dX13_lays_22 rfl (z_fvR (fun _ _ _ => rfl) (z_L11_P27 g_1)) ?_
    refine z_iload (q := 27) (i := 5) (x := x5) dX13_lays_25 rfl rfl ?_
    refine z_aload_n (q := 28) (i := 0) (x := a0) dX13_lays_27 rfl rfl rfl ?_
    refine z_get 11 22 (q := 31) (v := .ref (a0 + 16)) rfl (z_lt rfl) (z_L11_T g_1) q1780 dX13_lays_28 rfl (z_fvR (fun _ _ _ => rfl) (z_L11_P22 g_1)) ?_
    refine z_iload_n (q := 32) (i := 1) (x := x1) dX13_lays_31 rfl rfl rfl ?_
    refine z_iload_n (q := 33) (i := 3) (x := x3) dX13_lays_32 rfl rfl rfl ?_
    refine z_iconst (q := 34) (v := 1) dX13_lays_33 rfl rfl ?_
    have hk : z_V l G m_X13_lays (z_Fm G m_X13_lays Q) 0 0 h 48 [some (.ref a0), some (.int x1), some (.int x2), some (.int x3), none, some (.int x5), none] [.int (if x3 = 1 then ((x2 - 1) - x5) else x5), .int x1, .ref (a0 + 16), .int x5, .ref (a0 + 18)] := by
      refine z_iadd (q := 49) dX13_lays_48 rfl ?_
      obtain ⟨g_2, hf⟩ := hf
      refine z_iald (q := 50) (n := 16560) (z_L11_A22 g_1) g_2 dX13_lays_49 rfl ?_
      obtain ⟨g_3, hf⟩ := hf
      refine z_iast (q := 51) (n := 48) (z_L11_A27 g_1) g_3 dX13_lays_50 rfl ?_
      refine z_iinc (q := 54) (i := 5) (x := x5) (v := (x5 + 1)) (ls2 := [some (.ref a0), some (.int x1), some (.int x2), some (.int x3), none, some (.int (x5 + 1)), none]) dX13_lays_51 rfl rfl (z_lt rfl) rfl rfl ?_
      refine z_goto (q := 15) dX13_lays_54 rfl ?_
      exact hf
    refine z_icmp_ne (q := 37) (tgt := 46) dX13_lays_34 rfl rfl (fun hc => ?_) (fun hc => ?_)
    · have hk := (z_ite hk).2 hc
      refine z_iload (q := 48) (i := 5) (x := x5) dX13_lays_46 rfl rfl ?_
      exact hk
    · have hk := (z_ite hk).1 hc
      refine z_iload_n (q := 38) (i := 2) (x := x2) dX13_lays_37 rfl rfl rfl ?_
      refine z_iconst (q := 39) (v := 1) dX13_lays_38 rfl rfl ?_
      refine z_isub (q := 40) dX13_lays_39 rfl ?_
      refine z_iload (q := 42) (i := 5) (x := x5) dX13_lays_40 rfl rfl ?_
      refine z_isub (q := 43) dX13_lays_42 rfl ?_
      refine z_goto (q := 48) dX13_lays_43 rfl ?_
      exact hk

theorem b_X13_lays_132 {l : Launch} {G : z_G} {a0 : Nat} {x1 : Int32} {x2 : Int32} {x3 : Int32} {x4 : Int32} {x5 : Int32} {h : z_H} {Q : z_Q}  (hf : (x5 < 0 → (x3 = 3 → z_L11 h a0 ∧ z_Ct l G m_X13_laysSuch [.ref a0, .int x1, .int x2, .int 0, .int 0, .int x4] h (z_Qi (fun x_2 h_3 => z_L11 h_3 a0 ∧ z_Ct l G m_X13_laysSuch [.ref a0, .int x1, .int x2, .int 1, .int 6, .int x_2] h_3 (z_Qi (fun x_5 h_6 => Q none h_6))))) ∧ (¬ x3 = 3 → Q none h)) ∧ (¬ x5 < 0 → (x3 = 2 → z_L11 h a0 ∧ z_Ct l G m_X13_laysSuch [.ref a0, .int x1, .int x2, .int x5, .int x5, .int x4] h (z_Qi (fun x_14 h_15 => z_V l G m_X13_lays (z_Fm G m_X13_lays Q) 0 0 h_15 132 [some (.ref a0), some (.int x1), some (.int x2), some (.int x3), some (.int x_14), some (.int (x5 + (-1))), none] []))) ∧ (¬ x3 = 2 → (x3 = 3 → z_L11 h a0 ∧ z_Ct l G m_X13_laysSuch [.ref a0, .int x1, .int x2, .int 0, .int 0, .int x4] h (z_Qi (fun x_8 h_9 => z_L11 h_9 a0 ∧ z_Ct l G m_X13_laysSuch [.ref a0, .int x1, .int x2, .int 1, .int 6, .int x_8] h_9 (z_Qi (fun x_11 h_12 => Q none h_12))))) ∧ (¬ x3 = 3 → Q none h)))) : z_V l G m_X13_lays (z_Fm G m_X13_lays Q) 0 0 h 132 [some (.ref a0), some (.int x1), some (.int x2), some (.int x3), some (.int x4), some (.int x5), none] [] := by
  refine z_iload (q := 134) (i := 5) (x := x5) dX13_lays_132 rfl rfl ?_
  refine z_if_lt (q := 137) (tgt := 162) dX13_lays_134 rfl rfl (fun hc => ?_) (fun hc => ?_)
  · have hf := hf.1 hc
    refine z_iload_n (q := 163) (i := 3) (x := x3) dX13_lays_162 rfl rfl rfl ?_
    refine z_iconst (q := 164) (v := 3) dX13_lays_163 rfl rfl ?_
    refine z_icmp_ne (q := 167) (tgt := 191) dX13_lays_164 rfl rfl (fun hc => ?_) (fun hc => ?_)
    · have hf := hf.2 hc
      exact z_vret dX13_lays_191 rfl hf
    · have hf := hf.1 hc
      refine z_aload_n (q := 168) (i := 0) (x := a0) dX13_lays_167 rfl rfl rfl ?_
      refine z_iload_n (q := 169) (i := 1) (x := x1) dX13_lays_168 rfl rfl rfl ?_
      refine z_iload_n (q := 170) (i := 2) (x := x2) dX13_lays_169 rfl rfl rfl ?_
      refine z_iconst (q := 171) (v := 0) dX13_lays_170 rfl rfl ?_
      refine z_iconst (q := 172) (v := 0) dX13_lays_171 rfl rfl ?_
      refine z_iload (q := 174) (i := 4) (x := x4) dX13_lays_172 rfl rfl ?_
      obtain ⟨g_1, hf⟩ := hf
      refine z_cVi m_X13_laysSuch [.int x1, .int x2, .int 0, .int 0, .int x4] (a0) (q := 177) (rc2 := 0) (rs2 := 0) (st := []) dX13_lays_174 rfl q2140 oV_X13_laysSuch rfl rfl ⟨z_le rfl, z_le rfl⟩ (z_le rfl) (z_rcv_of 11 rfl (z_L11_T g_1) rfl) rfl  rfl hf (fun x_2 h_3 hf => ?_)
      refine z_istore (q := 179) (i := 4) (ls2 := [some (.ref a0), some (.int x1), some (.int x2), some (.int x3), some (.int x_2), some (.int x5), none]) (x := x_2) dX13_lays_177 (z_lt rfl) rfl rfl ?_
      refine z_aload_n (q := 180) (i := 0) (x := a0) dX13_lays_179 rfl rfl rfl ?_
      refine z_iload_n (q := 181) (i := 1) (x := x1) dX13_lays_180 rfl rfl rfl ?_
      refine z_iload_n (q := 182) (i := 2) (x := x2) dX13_lays_181 rfl rfl rfl ?_
      refine z_iconst (q := 183) (v := 1) dX13_lays_182 rfl rfl ?_
      refine z_bipush (q := 185) (v := 6) dX13_lays_183 (by decide) rfl ?_
      refine z_iload (q := 187) (i := 4) (x := x_2) dX13_lays_185 rfl rfl ?_
      obtain ⟨g_4, hf⟩ := hf
      refine z_cVi m_X13_laysSuch [.int x1, .int x2, .int 1, .int 6, .int x_2] (a0) (q := 190) (rc2 := 0) (rs2 := 0) (st := []) dX13_lays_187 rfl q2140 oV_X13_laysSuch rfl rfl ⟨z_le rfl, z_le rfl⟩ (z_le rfl) (z_rcv_of 11 rfl (z_L11_T g_4) rfl) rfl  rfl hf (fun x_5 h_6 hf => ?_)
      refine z_pop (q := 191) dX13_lays_190 rfl rfl ?_
      exact z_vret dX13_lays_191 rfl hf
  · have hf := hf.2 hc
    refine z_iload_n (q := 138) (i := 3) (x := x3) dX13_lays_137 rfl rfl rfl ?_
    refine z_iconst (q := 139) (v := 2) dX13_lays_138 rfl rfl ?_
    refine z_icmp_ne (q := 142) (tgt := 162) dX13_lays_139 rfl rfl (fun hc => ?_) (fun hc => ?_)
    · have hf := hf.2 hc
      refine z_iload_n (q := 163) (i := 3) (x := x3) dX13_lays_162 rfl rfl rfl ?_
      refine z_iconst (q := 164) (v := 3) dX13_lays_163 rfl rfl ?_
      refine z_icmp_ne (q := 167) (tgt := 191) dX13_lays_164 rfl rfl (fun hc => ?_) (fun hc => ?_)
      · have hf := hf.2 hc
        exact z_vret dX13_lays_191 rfl hf
      · have hf := hf.1 hc
        refine z_aload_n (q := 168) (i := 0) (x := a0) dX13_lays_167 rfl rfl rfl ?_
        refine z_iload_n (q := 169) (i := 1) (x := x1) dX13_lays_168 rfl rfl rfl ?_
        refine z_iload_n (q := 170) (i := 2) (x := x2) dX13_lays_169 rfl rfl rfl ?_
        refine z_iconst (q := 171) (v := 0) dX13_lays_170 rfl rfl ?_
        refine z_iconst (q := 172) (v := 0) dX13_lays_171 rfl rfl ?_
        refine z_iload (q := 174) (i := 4) (x := x4) dX13_lays_172 rfl rfl ?_
        obtain ⟨g_7, hf⟩ := hf
        refine z_cVi m_X13_laysSuch [.int x1, .int x2, .int 0, .int 0, .int x4] (a0) (q := 177) (rc2 := 0) (rs2 := 0) (st := []) dX13_lays_174 rfl q2140 oV_X13_laysSuch rfl rfl ⟨z_le rfl, z_le rfl⟩ (z_le rfl) (z_rcv_of 11 rfl (z_L11_T g_7) rfl) rfl  rfl hf (fun x_8 h_9 hf => ?_)
        refine z_istore (q := 179) (i := 4) (ls2 := [some (.ref a0), some (.int x1), some (.int x2), some (.int x3), some (.int x_8), some (.int x5), none]) (x := x_8) dX13_lays_177 (z_lt rfl) rfl rfl ?_
        refine z_aload_n (q := 180) (i := 0) (x := a0) dX13_lays_179 rfl rfl rfl ?_
        refine z_iload_n (q := 181) (i := 1) (x := x1) dX13_lays_180 rfl rfl rfl ?_
        refine z_iload_n (q := 182) (i := 2) (x := x2) dX13_lays_181 rfl rfl rfl ?_
        refine z_iconst (q := 183) (v := 1) dX13_lays_182 rfl rfl ?_
        refine z_bipush (q := 185) (v := 6) dX13_lays_183 (by decide) rfl ?_
        refine z_iload (q := 187) (i := 4) (x := x_8) dX13_lays_185 rfl rfl ?_
        obtain ⟨g_10, hf⟩ := hf
        refine z_cVi m_X13_laysSuch [.int x1, .int x2, .int 1, .int 6, .int x_8] (a0) (q := 190) (rc2 := 0) (rs2 := 0) (st := []) dX13_lays_187 rfl q2140 oV_X13_laysSuch rfl rfl ⟨z_le rfl, z_le rfl⟩ (z_le rfl) (z_rcv_of 11 rfl (z_L11_T g_10) rfl) rfl  rfl hf (fun x_11 h_12 hf => ?_)
        refine z_pop (q := 191) dX13_lays_190 rfl rfl ?_
        exact z_vret dX13_lays_191 rfl hf
    · have hf := hf.1 hc
      refine z_aload_n (q := 143) (i := 0) (x := a0) dX13_lays_142 rfl rfl rfl ?_
      refine z_iload_n (q := 144) (i := 1) (x := x1) dX13_lays_143 rfl rfl rfl ?_
      refine z_iload_n (q := 145) (i := 2) (x := x2) dX13_lays_144 rfl rfl rfl ?_
      refine z_iload (q := 147) (i := 5) (x := x5) dX13_lays_145 rfl rfl ?_
      refine z_iload (q := 149) (i := 5) (x := x5) dX13_lays_147 rfl rfl ?_
      refine z_iload (q := 151) (i := 4) (x := x4) dX13_lays_149 rfl rfl ?_
      obtain ⟨g_13, hf⟩ := hf
      refine z_cVi m_X13_laysSuch [.int x1, .int x2, .int x5, .int x5, .int x4] (a0) (q := 154) (rc2 := 0) (rs2 := 0) (st := []) dX13_lays_151 rfl q2140 oV_X13_laysSuch rfl rfl ⟨z_le rfl, z_le rfl⟩ (z_le rfl) (z_rcv_of 11 rfl (z_L11_T g_13) rfl) rfl  rfl hf (fun x_14 h_15 hf => ?_)
      refine z_istore (q := 156) (i := 4) (ls2 := [some (.ref a0), some (.int x1), some (.int x2), some (.int x3), some (.int x_14), some (.int x5), none]) (x := x_14) dX13_lays_154 (z_lt rfl) rfl rfl ?_
      refine z_iinc (q := 159) (i := 5) (x := x5) (v := (x5 + (-1))) (ls2 := [some (.ref a0), some (.int x1), some (.int x2), some (.int x3), some (.int x_14), some (.int (x5 + (-1))), none]) dX13_lays_156 rfl rfl (z_lt rfl) rfl rfl ?_
      refine z_goto (q := 132) dX13_lays_159 rfl ?_
      exact hf

theorem b_X13_lays_75 {l : Launch} {G : z_G} {a0 : Nat} {x1 : Int32} {x2 : Int32} {x5 : Int32} {x6 : Int32} {h : z_H} {Q : z_Q}  (hf : (x2 ≤ x6 → Q none h) ∧ (¬ x2 ≤ x6 → z_L11 h a0 ∧ vp_in (x1 + (if (x2 - x5) ≤ x6 then (x6 - (x2 - x5)) else (x5 + x6))) 16560 ∧ vp_in x6 48 ∧ z_V l G m_X13_lays (z_Fm G m_X13_lays Q) 0 0 (h.sI (a0 + 18) (Int32.toNatClampNeg x6) (h.I (a0 + 16) (Int32.toNatClampNeg (x1 + (if (x2 - x5) ≤ x6 then (x6 - (x2 - x5)) else (x5 + x6)))))) 75 [some (.ref a0), some (.int x1), some (.int x2), none, none, some (.int x5), some (.int (x6 + 1))] [])) : z_V l G m_X13_lays (z_Fm G m_X13_lays Q) 0 0 h 75 [some (.ref a0), some (.int x1), some (.int x2), none, none, some (.int x5), some (.int x6)] [] := by
  refine z_iload (q := 77) (i := 6) (x := x6) dX13_lays_75 rfl rfl ?_
  refine z_iload_n (q := 78) (i := 2) (x := x2) dX13_lays_77 rfl rfl rfl ?_
  refine z_icmp_ge (q := 81) (tgt := 125) dX13_lays_78 rfl rfl (fun hc => ?_) (fun hc => ?_)
  · have hf := hf.1 hc
    refine z_goto (q := 191) dX13_lays_125 rfl ?_
    exact z_vret dX13_lays_191 rfl hf
  · have hf := hf.2 hc
    refine z_aload_n (q := 82) (i := 0) (x := a0) dX13_lays_81 rfl rfl rfl ?_
    obtain ⟨g_1, hf⟩ := hf
    refine z_get 11 27 (q := 85) (v := .ref (a0 + 18)) rfl (z_lt rfl) (z_L11_T g_1) q1785 dX13_lays_82 rfl (z_fvR (fun _ _ _ => rfl) (z_L11_P27 g_1)) ?_
    refine z_iload (q := 87) (i := 6) (x := x6) dX13_lays_85 rfl rfl ?_
    refine z_aload_n (q := 88) (i := 0) (x := a0) dX13_lays_87 rfl rfl rfl ?_
    refine z_get 11 22 (q := 91) (v := .ref (a0 + 16)) rfl (z_lt rfl) (z_L11_T g_1) q1780 dX13_lays_88 rfl (z_fvR (fun _ _ _ => rfl) (z_L11_P22 g_1)) ?_
    refine z_iload_n (q := 92) (i := 1) (x := x1) dX13_lays_91 rfl rfl rfl ?_
    refine z_iload (q := 94) (i := 6) (x := x6) dX13_lays_92 rfl rfl ?_
    refine z_iload_n (q := 95) (i := 2) (x := x2) dX13_lays_94 rfl rfl rfl ?_
    refine z_iload (q := 97) (i := 5) (x := x5) dX13_lays_95 rfl rfl ?_
    refine z_isub (q := 98) dX13_lays_97 rfl ?_
    have hk : z_V l G m_X13_lays (z_Fm G m_X13_lays Q) 0 0 h 116 [some (.ref a0), some (.int x1), some (.int x2), none, none, some (.int x5), some (.int x6)] [.int (if (x2 - x5) ≤ x6 then (x6 - (x2 - x5)) else (x5 + x6)), .int x1, .ref (a0 + 16), .int x6, .ref (a0 + 18)] := by
      refine z_iadd (q := 117) dX13_lays_116 rfl ?_
      obtain ⟨g_2, hf⟩ := hf
      refine z_iald (q := 118) (n := 16560) (z_L11_A22 g_1) g_2 dX13_lays_117 rfl ?_
      obtain ⟨g_3, hf⟩ := hf
      refine z_iast (q := 119) (n := 48) (z_L11_A27 g_1) g_3 dX13_lays_118 rfl ?_
      refine z_iinc (q := 122) (i := 6) (x := x6) (v := (x6 + 1)) (ls2 := [some (.ref a0), some (.int x1), some (.int x2), none, none, some (.int x5), some (.int (x6 + 1))]) dX13_lays_119 rfl rfl (z_lt rfl) rfl rfl ?_
      refine z_goto (q := 75) dX13_lays_122 rfl ?_
      exact hf
    refine z_icmp_ge (q := 101) (tgt := 109) dX13_lays_98 rfl rfl (fun hc => ?_) (fun hc => ?_)
    · have hk := (z_ite hk).1 hc
      refine z_iload (q := 111) (i := 6) (x := x6) dX13_lays_109 rfl rfl ?_
      refine z_iload_n (q := 112) (i := 2) (x := x2) dX13_lays_111 rfl rfl rfl ?_
      refine z_iload (q := 114) (i := 5) (x := x5) dX13_lays_112 rfl rfl ?_
      refine z_isub (q := 115) dX13_lays_114 rfl ?_
      refine z_isub (q := 116) dX13_lays_115 rfl ?_
      exact hk
    · have hk := (z_ite hk).2 hc
      refine z_iload (q := 103) (i := 5) (x := x5) dX13_lays_101 rfl rfl ?_
      refine z_iload (q := 105) (i := 6) (x := x6) dX13_lays_103 rfl rfl ?_
      refine z_iadd (q := 106) dX13_lays_105 rfl ?_
      refine z_goto (q := 116) dX13_lays_106 rfl ?_
      exact hk

theorem u_X13_laysPack {l : Launch} {G : z_G} {a0 : Nat} {h : z_H} {Q : z_Q} (hst : l.stackTraces = false)  (hf : z_L11 h a0 ∧ z_V l G m_X13_laysPack (z_Fm G m_X13_laysPack Q) 0 0 (h.sI a0 41 0) 7 [some (.ref a0), some (.int 0), none] []) : z_Ct l G m_X13_laysPack [.ref a0] h Q := by
  refine z_Ct.of (ls := [some (.ref a0), none, none]) hst rfl (by show plainName yX13_laysPack.cls = true; decide +kernel) (z_le rfl) rfl ?_
  show z_V l G m_X13_laysPack (z_Fm G m_X13_laysPack Q) 0 0 h 0 [some (.ref a0), none, none] []
  refine z_aload_n (q := 1) (i := 0) (x := a0) dX13_laysPack_0 rfl rfl rfl ?_
  refine z_iconst (q := 2) (v := 0) dX13_laysPack_1 rfl rfl ?_
  obtain ⟨g_1, hf⟩ := hf
  refine z_putI 11 41 (q := 5) (x := 0) (v := .int 0) rfl (z_lt rfl) (z_L11_T g_1) q1799 rfl dX13_laysPack_2 rfl rfl rfl rfl (fun _ _ _ => rfl) ?_
  refine z_iconst (q := 6) (v := 0) dX13_laysPack_5 rfl rfl ?_
  refine z_istore_n (q := 7) (i := 1) (ls2 := [some (.ref a0), some (.int 0), none]) (x := 0) dX13_laysPack_6 rfl (z_lt rfl) rfl rfl ?_
  exact hf

theorem b_X13_laysPack_7 {l : Launch} {G : z_G} {a0 : Nat} {x1 : Int32} {h : z_H} {Q : z_Q}  (hf : z_L11 h a0 ∧ z_Ct l G m_X13_kinds [.ref a0] h (z_Qi (fun x_2 h_3 => (x_2 ≤ x1 → Q none h_3) ∧ (¬ x_2 ≤ x1 → z_V l G m_X13_laysPack (z_Fm G m_X13_laysPack Q) 0 0 h_3 17 [some (.ref a0), some (.int x1), some (.int 0)] [])))) : z_V l G m_X13_laysPack (z_Fm G m_X13_laysPack Q) 0 0 h 7 [some (.ref a0), some (.int x1), none] [] := by
  refine z_iload_n (q := 8) (i := 1) (x := x1) dX13_laysPack_7 rfl rfl rfl ?_
  refine z_aload_n (q := 9) (i := 0) (x := a0) dX13_laysPack_8 rfl rfl rfl ?_
  obtain ⟨g_1, hf⟩ := hf
  refine z_cVi m_X13_kinds [] (a0) (q := 12) (rc2 := 0) (rs2 := 0) (st := [.int x1]) dX13_laysPack_9 rfl q2070 oV_X13_kinds rfl rfl ⟨z_le rfl, z_le rfl⟩ (z_le rfl) (z_rcv_of 11 rfl (z_L11_T g_1) rfl) rfl  rfl hf (fun x_2 h_3 hf => ?_)
  refine z_icmp_ge (q := 15) (tgt := 65) dX13_laysPack_12 rfl rfl (fun hc => ?_) (fun hc => ?_)
  · have hf := hf.1 hc
    exact z_vret dX13_laysPack_65 rfl hf
  · have hf := hf.2 hc
    refine z_iconst (q := 16) (v := 0) dX13_laysPack_15 rfl rfl ?_
    refine z_istore_n (q := 17) (i := 2) (ls2 := [some (.ref a0), some (.int x1), some (.int 0)]) (x := 0) dX13_laysPack_16 rfl (z_lt rfl) rfl rfl ?_
    exact hf

theorem b_X13_laysPack_17 {l : Launch} {G : z_G} {a0 : Nat} {x1 : Int32} {x2 : Int32} {h : z_H} {Q : z_Q}  (hf : z_L11 h a0 ∧ vp_in ((5 + (2 * x1)) + 1) 420 ∧ ((h.I (a0 + 6) (Int32.toNatClampNeg ((5 + (2 * x1)) + 1))) ≤ x2 → z_V l G m_X13_laysPack (z_Fm G m_X13_laysPack Q) 0 0 h 7 [some (.ref a0), some (.int (x1 + 1)), none] []) ∧ (¬ (h.I (a0 + 6) (Int32.toNatClampNeg ((5 + (2 * x1)) + 1))) ≤ x2 → vp_in (h.I a0 41) 24 ∧ z_V l G m_X13_laysPack (z_Fm G m_X13_laysPack Q) 0 0 ((h.sI (a0 + 26) (Int32.toNatClampNeg (h.I a0 41)) x1).sI a0 41 ((h.I a0 41) + 1)) 17 [some (.ref a0), some (.int x1), some (.int (x2 + 1))] [])) : z_V l G m_X13_laysPack (z_Fm G m_X13_laysPack Q) 0 0 h 17 [some (.ref a0), some (.int x1), some (.int x2)] [] := by
  refine z_iload_n (q := 18) (i := 2) (x := x2) dX13_laysPack_17 rfl rfl rfl ?_
  refine z_aload_n (q := 19) (i := 0) (x := a0) dX13_laysPack_18 rfl rfl rfl ?_
  obtain ⟨g_1, hf⟩ := hf
  refine z_get 11 10 (q := 22) (v := .ref (a0 + 6)) rfl (z_lt rfl) (z_L11_T g_1) q1768 dX13_laysPack_19 rfl (z_fvR (fun _ _ _ => rfl) (z_L11_P10 g_1)) ?_
  refine z_iconst (q := 23) (v := 5) dX13_laysPack_22 rfl rfl ?_
  refine z_iconst (q := 24) (v := 2) dX13_laysPack_23 rfl rfl ?_
  refine z_iload_n (q := 25) (i := 1) (x := x1) dX13_laysPack_24 rfl rfl rfl ?_
  refine z_imul (q := 26) dX13_laysPack_25 rfl ?_
  refine z_iadd (q := 27) dX13_laysPack_26 rfl ?_
  refine z_iconst (q := 28) (v := 1) dX13_laysPack_27 rfl rfl ?_
  refine z_iadd (q := 29) dX13_laysPack_28 rfl ?_
  obtain ⟨g_2, hf⟩ := hf
  refine z_iald (q := 30) (n := 420) (z_L11_A10 g_1) g_2 dX13_laysPack_29 rfl ?_
  refine z_icmp_ge (q := 33) (tgt := 59) dX13_laysPack_30 rfl rfl (fun hc => ?_) (fun hc => ?_)
  · have hf := hf.1 hc
    refine z_iinc (q := 62) (i := 1) (x := x1) (v := (x1 + 1)) (ls2 := [some (.ref a0), some (.int (x1 + 1)), some (.int x2)]) dX13_laysPack_59 rfl rfl (z_lt rfl) rfl rfl ?_
    refine z_goto (q := 7) dX13_laysPack_62 rfl ?_
    refine z_prune [true, true, false] (ls2 := [some (.ref a0), some (.int (x1 + 1)), none]) rfl ?_
    exact hf
  · have hf := hf.2 hc
    refine z_aload_n (q := 34) (i := 0) (x := a0) dX13_laysPack_33 rfl rfl rfl ?_
    refine z_get 11 40 (q := 37) (v := .ref (a0 + 26)) rfl (z_lt rfl) (z_L11_T g_1) q1798 dX13_laysPack_34 rfl (z_fvR (fun _ _ _ => rfl) (z_L11_P40 g_1)) ?_
    refine z_aload_n (q := 38) (i := 0) (x := a0) dX13_laysPack_37 rfl rfl rfl ?_
    refine z_get 11 41 (q := 41) (v := .int (h.I a0 41)) rfl (z_lt rfl) (z_L11_T g_1) q1799 dX13_laysPack_38 rfl rfl ?_
    refine z_iload_n (q := 42) (i := 1) (x := x1) dX13_laysPack_41 rfl rfl rfl ?_
    obtain ⟨g_3, hf⟩ := hf
    refine z_iast (q := 43) (n := 24) (z_L11_A40 g_1) g_3 dX13_laysPack_42 rfl ?_
    refine z_aload_n (q := 44) (i := 0) (x := a0) dX13_laysPack_43 rfl rfl rfl ?_
    refine z_dup (q := 45) dX13_laysPack_44 rfl rfl ?_
    refine z_get 11 41 (q := 48) (v := .int (h.I a0 41)) rfl (z_lt rfl) (z_L11_T g_1) q1799 dX13_laysPack_45 rfl (congrArg Value.int (z_rIa (by omega))) ?_
    refine z_iconst (q := 49) (v := 1) dX13_laysPack_48 rfl rfl ?_
    refine z_iadd (q := 50) dX13_laysPack_49 rfl ?_
    refine z_putI 11 41 (q := 53) (x := ((h.I a0 41) + 1)) (v := .int ((h.I a0 41) + 1)) rfl (z_lt rfl) (z_L11_T g_1) q1799 rfl dX13_laysPack_50 rfl rfl rfl rfl (fun _ _ _ => rfl) ?_
    refine z_iinc (q := 56) (i := 2) (x := x2) (v := (x2 + 1)) (ls2 := [some (.ref a0), some (.int x1), some (.int (x2 + 1))]) dX13_laysPack_53 rfl rfl (z_lt rfl) rfl rfl ?_
    refine z_goto (q := 17) dX13_laysPack_56 rfl ?_
    exact hf

theorem u_X13_laysSuch {l : Launch} {G : z_G} {a0 : Nat} {x1 : Int32} {x2 : Int32} {x3 : Int32} {x4 : Int32} {x5 : Int32} {h : z_H} {Q : z_Q} (hst : l.stackTraces = false)  (hf : z_V l G m_X13_laysSuch (z_Fm G m_X13_laysSuch Q) 0 0 h 7 [some (.ref a0), some (.int x1), some (.int x2), some (.int x3), some (.int x4), none, some (.int x5), some (.int 0), none] []) : z_Ct l G m_X13_laysSuch [.ref a0, .int x1, .int x2, .int x3, .int x4, .int x5] h Q := by
  refine z_Ct.of (ls := [some (.ref a0), some (.int x1), some (.int x2), some (.int x3), some (.int x4), some (.int x5), none, none, none]) hst rfl (by show plainName yX13_laysSuch.cls = true; decide +kernel) (z_le rfl) rfl ?_
  show z_V l G m_X13_laysSuch (z_Fm G m_X13_laysSuch Q) 0 0 h 0 [some (.ref a0), some (.int x1), some (.int x2), some (.int x3), some (.int x4), some (.int x5), none, none, none] []
  refine z_iload (q := 2) (i := 5) (x := x5) dX13_laysSuch_0 rfl rfl ?_
  refine z_istore (q := 4) (i := 6) (ls2 := [some (.ref a0), some (.int x1), some (.int x2), some (.int x3), some (.int x4), some (.int x5), some (.int x5), none, none]) (x := x5) dX13_laysSuch_2 (z_lt rfl) rfl rfl ?_
  refine z_iconst (q := 5) (v := 0) dX13_laysSuch_4 rfl rfl ?_
  refine z_istore (q := 7) (i := 7) (ls2 := [some (.ref a0), some (.int x1), some (.int x2), some (.int x3), some (.int x4), some (.int x5), some (.int x5), some (.int 0), none]) (x := 0) dX13_laysSuch_5 (z_lt rfl) rfl rfl ?_
  refine z_prune [true, true, true, true, true, false, true, true, false] (ls2 := [some (.ref a0), some (.int x1), some (.int x2), some (.int x3), some (.int x4), none, some (.int x5), some (.int 0), none]) rfl ?_
  exact hf

theorem b_X13_laysSuch_7 {l : Launch} {G : z_G} {a0 : Nat} {x1 : Int32} {x2 : Int32} {x3 : Int32} {x4 : Int32} {x6 : Int32} {x7 : Int32} {h : z_H} {Q : z_Q}  (hf : (x2 ≤ x7 → Q (some (.int x6)) h) ∧ (¬ x2 ≤ x7 → z_L11 h a0 ∧ vp_in (x1 + x7) 16560 ∧ z_Ct l G m_X13_paysOf [.ref a0, .int (h.I (a0 + 16) (Int32.toNatClampNeg (x1 + x7)))] h (z_Qi (fun x_3 h_4 => (x_3 < x3 → z_V l G m_X13_laysSuch (z_Fm G m_X13_laysSuch Q) 0 0 h_4 7 [some (.ref a0), some (.int x1), some (.int x2), some (.int x3), some (.int x4), none, some (.int x6), some (.int (x7 + 1)), none] []) ∧ (¬ x_3 < x3 → (x4 < x_3 → z_V l G m_X13_laysSuch (z_Fm G m_X13_laysSuch Q) 0 0 h_4 7 [some (.ref a0), some (.int x1), some (.int x2), some (.int x3), some (.int x4), none, some (.int x6), some (.int (x7 + 1)), none] []) ∧ (¬ x4 < x_3 → z_L11 h_4 a0 ∧ vp_in (x1 + x7) 16560 ∧ vp_in x6 48 ∧ z_V l G m_X13_laysSuch (z_Fm G m_X13_laysSuch Q) 0 0 (h_4.sI (a0 + 18) (Int32.toNatClampNeg x6) (h_4.I (a0 + 16) (Int32.toNatClampNeg (x1 + x7)))) 7 [some (.ref a0), some (.int x1), some (.int x2), some (.int x3), some (.int x4), none, some (.int (x6 + 1)), some (.int (x7 + 1)), none] [])))))) : z_V l G m_X13_laysSuch (z_Fm G m_X13_laysSuch Q) 0 0 h 7 [some (.ref a0), some (.int x1), some (.int x2), some (.int x3), some (.int x4), none, some (.int x6), some (.int x7), none] [] := by
  refine z_iload (q := 9) (i := 7) (x := x7) dX13_laysSuch_7 rfl rfl ?_
  refine z_iload_n (q := 10) (i := 2) (x := x2) dX13_laysSuch_9 rfl rfl rfl ?_
  refine z_icmp_ge (q := 13) (tgt := 66) dX13_laysSuch_10 rfl rfl (fun hc => ?_) (fun hc => ?_)
  · have hf := hf.1 hc
    refine z_iload (q := 68) (i := 6) (x := x6) dX13_laysSuch_66 rfl rfl ?_
    exact z_iret dX13_laysSuch_68 rfl hf
  · have hf := hf.2 hc
    refine z_aload_n (q := 14) (i := 0) (x := a0) dX13_laysSuch_13 rfl rfl rfl ?_
    refine z_aload_n (q := 15) (i := 0) (x := a0) dX13_laysSuch_14 rfl rfl rfl ?_
    obtain ⟨g_1, hf⟩ := hf
    refine z_get 11 22 (q := 18) (v := .ref (a0 + 16)) rfl (z_lt rfl) (z_L11_T g_1) q1780 dX13_laysSuch_15 rfl (z_fvR (fun _ _ _ => rfl) (z_L11_P22 g_1)) ?_
    refine z_iload_n (q := 19) (i := 1) (x := x1) dX13_laysSuch_18 rfl rfl rfl ?_
    refine z_iload (q := 21) (i := 7) (x := x7) dX13_laysSuch_19 rfl rfl ?_
    refine z_iadd (q := 22) dX13_laysSuch_21 rfl ?_
    obtain ⟨g_2, hf⟩ := hf
    refine z_iald (q := 23) (n := 16560) (z_L11_A22 g_1) g_2 dX13_laysSuch_22 rfl ?_
    refine z_cVi m_X13_paysOf [.int (h.I (a0 + 16) (Int32.toNatClampNeg (x1 + x7)))] (a0) (q := 26) (rc2 := 0) (rs2 := 0) (st := []) dX13_laysSuch_23 rfl q2124 oV_X13_paysOf rfl rfl ⟨z_le rfl, z_le rfl⟩ (z_le rfl) (z_rcv_of 11 rfl (z_L11_T g_1) rfl) rfl  rfl hf (fun x_3 h_4 hf => ?_)
    refine z_istore (q := 28) (i := 8) (ls2 := [some (.ref a0), some (.int x1), some (.int x2), some (.int x3), some (.int x4), none, some (.int x6), some (.int x7), some (.int x_3)]) (x := x_3) dX13_laysSuch_26 (z_lt rfl) rfl rfl ?_
    refine z_iload (q := 30) (i := 8) (x := x_3) dX13_laysSuch_28 rfl rfl ?_
    refine z_iload_n (q := 31) (i := 3) (x := x3) dX13_laysSuch_30 rfl rfl rfl ?_
    refine z_icmp_lt (q := 34) (tgt := 60) dX13_laysSuch_31 rfl rfl (fun hc => ?_) (fun hc => ?_)
    · have hf := hf.1 hc
      refine z_iinc (q := 63) (i := 7) (x := x7) (v := (x7 + 1)) (ls2 := [some (.ref a0), some (.int x1), some (.int x2), some (.int x3), some (.int x4), none, some (.int x6), some (.int (x7 + 1)), some (.int x_3)]) dX13_laysSuch_60 rfl rfl (z_lt rfl) rfl rfl ?_
      refine z_goto (q := 7) dX13_laysSuch_63 rfl ?_
      refine z_prune [true, true, true, true, true, false, true, true, false] (ls2 := [some (.ref a0), some (.int x1), some (.int x2), some (.int x3), some (.int x4), none, some (.int x6), some (.int (x7 + 1)), none]) rfl ?_
      exact hf
    · have hf := hf.2 hc
      refine z_iload (q := 36) (i := 8) (x := x_3) dX13_laysSuch_34 rfl rfl ?_
      refine z_iload (q := 38) (i := 4) (x := x4) dX13_laysSuch_36 rfl rfl ?_
      refine z_icmp_gt (q := 41) (tgt := 60) dX13_laysSuch_38 rfl rfl (fun hc => ?_) (fun hc => ?_)
      · have hf := hf.1 hc
        refine z_iinc (q := 63) (i := 7) (x := x7) (v := (x7 + 1)) (ls2 := [some (.ref a0), some (.int x1), some (.int x2), some (.int x3), some (.int x4), none, some (.int x6), some (.int (x7 + 1)), some (.int x_3)]) dX13_laysSuch_60 rfl rfl (z_lt rfl) rfl rfl ?_
        refine z_goto (q := 7) dX13_laysSuch_63 rfl ?_
        refine z_prune [true, true, true, true, true, false, true, true, false] (ls2 := [some (.ref a0), some (.int x1), some (.int x2), some (.int x3), some (.int x4), none, some (.int x6), some (.int (x7 + 1)), none]) rfl ?_
        exact hf
      · have hf := hf.2 hc
        refine z_aload_n (q := 42) (i := 0) (x := a0) dX13_laysSuch_41 rfl rfl rfl ?_
        obtain ⟨g_5, hf⟩ := hf
        refine z_get 11 27 (q := 45) (v := .ref (a0 + 18)) rfl (z_lt rfl) (z_L11_T g_5) q1785 dX13_laysSuch_42 rfl (z_fvR (fun _ _ _ => rfl) (z_L11_P27 g_5)) ?_
        refine z_iload (q := 47) (i := 6) (x := x6) dX13_laysSuch_45 rfl rfl ?_
        refine z_aload_n (q := 48) (i := 0) (x := a0) dX13_laysSuch_47 rfl rfl rfl ?_
        refine z_get 11 22 (q := 51) (v := .ref (a0 + 16)) rfl (z_lt rfl) (z_L11_T g_5) q1780 dX13_laysSuch_48 rfl (z_fvR (fun _ _ _ => rfl) (z_L11_P22 g_5)) ?_
        refine z_iload_n (q := 52) (i := 1) (x := x1) dX13_laysSuch_51 rfl rfl rfl ?_
        refine z_iload (q := 54) (i := 7) (x := x7) dX13_laysSuch_52 rfl rfl ?_
        refine z_iadd (q := 55) dX13_laysSuch_54 rfl ?_
        obtain ⟨g_6, hf⟩ := hf
        refine z_iald (q := 56) (n := 16560) (z_L11_A22 g_5) g_6 dX13_laysSuch_55 rfl ?_
        obtain ⟨g_7, hf⟩ := hf
        refine z_iast (q := 57) (n := 48) (z_L11_A27 g_5) g_7 dX13_laysSuch_56 rfl ?_
        refine z_iinc (q := 60) (i := 6) (x := x6) (v := (x6 + 1)) (ls2 := [some (.ref a0), some (.int x1), some (.int x2), some (.int x3), some (.int x4), none, some (.int (x6 + 1)), some (.int x7), some (.int x_3)]) dX13_laysSuch_57 rfl rfl (z_lt rfl) rfl rfl ?_
        refine z_iinc (q := 63) (i := 7) (x := x7) (v := (x7 + 1)) (ls2 := [some (.ref a0), some (.int x1), some (.int x2), some (.int x3), some (.int x4), none, some (.int (x6 + 1)), some (.int (x7 + 1)), some (.int x_3)]) dX13_laysSuch_60 rfl rfl (z_lt rfl) rfl rfl ?_
        refine z_goto (q := 7) dX13_laysSuch_63 rfl ?_
        refine z_prune [true, true, true, true, true, false, true, true, false] (ls2 := [some (.ref a0), some (.int x1), some (.int x2), some (.int x3), some (.int x4), none, some (.int (x6 + 1)), some (.int (x7 + 1)), none]) rfl ?_
        exact hf

theorem u_X13_leads {l : Launch} {G : z_G} {a0 : Nat} {x1 : Int32} {x2 : Int32} {h : z_H} {Q : z_Q} (hst : l.stackTraces = false)  (hf : z_L11 h a0 ∧ z_Ct l G m_X13_within [.int x1, .int 1, .int 20] (h.sI a0 0 0) (z_Qi (fun x_2 h_3 => (x_2 = 0 → Q (some (.int (-1))) h_3) ∧ (¬ x_2 = 0 → z_Ct l G m_X13_within [.int x2, .int 0, .int 3] h_3 (z_Qi (fun x_4 h_5 => (x_4 = 0 → Q (some (.int (-1))) h_5) ∧ (¬ x_4 = 0 → z_L11 h_5 a0 ∧ z_Ct l G m_X13_counts [.ref a0] h_5 (z_Qi (fun x_7 h_8 => (x_7 = 0 → Q (some (.int (-1))) h_8) ∧ (¬ x_7 = 0 → z_V l G m_X13_leads (z_Fm G m_X13_leads Q) 0 0 h_8 41 [some (.ref a0), some (.int x1), some (.int x2), some (.int 0), some (.int 0), some (.int 0), none, none] [])))))))))) : z_Ct l G m_X13_leads [.ref a0, .int x1, .int x2] h Q := by
  refine z_Ct.of (ls := [some (.ref a0), some (.int x1), some (.int x2), none, none, none, none, none]) hst rfl (by show plainName yX13_leads.cls = true; decide +kernel) (z_le rfl) rfl ?_
  show z_V l G m_X13_leads (z_Fm G m_X13_leads Q) 0 0 h 0 [some (.ref a0), some (.int x1), some (.int x2), none, none, none, none, none] []
  refine z_aload_n (q := 1) (i := 0) (x := a0) dX13_leads_0 rfl rfl rfl ?_
  refine z_iconst (q := 2) (v := 0) dX13_leads_1 rfl rfl ?_
  obtain ⟨g_1, hf⟩ := hf
  refine z_putI 11 0 (q := 5) (x := 0) (v := .int 0) rfl (z_lt rfl) (z_L11_T g_1) q1758 rfl dX13_leads_2 rfl rfl rfl rfl (fun _ _ _ => rfl) ?_
  refine z_iload_n (q := 6) (i := 1) (x := x1) dX13_leads_5 rfl rfl rfl ?_
  refine z_iconst (q := 7) (v := 1) dX13_leads_6 rfl rfl ?_
  refine z_bipush (q := 9) (v := 20) dX13_leads_7 (by decide) rfl ?_
  refine z_cSi m_X13_within [.int x1, .int 1, .int 20] (q := 12) (rc2 := 0) (rs2 := 0) (st := []) dX13_leads_9 rfl q2074 oS_X13_within rfl rfl ⟨z_le rfl, z_le rfl⟩ (z_le rfl) rfl  rfl hf (fun x_2 h_3 hf => ?_)
  refine z_if_eq (q := 15) (tgt := 31) dX13_leads_12 rfl rfl (fun hc => ?_) (fun hc => ?_)
  · have hf := hf.1 hc
    refine z_iconst (q := 32) (v := (-1)) dX13_leads_31 rfl rfl ?_
    exact z_iret dX13_leads_32 rfl hf
  · have hf := hf.2 hc
    refine z_iload_n (q := 16) (i := 2) (x := x2) dX13_leads_15 rfl rfl rfl ?_
    refine z_iconst (q := 17) (v := 0) dX13_leads_16 rfl rfl ?_
    refine z_iconst (q := 18) (v := 3) dX13_leads_17 rfl rfl ?_
    refine z_cSi m_X13_within [.int x2, .int 0, .int 3] (q := 21) (rc2 := 0) (rs2 := 0) (st := []) dX13_leads_18 rfl q2074 oS_X13_within rfl rfl ⟨z_le rfl, z_le rfl⟩ (z_le rfl) rfl  rfl hf (fun x_4 h_5 hf => ?_)
    refine z_if_eq (q := 24) (tgt := 31) dX13_leads_21 rfl rfl (fun hc => ?_) (fun hc => ?_)
    · have hf := hf.1 hc
      refine z_iconst (q := 32) (v := (-1)) dX13_leads_31 rfl rfl ?_
      exact z_iret dX13_leads_32 rfl hf
    · have hf := hf.2 hc
      refine z_aload_n (q := 25) (i := 0) (x := a0) dX13_leads_24 rfl rfl rfl ?_
      obtain ⟨g_6, hf⟩ := hf
      refine z_cVi m_X13_counts [] (a0) (q := 28) (rc2 := 0) (rs2 := 0) (st := []) dX13_leads_25 rfl q2190 oV_X13_counts rfl rfl ⟨z_le rfl, z_le rfl⟩ (z_le rfl) (z_rcv_of 11 rfl (z_L11_T g_6) rfl) rfl  rfl hf (fun x_7 h_8 hf => ?_)
      refine z_if_ne (q := 31) (tgt := 33) dX13_leads_28 rfl rfl (fun hc => ?_) (fun hc => ?_)
      · have hf := hf.2 hc
        refine z_iconst (q := 34) (v := 0) dX13_leads_33 rfl rfl ?_
        refine z_istore_n (q := 35) (i := 3) (ls2 := [some (.ref a0), some (.int x1), some (.int x2), some (.int 0), none, none, none, none]) (x := 0) dX13_leads_34 rfl (z_lt rfl) rfl rfl ?_
        refine z_iconst (q := 36) (v := 0) dX13_leads_35 rfl rfl ?_
        refine z_istore (q := 38) (i := 4) (ls2 := [some (.ref a0), some (.int x1), some (.int x2), some (.int 0), some (.int 0), none, none, none]) (x := 0) dX13_leads_36 (z_lt rfl) rfl rfl ?_
        refine z_iconst (q := 39) (v := 0) dX13_leads_38 rfl rfl ?_
        refine z_istore (q := 41) (i := 5) (ls2 := [some (.ref a0), some (.int x1), some (.int x2), some (.int 0), some (.int 0), some (.int 0), none, none]) (x := 0) dX13_leads_39 (z_lt rfl) rfl rfl ?_
        exact hf
      · have hf := hf.1 hc
        refine z_iconst (q := 32) (v := (-1)) dX13_leads_31 rfl rfl ?_
        exact z_iret dX13_leads_32 rfl hf

theorem b_X13_leads_41 {l : Launch} {G : z_G} {a0 : Nat} {x1 : Int32} {x2 : Int32} {x3 : Int32} {x4 : Int32} {x5 : Int32} {h : z_H} {Q : z_Q}  (hf : z_L11 h a0 ∧ ((h.I a0 44) ≤ x5 → Q (some (.int (if (x2 - x2 / 2 * 2) = 0 then x4 else x3))) h) ∧ (¬ (h.I a0 44) ≤ x5 → vp_in 2 420 ∧ z_Ct l G m_X13_dealsTrial [.ref a0, .ref (a0 + 26), .int (h.I a0 41), .int (h.I (a0 + 6) (Int32.toNatClampNeg 2))] h (z_Qv (fun h_3 => z_L11 h_3 a0 ∧ z_Ct l G m_X13_runs [.ref a0, .int 9660, .int x1] h_3 (z_Qv (fun h_5 => z_L11 h_5 a0 ∧ ∀ v_7 : Int32, v_7 = (if (h_5.I a0 36) = 3 then (if (h_5.I a0 38) = x1 then 1 else 0) else 0) → (2 ≤ x2 → z_Ct l G m_X13_paysIn [.ref a0, .int 9660, .int 0] h_5 (z_Qi (fun x_9 h_10 => z_L11 h_10 a0 ∧ z_Ct l G m_X13_paysIn [.ref a0, .int 9660, .int 1] h_10 (z_Qi (fun x_12 h_13 => z_V l G m_X13_leads (z_Fm G m_X13_leads Q) 0 0 h_13 141 [some (.ref a0), some (.int x1), some (.int x2), some (.int x3), some (.int x4), some (.int x5), some (.int v_7), none] [.int (x_9 - x_12)]))))) ∧ (¬ 2 ≤ x2 → vp_in 9660 16560 ∧ vp_in 9661 16560 ∧ z_V l G m_X13_leads (z_Fm G m_X13_leads Q) 0 0 h_5 141 [some (.ref a0), some (.int x1), some (.int x2), some (.int x3), some (.int x4), some (.int x5), some (.int v_7), none] [.int ((h_5.I (a0 + 16) (Int32.toNatClampNeg 9660)) - (h_5.I (a0 + 16) (Int32.toNatClampNeg 9661)))]))))))) : z_V l G m_X13_leads (z_Fm G m_X13_leads Q) 0 0 h 41 [some (.ref a0), some (.int x1), some (.int x2), some (.int x3), some (.int x4), some (.int x5), none, none] [] := by
  refine z_iload (q := 43) (i := 5) (x := x5) dX13_leads_41 rfl rfl ?_
  refine z_aload_n (q := 44) (i := 0) (x := a0) dX13_leads_43 rfl rfl rfl ?_
  obtain ⟨g_1, hf⟩ := hf
  refine z_get 11 44 (q := 47) (v := .int (h.I a0 44)) rfl (z_lt rfl) (z_L11_T g_1) q1802 dX13_leads_44 rfl rfl ?_
  refine z_icmp_ge (q := 50) (tgt := 226) dX13_leads_47 rfl rfl (fun hc => ?_) (fun hc => ?_)
  · have hf := hf.1 hc
    refine z_iload_n (q := 227) (i := 2) (x := x2) dX13_leads_226 rfl rfl rfl ?_
    refine z_iconst (q := 228) (v := 2) dX13_leads_227 rfl rfl ?_
    refine z_irem (q := 229) dX13_leads_228 (by decide) rfl ?_
    have hk : z_V l G m_X13_leads (z_Fm G m_X13_leads Q) 0 0 h 238 [some (.ref a0), some (.int x1), some (.int x2), some (.int x3), some (.int x4), some (.int x5), none, none] [.int (if (x2 - x2 / 2 * 2) = 0 then x4 else x3)] := by
      exact z_iret dX13_leads_238 rfl hf
    refine z_if_ne (q := 232) (tgt := 237) dX13_leads_229 rfl rfl (fun hc => ?_) (fun hc => ?_)
    · have hk := (z_ite hk).2 hc
      refine z_iload_n (q := 238) (i := 3) (x := x3) dX13_leads_237 rfl rfl rfl ?_
      exact hk
    · have hk := (z_ite hk).1 hc
      refine z_iload (q := 234) (i := 4) (x := x4) dX13_leads_232 rfl rfl ?_
      refine z_goto (q := 238) dX13_leads_234 rfl ?_
      exact hk
  · have hf := hf.2 hc
    refine z_aload_n (q := 51) (i := 0) (x := a0) dX13_leads_50 rfl rfl rfl ?_
    refine z_aload_n (q := 52) (i := 0) (x := a0) dX13_leads_51 rfl rfl rfl ?_
    refine z_get 11 40 (q := 55) (v := .ref (a0 + 26)) rfl (z_lt rfl) (z_L11_T g_1) q1798 dX13_leads_52 rfl (z_fvR (fun _ _ _ => rfl) (z_L11_P40 g_1)) ?_
    refine z_aload_n (q := 56) (i := 0) (x := a0) dX13_leads_55 rfl rfl rfl ?_
    refine z_get 11 41 (q := 59) (v := .int (h.I a0 41)) rfl (z_lt rfl) (z_L11_T g_1) q1799 dX13_leads_56 rfl rfl ?_
    refine z_aload_n (q := 60) (i := 0) (x := a0) dX13_leads_59 rfl rfl rfl ?_
    refine z_get 11 10 (q := 63) (v := .ref (a0 + 6)) rfl (z_lt rfl) (z_L11_T g_1) q1768 dX13_leads_60 rfl (z_fvR (fun _ _ _ => rfl) (z_L11_P10 g_1)) ?_
    refine z_iconst (q := 64) (v := 2) dX13_leads_63 rfl rfl ?_
    obtain ⟨g_2, hf⟩ := hf
    refine z_iald (q := 65) (n := 420) (z_L11_A10 g_1) g_2 dX13_leads_64 rfl ?_
    refine z_cVv m_X13_dealsTrial [.ref (a0 + 26), .int (h.I a0 41), .int (h.I (a0 + 6) (Int32.toNatClampNeg 2))] (a0) (q := 68) (rc2 := 0) (rs2 := 0) (st := []) dX13_leads_65 rfl q2203 oV_X13_dealsTrial rfl rfl ⟨z_le rfl, z_le rfl⟩ (z_le rfl) (z_rcv_of 11 rfl (z_L11_T g_1) rfl) rfl  rfl hf (fun h_3 hf => ?_)
    refine z_aload_n (q := 69) (i := 0) (x := a0) dX13_leads_68 rfl rfl rfl ?_
    refine z_sipush (q := 72) (v := 9660) dX13_leads_69 (by decide) rfl ?_
    refine z_iload_n (q := 73) (i := 1) (x := x1) dX13_leads_72 rfl rfl rfl ?_
    obtain ⟨g_4, hf⟩ := hf
    refine z_cVv m_X13_runs [.int 9660, .int x1] (a0) (q := 76) (rc2 := 0) (rs2 := 0) (st := []) dX13_leads_73 rfl q2168 oV_X13_runs rfl rfl ⟨z_le rfl, z_le rfl⟩ (z_le rfl) (z_rcv_of 11 rfl (z_L11_T g_4) rfl) rfl  rfl hf (fun h_5 hf => ?_)
    refine z_aload_n (q := 77) (i := 0) (x := a0) dX13_leads_76 rfl rfl rfl ?_
    obtain ⟨g_6, hf⟩ := hf
    refine z_get 11 36 (q := 80) (v := .int (h_5.I a0 36)) rfl (z_lt rfl) (z_L11_T g_6) q1794 dX13_leads_77 rfl rfl ?_
    refine z_iconst (q := 81) (v := 3) dX13_leads_80 rfl rfl ?_
    have hk : z_V l G m_X13_leads (z_Fm G m_X13_leads Q) 0 0 h_5 97 [some (.ref a0), some (.int x1), some (.int x2), some (.int x3), some (.int x4), some (.int x5), none, none] [.int (if (h_5.I a0 36) = 3 then (if (h_5.I a0 38) = x1 then 1 else 0) else 0)] := by
      refine z_nmI (fun v_7 hv_8 => ?_)
      have hf := hf v_7 hv_8
      refine z_istore (q := 99) (i := 6) (ls2 := [some (.ref a0), some (.int x1), some (.int x2), some (.int x3), some (.int x4), some (.int x5), some (.int v_7), none]) (x := v_7) dX13_leads_97 (z_lt rfl) rfl rfl ?_
      refine z_iload_n (q := 100) (i := 2) (x := x2) dX13_leads_99 rfl rfl rfl ?_
      refine z_iconst (q := 101) (v := 2) dX13_leads_100 rfl rfl ?_
      refine z_icmp_ge (q := 104) (tgt := 124) dX13_leads_101 rfl rfl (fun hc => ?_) (fun hc => ?_)
      · have hf := hf.1 hc
        refine z_aload_n (q := 125) (i := 0) (x := a0) dX13_leads_124 rfl rfl rfl ?_
        refine z_sipush (q := 128) (v := 9660) dX13_leads_125 (by decide) rfl ?_
        refine z_iconst (q := 129) (v := 0) dX13_leads_128 rfl rfl ?_
        refine z_cVi m_X13_paysIn [.int 9660, .int 0] (a0) (q := 132) (rc2 := 0) (rs2 := 0) (st := []) dX13_leads_129 rfl q2230 oV_X13_paysIn rfl rfl ⟨z_le rfl, z_le rfl⟩ (z_le rfl) (z_rcv_of 11 rfl (z_L11_T g_6) rfl) rfl  rfl hf (fun x_9 h_10 hf => ?_)
        refine z_aload_n (q := 133) (i := 0) (x := a0) dX13_leads_132 rfl rfl rfl ?_
        refine z_sipush (q := 136) (v := 9660) dX13_leads_133 (by decide) rfl ?_
        refine z_iconst (q := 137) (v := 1) dX13_leads_136 rfl rfl ?_
        obtain ⟨g_11, hf⟩ := hf
        refine z_cVi m_X13_paysIn [.int 9660, .int 1] (a0) (q := 140) (rc2 := 0) (rs2 := 0) (st := [.int x_9]) dX13_leads_137 rfl q2230 oV_X13_paysIn rfl rfl ⟨z_le rfl, z_le rfl⟩ (z_le rfl) (z_rcv_of 11 rfl (z_L11_T g_11) rfl) rfl  rfl hf (fun x_12 h_13 hf => ?_)
        refine z_isub (q := 141) dX13_leads_140 rfl ?_
        exact hf
      · have hf := hf.2 hc
        refine z_aload_n (q := 105) (i := 0) (x := a0) dX13_leads_104 rfl rfl rfl ?_
        refine z_get 11 22 (q := 108) (v := .ref (a0 + 16)) rfl (z_lt rfl) (z_L11_T g_6) q1780 dX13_leads_105 rfl (z_fvR (fun _ _ _ => rfl) (z_L11_P22 g_6)) ?_
        refine z_sipush (q := 111) (v := 9660) dX13_leads_108 (by decide) rfl ?_
        obtain ⟨g_14, hf⟩ := hf
        refine z_iald (q := 112) (n := 16560) (z_L11_A22 g_6) g_14 dX13_leads_111 rfl ?_
        refine z_aload_n (q := 113) (i := 0) (x := a0) dX13_leads_112 rfl rfl rfl ?_
        refine z_get 11 22 (q := 116) (v := .ref (a0 + 16)) rfl (z_lt rfl) (z_L11_T g_6) q1780 dX13_leads_113 rfl (z_fvR (fun _ _ _ => rfl) (z_L11_P22 g_6)) ?_
        refine z_sipush (q := 119) (v := 9661) dX13_leads_116 (by decide) rfl ?_
        obtain ⟨g_15, hf⟩ := hf
        refine z_iald (q := 120) (n := 16560) (z_L11_A22 g_6) g_15 dX13_leads_119 rfl ?_
        refine z_isub (q := 121) dX13_leads_120 rfl ?_
        refine z_goto (q := 141) dX13_leads_121 rfl ?_
        exact hf
    refine z_icmp_ne (q := 84) (tgt := 96) dX13_leads_81 rfl rfl (fun hc => ?_) (fun hc => ?_)
    · have hk := (z_ite hk).2 hc
      refine z_iconst (q := 97) (v := 0) dX13_leads_96 rfl rfl ?_
      exact hk
    · have hk := (z_ite hk).1 hc
      refine z_aload_n (q := 85) (i := 0) (x := a0) dX13_leads_84 rfl rfl rfl ?_
      refine z_get 11 38 (q := 88) (v := .int (h_5.I a0 38)) rfl (z_lt rfl) (z_L11_T g_6) q1796 dX13_leads_85 rfl rfl ?_
      refine z_iload_n (q := 89) (i := 1) (x := x1) dX13_leads_88 rfl rfl rfl ?_
      refine z_icmp_ne (q := 92) (tgt := 96) dX13_leads_89 rfl rfl (fun hc => ?_) (fun hc => ?_)
      · have hk := (z_ite hk).2 hc
        refine z_iconst (q := 97) (v := 0) dX13_leads_96 rfl rfl ?_
        exact hk
      · have hk := (z_ite hk).1 hc
        refine z_iconst (q := 93) (v := 1) dX13_leads_92 rfl rfl ?_
        refine z_goto (q := 97) dX13_leads_93 rfl ?_
        exact hk

theorem b_X13_leads_141 {l : Launch} {G : z_G} {a0 : Nat} {x1 : Int32} {x2 : Int32} {x3 : Int32} {x4 : Int32} {x5 : Int32} {x6 : Int32} {s0 : Int32} {h : z_H} {Q : z_Q}  (hf : ∀ v_1 : Int32, v_1 = (x3 + (if x6 = 0 then 0 else (if s0 = 0 then 0 else 1))) → z_L11 h a0 ∧ ((x6 = 0 → True) ∧ (¬ x6 = 0 → (s0 ≤ 0 → (0 ≤ s0 → True) ∧ (¬ 0 ≤ s0 → vp_in x5 20000 ∧ True)) ∧ (¬ s0 ≤ 0 → vp_in x5 20000 ∧ (((h.I (a0 + 27) (Int32.toNatClampNeg x5)) = 0 → True) ∧ (¬ (h.I (a0 + 27) (Int32.toNatClampNeg x5)) = 0 → (0 ≤ s0 → True) ∧ (¬ 0 ≤ s0 → vp_in x5 20000 ∧ True)))))) ∧ ∀ v_7 : Int32, v_7 = (x4 + (if x6 = 0 then 0 else (if s0 ≤ 0 then (if 0 ≤ s0 then 0 else (if (h.I (a0 + 27) (Int32.toNatClampNeg x5)) = 1 then 1 else 0)) else (if (h.I (a0 + 27) (Int32.toNatClampNeg x5)) = 0 then 1 else (if 0 ≤ s0 then 0 else (if (h.I (a0 + 27) (Int32.toNatClampNeg x5)) = 1 then 1 else 0)))))) → z_Ct l G m_X13_goesNext [.ref a0, .ref (a0 + 26), .int (h.I a0 41)] h (z_Qi (fun x_9 h_10 => z_V l G m_X13_leads (z_Fm G m_X13_leads Q) 0 0 h_10 41 [some (.ref a0), some (.int x1), some (.int x2), some (.int v_1), some (.int v_7), some (.int (x5 + 1)), none, none] []))) : z_V l G m_X13_leads (z_Fm G m_X13_leads Q) 0 0 h 141 [some (.ref a0), some (.int x1), some (.int x2), some (.int x3), some (.int x4), some (.int x5), some (.int x6), none] [.int s0] := by
  refine z_istore (q := 143) (i := 7) (ls2 := [some (.ref a0), some (.int x1), some (.int x2), some (.int x3), some (.int x4), some (.int x5), some (.int x6), some (.int s0)]) (x := s0) dX13_leads_141 (z_lt rfl) rfl rfl ?_
  refine z_iload_n (q := 144) (i := 3) (x := x3) dX13_leads_143 rfl rfl rfl ?_
  refine z_iload (q := 146) (i := 6) (x := x6) dX13_leads_144 rfl rfl ?_
  have hk : z_V l G m_X13_leads (z_Fm G m_X13_leads Q) 0 0 h 159 [some (.ref a0), some (.int x1), some (.int x2), some (.int x3), some (.int x4), some (.int x5), some (.int x6), some (.int s0)] [.int (if x6 = 0 then 0 else (if s0 = 0 then 0 else 1)), .int x3] := by
    refine z_iadd (q := 160) dX13_leads_159 rfl ?_
    refine z_nmI (fun v_1 hv_2 => ?_)
    have hf := hf v_1 hv_2
    refine z_istore_n (q := 161) (i := 3) (ls2 := [some (.ref a0), some (.int x1), some (.int x2), some (.int v_1), some (.int x4), some (.int x5), some (.int x6), some (.int s0)]) (x := v_1) dX13_leads_160 rfl (z_lt rfl) rfl rfl ?_
    refine z_iload (q := 163) (i := 4) (x := x4) dX13_leads_161 rfl rfl ?_
    refine z_iload (q := 165) (i := 6) (x := x6) dX13_leads_163 rfl rfl ?_
    obtain ⟨g_3, hf⟩ := hf
    obtain ⟨hsc, hf⟩ := hf
    have hk : z_V l G m_X13_leads (z_Fm G m_X13_leads Q) 0 0 h 204 [some (.ref a0), some (.int x1), some (.int x2), some (.int v_1), some (.int x4), some (.int x5), some (.int x6), some (.int s0)] [.int (if x6 = 0 then 0 else (if s0 ≤ 0 then (if 0 ≤ s0 then 0 else (if (h.I (a0 + 27) (Int32.toNatClampNeg x5)) = 1 then 1 else 0)) else (if (h.I (a0 + 27) (Int32.toNatClampNeg x5)) = 0 then 1 else (if 0 ≤ s0 then 0 else (if (h.I (a0 + 27) (Int32.toNatClampNeg x5)) = 1 then 1 else 0))))), .int x4] := by
      refine z_iadd (q := 205) dX13_leads_204 rfl ?_
      refine z_nmI (fun v_7 hv_8 => ?_)
      have hf := hf v_7 hv_8
      refine z_istore (q := 207) (i := 4) (ls2 := [some (.ref a0), some (.int x1), some (.int x2), some (.int v_1), some (.int v_7), some (.int x5), some (.int x6), some (.int s0)]) (x := v_7) dX13_leads_205 (z_lt rfl) rfl rfl ?_
      refine z_aload_n (q := 208) (i := 0) (x := a0) dX13_leads_207 rfl rfl rfl ?_
      refine z_aload_n (q := 209) (i := 0) (x := a0) dX13_leads_208 rfl rfl rfl ?_
      refine z_get 11 40 (q := 212) (v := .ref (a0 + 26)) rfl (z_lt rfl) (z_L11_T g_3) q1798 dX13_leads_209 rfl (z_fvR (fun _ _ _ => rfl) (z_L11_P40 g_3)) ?_
      refine z_aload_n (q := 213) (i := 0) (x := a0) dX13_leads_212 rfl rfl rfl ?_
      refine z_get 11 41 (q := 216) (v := .int (h.I a0 41)) rfl (z_lt rfl) (z_L11_T g_3) q1799 dX13_leads_213 rfl rfl ?_
      refine z_cVi m_X13_goesNext [.ref (a0 + 26), .int (h.I a0 41)] (a0) (q := 219) (rc2 := 0) (rs2 := 0) (st := []) dX13_leads_216 rfl q2207 oV_X13_goesNext rfl rfl ⟨z_le rfl, z_le rfl⟩ (z_le rfl) (z_rcv_of 11 rfl (z_L11_T g_3) rfl) rfl  rfl hf (fun x_9 h_10 hf => ?_)
      refine z_pop (q := 220) dX13_leads_219 rfl rfl ?_
      refine z_iinc (q := 223) (i := 5) (x := x5) (v := (x5 + 1)) (ls2 := [some (.ref a0), some (.int x1), some (.int x2), some (.int v_1), some (.int v_7), some (.int (x5 + 1)), some (.int x6), some (.int s0)]) dX13_leads_220 rfl rfl (z_lt rfl) rfl rfl ?_
      refine z_goto (q := 41) dX13_leads_223 rfl ?_
      refine z_prune [true, true, true, true, true, true, false, false] (ls2 := [some (.ref a0), some (.int x1), some (.int x2), some (.int v_1), some (.int v_7), some (.int (x5 + 1)), none, none]) rfl ?_
      exact hf
    refine z_if_eq (q := 168) (tgt := 203) dX13_leads_165 rfl rfl (fun hc => ?_) (fun hc => ?_)
    · have hk := (z_ite hk).1 hc
      have hsc := hsc.1 hc
      refine z_iconst (q := 204) (v := 0) dX13_leads_203 rfl rfl ?_
      exact hk
    · have hk := (z_ite hk).2 hc
      have hsc := hsc.2 hc
      refine z_iload (q := 170) (i := 7) (x := s0) dX13_leads_168 rfl rfl ?_
      refine z_if_le (q := 173) (tgt := 183) dX13_leads_170 rfl rfl (fun hc => ?_) (fun hc => ?_)
      · have hk := (z_ite hk).1 hc
        have hsc := hsc.1 hc
        refine z_iload (q := 185) (i := 7) (x := s0) dX13_leads_183 rfl rfl ?_
        refine z_if_ge (q := 188) (tgt := 203) dX13_leads_185 rfl rfl (fun hc => ?_) (fun hc => ?_)
        · have hk := (z_ite hk).1 hc
          have hsc := hsc.1 hc
          refine z_iconst (q := 204) (v := 0) dX13_leads_203 rfl rfl ?_
          exact hk
        · have hk := (z_ite hk).2 hc
          have hsc := hsc.2 hc
          obtain ⟨g_4, hsc⟩ := hsc
          refine z_aload_n (q := 189) (i := 0) (x := a0) dX13_leads_188 rfl rfl rfl ?_
          refine z_get 11 42 (q := 192) (v := .ref (a0 + 27)) rfl (z_lt rfl) (z_L11_T g_3) q1800 dX13_leads_189 rfl (z_fvR (fun _ _ _ => rfl) (z_L11_P42 g_3)) ?_
          refine z_iload (q := 194) (i := 5) (x := x5) dX13_leads_192 rfl rfl ?_
          refine z_iald (q := 195) (n := 20000) (z_L11_A42 g_3) g_4 dX13_leads_194 rfl ?_
          refine z_iconst (q := 196) (v := 1) dX13_leads_195 rfl rfl ?_
          refine z_icmp_ne (q := 199) (tgt := 203) dX13_leads_196 rfl rfl (fun hc => ?_) (fun hc => ?_)
          · have hk := (z_ite hk).2 hc
            refine z_iconst (q := 204) (v := 0) dX13_leads_203 rfl rfl ?_
            exact hk
          · have hk := (z_ite hk).1 hc
            refine z_iconst (q := 200) (v := 1) dX13_leads_199 rfl rfl ?_
            refine z_goto (q := 204) dX13_leads_200 rfl ?_
            exact hk
      · have hk := (z_ite hk).2 hc
        have hsc := hsc.2 hc
        obtain ⟨g_5, hsc⟩ := hsc
        refine z_aload_n (q := 174) (i := 0) (x := a0) dX13_leads_173 rfl rfl rfl ?_
        refine z_get 11 42 (q := 177) (v := .ref (a0 + 27)) rfl (z_lt rfl) (z_L11_T g_3) q1800 dX13_leads_174 rfl (z_fvR (fun _ _ _ => rfl) (z_L11_P42 g_3)) ?_
        refine z_iload (q := 179) (i := 5) (x := x5) dX13_leads_177 rfl rfl ?_
        refine z_iald (q := 180) (n := 20000) (z_L11_A42 g_3) g_5 dX13_leads_179 rfl ?_
        refine z_if_eq (q := 183) (tgt := 199) dX13_leads_180 rfl rfl (fun hc => ?_) (fun hc => ?_)
        · have hk := (z_ite hk).1 hc
          have hsc := hsc.1 hc
          refine z_iconst (q := 200) (v := 1) dX13_leads_199 rfl rfl ?_
          refine z_goto (q := 204) dX13_leads_200 rfl ?_
          exact hk
        · have hk := (z_ite hk).2 hc
          have hsc := hsc.2 hc
          refine z_iload (q := 185) (i := 7) (x := s0) dX13_leads_183 rfl rfl ?_
          refine z_if_ge (q := 188) (tgt := 203) dX13_leads_185 rfl rfl (fun hc => ?_) (fun hc => ?_)
          · have hk := (z_ite hk).1 hc
            have hsc := hsc.1 hc
            refine z_iconst (q := 204) (v := 0) dX13_leads_203 rfl rfl ?_
            exact hk
          · have hk := (z_ite hk).2 hc
            have hsc := hsc.2 hc
            obtain ⟨g_6, hsc⟩ := hsc
            refine z_aload_n (q := 189) (i := 0) (x := a0) dX13_leads_188 rfl rfl rfl ?_
            refine z_get 11 42 (q := 192) (v := .ref (a0 + 27)) rfl (z_lt rfl) (z_L11_T g_3) q1800 dX13_leads_189 rfl (z_fvR (fun _ _ _ => rfl) (z_L11_P42 g_3)) ?_
            refine z_iload (q := 194) (i := 5) (x := x5) dX13_leads_192 rfl rfl ?_
            refine z_iald (q := 195) (n := 20000) (z_L11_A42 g_3) g_6 dX13_leads_194 rfl ?_
            refine z_iconst (q := 196) (v := 1) dX13_leads_195 rfl rfl ?_
            refine z_icmp_ne (q := 199) (tgt := 203) dX13_leads_196 rfl rfl (fun hc => ?_) (fun hc => ?_)
            · have hk := (z_ite hk).2 hc
              refine z_iconst (q := 204) (v := 0) dX13_leads_203 rfl rfl ?_
              exact hk
            · have hk := (z_ite hk).1 hc
              refine z_iconst (q := 200) (v := 1) dX13_leads_199 rfl rfl ?_
              refine z_goto (q := 204) dX13_leads_200 rfl ?_
              exact hk
  refine z_if_eq (q := 149) (tgt := 158) dX13_leads_146 rfl rfl (fun hc => ?_) (fun hc => ?_)
  · have hk := (z_ite hk).1 hc
    refine z_iconst (q := 159) (v := 0) dX13_leads_158 rfl rfl ?_
    exact hk
  · have hk := (z_ite hk).2 hc
    refine z_iload (q := 151) (i := 7) (x := s0) dX13_leads_149 rfl rfl ?_
    refine z_if_eq (q := 154) (tgt := 158) dX13_leads_151 rfl rfl (fun hc => ?_) (fun hc => ?_)
    · have hk := (z_ite hk).1 hc
      refine z_iconst (q := 159) (v := 0) dX13_leads_158 rfl rfl ?_
      exact hk
    · have hk := (z_ite hk).2 hc
      refine z_iconst (q := 155) (v := 1) dX13_leads_154 rfl rfl ?_
      refine z_goto (q := 159) dX13_leads_155 rfl ?_
      exact hk

theorem u_X13_looked {l : Launch} {G : z_G} {a0 : Nat} {x1 : Int32} {x2 : Int32} {x3 : Int32} {h : z_H} {Q : z_Q} (hst : l.stackTraces = false)  (hf : z_L11 h a0 ∧ z_Ct l G m_X13_within [.int x1, .int 0, .int 9999] (h.sI a0 0 0) (z_Qi (fun x_2 h_3 => (x_2 = 0 → Q (some (.int (-1))) h_3) ∧ (¬ x_2 = 0 → z_Ct l G m_X13_within [.int x2, .int 1, .int 200] h_3 (z_Qi (fun x_4 h_5 => (x_4 = 0 → Q (some (.int (-1))) h_5) ∧ (¬ x_4 = 0 → (x3 < (-1) → Q (some (.int (-1))) h_5) ∧ (¬ x3 < (-1) → z_L11 h_5 a0 ∧ z_Ct l G m_X13_cards [.ref a0, .int 0] h_5 (z_Qi (fun x_7 h_8 => (x_7 = 0 → Q (some (.int (-1))) h_8) ∧ (¬ x_7 = 0 → z_L11 h_8 a0 ∧ z_V l G m_X13_looked (z_Fm G m_X13_looked Q) 0 0 (h_8.sL a0 55 (Int32.toInt64 x1)) 51 [some (.ref a0), none, some (.int x2), some (.int x3), some (.int 0)] []))))))))))) : z_Ct l G m_X13_looked [.ref a0, .int x1, .int x2, .int x3] h Q := by
  refine z_Ct.of (ls := [some (.ref a0), some (.int x1), some (.int x2), some (.int x3), none]) hst rfl (by show plainName yX13_looked.cls = true; decide +kernel) (z_le rfl) rfl ?_
  show z_V l G m_X13_looked (z_Fm G m_X13_looked Q) 0 0 h 0 [some (.ref a0), some (.int x1), some (.int x2), some (.int x3), none] []
  refine z_aload_n (q := 1) (i := 0) (x := a0) dX13_looked_0 rfl rfl rfl ?_
  refine z_iconst (q := 2) (v := 0) dX13_looked_1 rfl rfl ?_
  obtain ⟨g_1, hf⟩ := hf
  refine z_putI 11 0 (q := 5) (x := 0) (v := .int 0) rfl (z_lt rfl) (z_L11_T g_1) q1758 rfl dX13_looked_2 rfl rfl rfl rfl (fun _ _ _ => rfl) ?_
  refine z_iload_n (q := 6) (i := 1) (x := x1) dX13_looked_5 rfl rfl rfl ?_
  refine z_iconst (q := 7) (v := 0) dX13_looked_6 rfl rfl ?_
  refine z_sipush (q := 10) (v := 9999) dX13_looked_7 (by decide) rfl ?_
  refine z_cSi m_X13_within [.int x1, .int 0, .int 9999] (q := 13) (rc2 := 0) (rs2 := 0) (st := []) dX13_looked_10 rfl q2074 oS_X13_within rfl rfl ⟨z_le rfl, z_le rfl⟩ (z_le rfl) rfl  rfl hf (fun x_2 h_3 hf => ?_)
  refine z_if_eq (q := 16) (tgt := 40) dX13_looked_13 rfl rfl (fun hc => ?_) (fun hc => ?_)
  · have hf := hf.1 hc
    refine z_iconst (q := 41) (v := (-1)) dX13_looked_40 rfl rfl ?_
    exact z_iret dX13_looked_41 rfl hf
  · have hf := hf.2 hc
    refine z_iload_n (q := 17) (i := 2) (x := x2) dX13_looked_16 rfl rfl rfl ?_
    refine z_iconst (q := 18) (v := 1) dX13_looked_17 rfl rfl ?_
    refine z_sipush (q := 21) (v := 200) dX13_looked_18 (by decide) rfl ?_
    refine z_cSi m_X13_within [.int x2, .int 1, .int 200] (q := 24) (rc2 := 0) (rs2 := 0) (st := []) dX13_looked_21 rfl q2074 oS_X13_within rfl rfl ⟨z_le rfl, z_le rfl⟩ (z_le rfl) rfl  rfl hf (fun x_4 h_5 hf => ?_)
    refine z_if_eq (q := 27) (tgt := 40) dX13_looked_24 rfl rfl (fun hc => ?_) (fun hc => ?_)
    · have hf := hf.1 hc
      refine z_iconst (q := 41) (v := (-1)) dX13_looked_40 rfl rfl ?_
      exact z_iret dX13_looked_41 rfl hf
    · have hf := hf.2 hc
      refine z_iload_n (q := 28) (i := 3) (x := x3) dX13_looked_27 rfl rfl rfl ?_
      refine z_iconst (q := 29) (v := (-1)) dX13_looked_28 rfl rfl ?_
      refine z_icmp_lt (q := 32) (tgt := 40) dX13_looked_29 rfl rfl (fun hc => ?_) (fun hc => ?_)
      · have hf := hf.1 hc
        refine z_iconst (q := 41) (v := (-1)) dX13_looked_40 rfl rfl ?_
        exact z_iret dX13_looked_41 rfl hf
      · have hf := hf.2 hc
        refine z_aload_n (q := 33) (i := 0) (x := a0) dX13_looked_32 rfl rfl rfl ?_
        refine z_iconst (q := 34) (v := 0) dX13_looked_33 rfl rfl ?_
        obtain ⟨g_6, hf⟩ := hf
        refine z_cVi m_X13_cards [.int 0] (a0) (q := 37) (rc2 := 0) (rs2 := 0) (st := []) dX13_looked_34 rfl q1990 oV_X13_cards rfl rfl ⟨z_le rfl, z_le rfl⟩ (z_le rfl) (z_rcv_of 11 rfl (z_L11_T g_6) rfl) rfl  rfl hf (fun x_7 h_8 hf => ?_)
        refine z_if_ne (q := 40) (tgt := 42) dX13_looked_37 rfl rfl (fun hc => ?_) (fun hc => ?_)
        · have hf := hf.2 hc
          refine z_aload_n (q := 43) (i := 0) (x := a0) dX13_looked_42 rfl rfl rfl ?_
          refine z_iload_n (q := 44) (i := 1) (x := x1) dX13_looked_43 rfl rfl rfl ?_
          refine z_i2l (q := 45) dX13_looked_44 rfl ?_
          obtain ⟨g_9, hf⟩ := hf
          refine z_putL 11 55 (q := 48) (x := (Int32.toInt64 x1)) (v := .long (Int32.toInt64 x1)) rfl (z_lt rfl) (z_L11_T g_9) q1813 rfl dX13_looked_45 rfl rfl rfl rfl (fun _ _ _ => rfl) ?_
          refine z_iconst (q := 49) (v := 0) dX13_looked_48 rfl rfl ?_
          refine z_istore (q := 51) (i := 4) (ls2 := [some (.ref a0), some (.int x1), some (.int x2), some (.int x3), some (.int 0)]) (x := 0) dX13_looked_49 (z_lt rfl) rfl rfl ?_
          refine z_prune [true, false, true, true, true] (ls2 := [some (.ref a0), none, some (.int x2), some (.int x3), some (.int 0)]) rfl ?_
          exact hf
        · have hf := hf.1 hc
          refine z_iconst (q := 41) (v := (-1)) dX13_looked_40 rfl rfl ?_
          exact z_iret dX13_looked_41 rfl hf

theorem b_X13_looked_51 {l : Launch} {G : z_G} {a0 : Nat} {x2 : Int32} {x3 : Int32} {x4 : Int32} {h : z_H} {Q : z_Q}  (hf : (x2 ≤ x4 → Q (some (.int (-1))) h) ∧ (¬ x2 ≤ x4 → z_L11 h a0 ∧ z_Ct l G m_X13_runsDrawn [.ref a0] h (z_Qv (fun h_2 => z_L11 h_2 a0 ∧ ((h_2.I a0 36) = 2 → ((x3 = (-1) → True) ∧ (¬ x3 = (-1) → ((h_2.I a0 41) ≤ x3 → True) ∧ (¬ (h_2.I a0 41) ≤ x3 → vp_in x3 24 ∧ True))) ∧ Q (some (.int (if x3 = (-1) then x4 else (if (h_2.I a0 41) ≤ x3 then (-1) else (h_2.I (a0 + 26) (Int32.toNatClampNeg x3)))))) h_2) ∧ (¬ (h_2.I a0 36) = 2 → z_V l G m_X13_looked (z_Fm G m_X13_looked Q) 0 0 h_2 51 [some (.ref a0), none, some (.int x2), some (.int x3), some (.int (x4 + 1))] []))))) : z_V l G m_X13_looked (z_Fm G m_X13_looked Q) 0 0 h 51 [some (.ref a0), none, some (.int x2), some (.int x3), some (.int x4)] [] := by
  refine z_iload (q := 53) (i := 4) (x := x4) dX13_looked_51 rfl rfl ?_
  refine z_iload_n (q := 54) (i := 2) (x := x2) dX13_looked_53 rfl rfl rfl ?_
  refine z_icmp_ge (q := 57) (tgt := 104) dX13_looked_54 rfl rfl (fun hc => ?_) (fun hc => ?_)
  · have hf := hf.1 hc
    refine z_iconst (q := 105) (v := (-1)) dX13_looked_104 rfl rfl ?_
    exact z_iret dX13_looked_105 rfl hf
  · have hf := hf.2 hc
    refine z_aload_n (q := 58) (i := 0) (x := a0) dX13_looked_57 rfl rfl rfl ?_
    obtain ⟨g_1, hf⟩ := hf
    refine z_cVv m_X13_runsDrawn [] (a0) (q := 61) (rc2 := 0) (rs2 := 0) (st := []) dX13_looked_58 rfl q2341 oV_X13_runsDrawn rfl rfl ⟨z_le rfl, z_le rfl⟩ (z_le rfl) (z_rcv_of 11 rfl (z_L11_T g_1) rfl) rfl  rfl hf (fun h_2 hf => ?_)
    refine z_aload_n (q := 62) (i := 0) (x := a0) dX13_looked_61 rfl rfl rfl ?_
    obtain ⟨g_3, hf⟩ := hf
    refine z_get 11 36 (q := 65) (v := .int (h_2.I a0 36)) rfl (z_lt rfl) (z_L11_T g_3) q1794 dX13_looked_62 rfl rfl ?_
    refine z_iconst (q := 66) (v := 2) dX13_looked_65 rfl rfl ?_
    refine z_icmp_ne (q := 69) (tgt := 98) dX13_looked_66 rfl rfl (fun hc => ?_) (fun hc => ?_)
    · have hf := hf.2 hc
      refine z_iinc (q := 101) (i := 4) (x := x4) (v := (x4 + 1)) (ls2 := [some (.ref a0), none, some (.int x2), some (.int x3), some (.int (x4 + 1))]) dX13_looked_98 rfl rfl (z_lt rfl) rfl rfl ?_
      refine z_goto (q := 51) dX13_looked_101 rfl ?_
      exact hf
    · have hf := hf.1 hc
      refine z_iload_n (q := 70) (i := 3) (x := x3) dX13_looked_69 rfl rfl rfl ?_
      refine z_iconst (q := 71) (v := (-1)) dX13_looked_70 rfl rfl ?_
      obtain ⟨hsc, hf⟩ := hf
      have hk : z_V l G m_X13_looked (z_Fm G m_X13_looked Q) 0 0 h_2 97 [some (.ref a0), none, some (.int x2), some (.int x3), some (.int x4)] [.int (if x3 = (-1) then x4 else (if (h_2.I a0 41) ≤ x3 then (-1) else (h_2.I (a0 + 26) (Int32.toNatClampNeg x3))))] := by
        exact z_iret dX13_looked_97 rfl hf
      refine z_icmp_ne (q := 74) (tgt := 79) dX13_looked_71 rfl rfl (fun hc => ?_) (fun hc => ?_)
      · have hk := (z_ite hk).2 hc
        have hsc := hsc.2 hc
        refine z_iload_n (q := 80) (i := 3) (x := x3) dX13_looked_79 rfl rfl rfl ?_
        refine z_aload_n (q := 81) (i := 0) (x := a0) dX13_looked_80 rfl rfl rfl ?_
        refine z_get 11 41 (q := 84) (v := .int (h_2.I a0 41)) rfl (z_lt rfl) (z_L11_T g_3) q1799 dX13_looked_81 rfl rfl ?_
        refine z_icmp_ge (q := 87) (tgt := 96) dX13_looked_84 rfl rfl (fun hc => ?_) (fun hc => ?_)
        · have hk := (z_ite hk).1 hc
          have hsc := hsc.1 hc
          refine z_iconst (q := 97) (v := (-1)) dX13_looked_96 rfl rfl ?_
          exact hk
        · have hk := (z_ite hk).2 hc
          have hsc := hsc.2 hc
          obtain ⟨g_4, hsc⟩ := hsc
          refine z_aload_n (q := 88) (i := 0) (x := a0) dX13_looked_87 rfl rfl rfl ?_
          refine z_get 11 40 (q := 91) (v := .ref (a0 + 26)) rfl (z_lt rfl) (z_L11_T g_3) q1798 dX13_looked_88 rfl (z_fvR (fun _ _ _ => rfl) (z_L11_P40 g_3)) ?_
          refine z_iload_n (q := 92) (i := 3) (x := x3) dX13_looked_91 rfl rfl rfl ?_
          refine z_iald (q := 93) (n := 24) (z_L11_A40 g_3) g_4 dX13_looked_92 rfl ?_
          refine z_goto (q := 97) dX13_looked_93 rfl ?_
          exact hk
      · have hk := (z_ite hk).1 hc
        have hsc := hsc.1 hc
        refine z_iload (q := 76) (i := 4) (x := x4) dX13_looked_74 rfl rfl ?_
        refine z_goto (q := 97) dX13_looked_76 rfl ?_
        exact hk

theorem u_X13_mark {l : Launch} {G : z_G} {a0 : Nat} {x1 : Int32} {x2 : Int32} {h : z_H} {Q : z_Q} (hst : l.stackTraces = false)  (hf : z_L11 h a0 ∧ z_Ct l G m_X13_within [.int x1, .int 0, .int 3] (h.sI a0 0 0) (z_Qi (fun x_2 h_3 => (x_2 = 0 → Q (some (.int 0)) h_3) ∧ (¬ x_2 = 0 → (x2 = 0 → (x2 = 0 → z_L11 h_3 a0 ∧ vp_in x1 4 ∧ z_Ct l G m_X13_copies [.ref a0, .int 0, .int (460 * (1 + x1)), .int 460] (h_3.sI (a0 + 17) (Int32.toNatClampNeg x1) 1) (z_Qv (fun h_7 => Q (some (.int 1)) h_7))) ∧ (¬ x2 = 0 → z_L11 h_3 a0 ∧ z_Ct l G m_X13_copies [.ref a0, .int (460 * (1 + x1)), .int 0, .int 460] h_3 (z_Qv (fun h_9 => z_L11 h_9 a0 ∧ Q (some (.int 1)) (h_9.sI a0 23 0))))) ∧ (¬ x2 = 0 → z_L11 h_3 a0 ∧ vp_in x1 4 ∧ ((h_3.I (a0 + 17) (Int32.toNatClampNeg x1)) = 0 → Q (some (.int 0)) h_3) ∧ (¬ (h_3.I (a0 + 17) (Int32.toNatClampNeg x1)) = 0 → (x2 = 0 → vp_in x1 4 ∧ z_Ct l G m_X13_copies [.ref a0, .int 0, .int (460 * (1 + x1)), .int 460] (h_3.sI (a0 + 17) (Int32.toNatClampNeg x1) 1) (z_Qv (fun h_14 => Q (some (.int 1)) h_14))) ∧ (¬ x2 = 0 → z_Ct l G m_X13_copies [.ref a0, .int (460 * (1 + x1)), .int 0, .int 460] h_3 (z_Qv (fun h_15 => z_L11 h_15 a0 ∧ Q (some (.int 1)) (h_15.sI a0 23 0)))))))))) : z_Ct l G m_X13_mark [.ref a0, .int x1, .int x2] h Q := by
  refine z_Ct.of (ls := [some (.ref a0), some (.int x1), some (.int x2)]) hst rfl (by show plainName yX13_mark.cls = true; decide +kernel) (z_le rfl) rfl ?_
  show z_V l G m_X13_mark (z_Fm G m_X13_mark Q) 0 0 h 0 [some (.ref a0), some (.int x1), some (.int x2)] []
  refine z_aload_n (q := 1) (i := 0) (x := a0) dX13_mark_0 rfl rfl rfl ?_
  refine z_iconst (q := 2) (v := 0) dX13_mark_1 rfl rfl ?_
  obtain ⟨g_1, hf⟩ := hf
  refine z_putI 11 0 (q := 5) (x := 0) (v := .int 0) rfl (z_lt rfl) (z_L11_T g_1) q1758 rfl dX13_mark_2 rfl rfl rfl rfl (fun _ _ _ => rfl) ?_
  refine z_iload_n (q := 6) (i := 1) (x := x1) dX13_mark_5 rfl rfl rfl ?_
  refine z_iconst (q := 7) (v := 0) dX13_mark_6 rfl rfl ?_
  refine z_iconst (q := 8) (v := 3) dX13_mark_7 rfl rfl ?_
  refine z_cSi m_X13_within [.int x1, .int 0, .int 3] (q := 11) (rc2 := 0) (rs2 := 0) (st := []) dX13_mark_8 rfl q2074 oS_X13_within rfl rfl ⟨z_le rfl, z_le rfl⟩ (z_le rfl) rfl  rfl hf (fun x_2 h_3 hf => ?_)
  refine z_if_eq (q := 14) (tgt := 27) dX13_mark_11 rfl rfl (fun hc => ?_) (fun hc => ?_)
  · have hf := hf.1 hc
    refine z_iconst (q := 28) (v := 0) dX13_mark_27 rfl rfl ?_
    exact z_zret dX13_mark_28 rfl (z_nb01 z_b0) hf
  · have hf := hf.2 hc
    refine z_iload_n (q := 15) (i := 2) (x := x2) dX13_mark_14 rfl rfl rfl ?_
    refine z_if_eq (q := 18) (tgt := 29) dX13_mark_15 rfl rfl (fun hc => ?_) (fun hc => ?_)
    · have hf := hf.1 hc
      refine z_iload_n (q := 30) (i := 2) (x := x2) dX13_mark_29 rfl rfl rfl ?_
      refine z_if_eq (q := 33) (tgt := 56) dX13_mark_30 rfl rfl (fun hc => ?_) (fun hc => ?_)
      · have hf := hf.1 hc
        refine z_aload_n (q := 57) (i := 0) (x := a0) dX13_mark_56 rfl rfl rfl ?_
        obtain ⟨g_5, hf⟩ := hf
        refine z_get 11 24 (q := 60) (v := .ref (a0 + 17)) rfl (z_lt rfl) (z_L11_T g_5) q1782 dX13_mark_57 rfl (z_fvR (fun _ _ _ => rfl) (z_L11_P24 g_5)) ?_
        refine z_iload_n (q := 61) (i := 1) (x := x1) dX13_mark_60 rfl rfl rfl ?_
        refine z_iconst (q := 62) (v := 1) dX13_mark_61 rfl rfl ?_
        obtain ⟨g_6, hf⟩ := hf
        refine z_zast (q := 63) (n := 4) (y := 1) (z_L11_A24 g_5) g_6 rfl dX13_mark_62 rfl ?_
        refine z_aload_n (q := 64) (i := 0) (x := a0) dX13_mark_63 rfl rfl rfl ?_
        refine z_iconst (q := 65) (v := 0) dX13_mark_64 rfl rfl ?_
        refine z_sipush (q := 68) (v := 460) dX13_mark_65 (by decide) rfl ?_
        refine z_iconst (q := 69) (v := 1) dX13_mark_68 rfl rfl ?_
        refine z_iload_n (q := 70) (i := 1) (x := x1) dX13_mark_69 rfl rfl rfl ?_
        refine z_iadd (q := 71) dX13_mark_70 rfl ?_
        refine z_imul (q := 72) dX13_mark_71 rfl ?_
        refine z_sipush (q := 75) (v := 460) dX13_mark_72 (by decide) rfl ?_
        refine z_cVv m_X13_copies [.int 0, .int (460 * (1 + x1)), .int 460] (a0) (q := 78) (rc2 := 0) (rs2 := 0) (st := []) dX13_mark_75 rfl q2104 oV_X13_copies rfl rfl ⟨z_le rfl, z_le rfl⟩ (z_le rfl) (z_rcv_of 11 rfl (z_L11_T g_5) rfl) rfl  rfl hf (fun h_7 hf => ?_)
        refine z_iconst (q := 79) (v := 1) dX13_mark_78 rfl rfl ?_
        exact z_zret dX13_mark_79 rfl (z_nb01 z_b1) hf
      · have hf := hf.2 hc
        refine z_aload_n (q := 34) (i := 0) (x := a0) dX13_mark_33 rfl rfl rfl ?_
        refine z_sipush (q := 37) (v := 460) dX13_mark_34 (by decide) rfl ?_
        refine z_iconst (q := 38) (v := 1) dX13_mark_37 rfl rfl ?_
        refine z_iload_n (q := 39) (i := 1) (x := x1) dX13_mark_38 rfl rfl rfl ?_
        refine z_iadd (q := 40) dX13_mark_39 rfl ?_
        refine z_imul (q := 41) dX13_mark_40 rfl ?_
        refine z_iconst (q := 42) (v := 0) dX13_mark_41 rfl rfl ?_
        refine z_sipush (q := 45) (v := 460) dX13_mark_42 (by decide) rfl ?_
        obtain ⟨g_8, hf⟩ := hf
        refine z_cVv m_X13_copies [.int (460 * (1 + x1)), .int 0, .int 460] (a0) (q := 48) (rc2 := 0) (rs2 := 0) (st := []) dX13_mark_45 rfl q2104 oV_X13_copies rfl rfl ⟨z_le rfl, z_le rfl⟩ (z_le rfl) (z_rcv_of 11 rfl (z_L11_T g_8) rfl) rfl  rfl hf (fun h_9 hf => ?_)
        refine z_aload_n (q := 49) (i := 0) (x := a0) dX13_mark_48 rfl rfl rfl ?_
        refine z_iconst (q := 50) (v := 0) dX13_mark_49 rfl rfl ?_
        obtain ⟨g_10, hf⟩ := hf
        refine z_putI 11 23 (q := 53) (x := 0) (v := .int 0) rfl (z_lt rfl) (z_L11_T g_10) q1781 rfl dX13_mark_50 rfl rfl rfl rfl (fun _ _ _ => rfl) ?_
        refine z_goto (q := 78) dX13_mark_53 rfl ?_
        refine z_iconst (q := 79) (v := 1) dX13_mark_78 rfl rfl ?_
        exact z_zret dX13_mark_79 rfl (z_nb01 z_b1) hf
    · have hf := hf.2 hc
      refine z_aload_n (q := 19) (i := 0) (x := a0) dX13_mark_18 rfl rfl rfl ?_
      obtain ⟨g_11, hf⟩ := hf
      refine z_get 11 24 (q := 22) (v := .ref (a0 + 17)) rfl (z_lt rfl) (z_L11_T g_11) q1782 dX13_mark_19 rfl (z_fvR (fun _ _ _ => rfl) (z_L11_P24 g_11)) ?_
      refine z_iload_n (q := 23) (i := 1) (x := x1) dX13_mark_22 rfl rfl rfl ?_
      obtain ⟨g_12, hf⟩ := hf
      refine z_zald (q := 24) (n := 4) (z_L11_A24 g_11) g_12 dX13_mark_23 rfl ?_
      refine z_if_ne (q := 27) (tgt := 29) dX13_mark_24 rfl rfl (fun hc => ?_) (fun hc => ?_)
      · have hf := hf.2 hc
        refine z_iload_n (q := 30) (i := 2) (x := x2) dX13_mark_29 rfl rfl rfl ?_
        refine z_if_eq (q := 33) (tgt := 56) dX13_mark_30 rfl rfl (fun hc => ?_) (fun hc => ?_)
        · have hf := hf.1 hc
          refine z_aload_n (q := 57) (i := 0) (x := a0) dX13_mark_56 rfl rfl rfl ?_
          refine z_get 11 24 (q := 60) (v := .ref (a0 + 17)) rfl (z_lt rfl) (z_L11_T g_11) q1782 dX13_mark_57 rfl (z_fvR (fun _ _ _ => rfl) (z_L11_P24 g_11)) ?_
          refine z_iload_n (q := 61) (i := 1) (x := x1) dX13_mark_60 rfl rfl rfl ?_
          refine z_iconst (q := 62) (v := 1) dX13_mark_61 rfl rfl ?_
          obtain ⟨g_13, hf⟩ := hf
          refine z_zast (q := 63) (n := 4) (y := 1) (z_L11_A24 g_11) g_13 rfl dX13_mark_62 rfl ?_
          refine z_aload_n (q := 64) (i := 0) (x := a0) dX13_mark_63 rfl rfl rfl ?_
          refine z_iconst (q := 65) (v := 0) dX13_mark_64 rfl rfl ?_
          refine z_sipush (q := 68) (v := 460) dX13_mark_65 (by decide) rfl ?_
          refine z_iconst (q := 69) (v := 1) dX13_mark_68 rfl rfl ?_
          refine z_iload_n (q := 70) (i := 1) (x := x1) dX13_mark_69 rfl rfl rfl ?_
          refine z_iadd (q := 71) dX13_mark_70 rfl ?_
          refine z_imul (q := 72) dX13_mark_71 rfl ?_
          refine z_sipush (q := 75) (v := 460) dX13_mark_72 (by decide) rfl ?_
          refine z_cVv m_X13_copies [.int 0, .int (460 * (1 + x1)), .int 460] (a0) (q := 78) (rc2 := 0) (rs2 := 0) (st := []) dX13_mark_75 rfl q2104 oV_X13_copies rfl rfl ⟨z_le rfl, z_le rfl⟩ (z_le rfl) (z_rcv_of 11 rfl (z_L11_T g_11) rfl) rfl  rfl hf (fun h_14 hf => ?_)
          refine z_iconst (q := 79) (v := 1) dX13_mark_78 rfl rfl ?_
          exact z_zret dX13_mark_79 rfl (z_nb01 z_b1) hf
        · have hf := hf.2 hc
          refine z_aload_n (q := 34) (i := 0) (x := a0) dX13_mark_33 rfl rfl rfl ?_
          refine z_sipush (q := 37) (v := 460) dX13_mark_34 (by decide) rfl ?_
          refine z_iconst (q := 38) (v := 1) dX13_mark_37 rfl rfl ?_
          refine z_iload_n (q := 39) (i := 1) (x := x1) dX13_mark_38 rfl rfl rfl ?_
          refine z_iadd (q := 40) dX13_mark_39 rfl ?_
          refine z_imul (q := 41) dX13_mark_40 rfl ?_
          refine z_iconst (q := 42) (v := 0) dX13_mark_41 rfl rfl ?_
          refine z_sipush (q := 45) (v := 460) dX13_mark_42 (by decide) rfl ?_
          refine z_cVv m_X13_copies [.int (460 * (1 + x1)), .int 0, .int 460] (a0) (q := 48) (rc2 := 0) (rs2 := 0) (st := []) dX13_mark_45 rfl q2104 oV_X13_copies rfl rfl ⟨z_le rfl, z_le rfl⟩ (z_le rfl) (z_rcv_of 11 rfl (z_L11_T g_11) rfl) rfl  rfl hf (fun h_15 hf => ?_)
          refine z_aload_n (q := 49) (i := 0) (x := a0) dX13_mark_48 rfl rfl rfl ?_
          refine z_iconst (q := 50) (v := 0) dX13_mark_49 rfl rfl ?_
          obtain ⟨g_16, hf⟩ := hf
          refine z_putI 11 23 (q := 53) (x := 0) (v := .int 0) rfl (z_lt rfl) (z_L11_T g_16) q1781 rfl dX13_mark_50 rfl rfl rfl rfl (fun _ _ _ => rfl) ?_
          refine z_goto (q := 78) dX13_mark_53 rfl ?_
          refine z_iconst (q := 79) (v := 1) dX13_mark_78 rfl rfl ?_
          exact z_zret dX13_mark_79 rfl (z_nb01 z_b1) hf
      · have hf := hf.1 hc
        refine z_iconst (q := 28) (v := 0) dX13_mark_27 rfl rfl ?_
        exact z_zret dX13_mark_28 rfl (z_nb01 z_b0) hf

theorem u_X13_mustWin {l : Launch} {G : z_G} {d : Nat} {a0 : Nat} {x1 : Int32} {x2 : Int32} {h : z_H} {Q : z_Q} (hst : l.stackTraces = false)  (hf : z_L11 h a0 ∧ z_Ct l G m_X13_goesToHeap [.ref a0, .int x1] h (z_Qi (fun x_2 h_3 => (x_2 = 0 → z_L11 h_3 a0 ∧ vp_in (x1 + 8) 16560 ∧ Q (some (.int (if (h_3.I (a0 + 16) (Int32.toNatClampNeg (x1 + 8))) = 0 then 1 else 0))) h_3) ∧ (¬ x_2 = 0 → z_L11 h_3 a0 ∧ vp_in (x1 + 5) 16560 ∧ ∀ v_6 : Int32, v_6 = (if (h_3.I (a0 + 16) (Int32.toNatClampNeg (x1 + 5))) = 0 then 1 else 0) → ∀ v_8 : Int32, v_8 = (if x2 ≤ 0 then 0 else (if v_6 = 0 then 1 else 0)) → z_V l G (m_X13_mustWin (d + 1)) (z_Fm G (m_X13_mustWin (d + 1)) Q) 0 0 h_3 61 [some (.ref a0), some (.int x1), some (.int x2), some (.int v_6), some (.int v_8), some (.int 0)] [])))) : z_Ct l G (m_X13_mustWin (d + 1)) [.ref a0, .int x1, .int x2] h Q := by
  refine z_Ct.of (ls := [some (.ref a0), some (.int x1), some (.int x2), none, none, none]) hst rfl (by show plainName yX13_mustWin.cls = true; decide +kernel) (z_le rfl) rfl ?_
  show z_V l G (m_X13_mustWin (d + 1)) (z_Fm G (m_X13_mustWin (d + 1)) Q) 0 0 h 0 [some (.ref a0), some (.int x1), some (.int x2), none, none, none] []
  refine z_aload_n (q := 1) (i := 0) (x := a0) dX13_mustWin_0 rfl rfl rfl ?_
  refine z_iload_n (q := 2) (i := 1) (x := x1) dX13_mustWin_1 rfl rfl rfl ?_
  obtain ⟨g_1, hf⟩ := hf
  refine z_cVi m_X13_goesToHeap [.int x1] (a0) (q := 5) (rc2 := 0) (rs2 := 0) (st := []) dX13_mustWin_2 rfl q2289 oV_X13_goesToHeap rfl rfl (z_room_of (by first | exact z_le rfl | (simp only [z_M.d, z_M.nL, z_M.lo, m_X13_goesToHeap, m_X13_mustWin]; omega)) (by first | exact z_le rfl | (simp only [z_M.d, z_M.nL, z_M.lo, m_X13_goesToHeap, m_X13_mustWin]; omega))) (z_le rfl) (z_rcv_of 11 rfl (z_L11_T g_1) rfl) rfl  rfl hf (fun x_2 h_3 hf => ?_)
  refine z_if_ne (q := 8) (tgt := 26) dX13_mustWin_5 rfl rfl (fun hc => ?_) (fun hc => ?_)
  · have hf := hf.2 hc
    refine z_aload_n (q := 27) (i := 0) (x := a0) dX13_mustWin_26 rfl rfl rfl ?_
    obtain ⟨g_4, hf⟩ := hf
    refine z_get 11 22 (q := 30) (v := .ref (a0 + 16)) rfl (z_lt rfl) (z_L11_T g_4) q1780 dX13_mustWin_27 rfl (z_fvR (fun _ _ _ => rfl) (z_L11_P22 g_4)) ?_
    refine z_iload_n (q := 31) (i := 1) (x := x1) dX13_mustWin_30 rfl rfl rfl ?_
    refine z_iconst (q := 32) (v := 5) dX13_mustWin_31 rfl rfl ?_
    refine z_iadd (q := 33) dX13_mustWin_32 rfl ?_
    obtain ⟨g_5, hf⟩ := hf
    refine z_iald (q := 34) (n := 16560) (z_L11_A22 g_4) g_5 dX13_mustWin_33 rfl ?_
    have hk : z_V l G (m_X13_mustWin (d + 1)) (z_Fm G (m_X13_mustWin (d + 1)) Q) 0 0 h_3 42 [some (.ref a0), some (.int x1), some (.int x2), none, none, none] [.int (if (h_3.I (a0 + 16) (Int32.toNatClampNeg (x1 + 5))) = 0 then 1 else 0)] := by
      refine z_nmI (fun v_6 hv_7 => ?_)
      have hf := hf v_6 hv_7
      refine z_istore_n (q := 43) (i := 3) (ls2 := [some (.ref a0), some (.int x1), some (.int x2), some (.int v_6), none, none]) (x := v_6) dX13_mustWin_42 rfl (z_lt rfl) rfl rfl ?_
      refine z_iload_n (q := 44) (i := 2) (x := x2) dX13_mustWin_43 rfl rfl rfl ?_
      have hk : z_V l G (m_X13_mustWin (d + 1)) (z_Fm G (m_X13_mustWin (d + 1)) Q) 0 0 h_3 56 [some (.ref a0), some (.int x1), some (.int x2), some (.int v_6), none, none] [.int (if x2 ≤ 0 then 0 else (if v_6 = 0 then 1 else 0))] := by
        refine z_nmI (fun v_8 hv_9 => ?_)
        have hf := hf v_8 hv_9
        refine z_istore (q := 58) (i := 4) (ls2 := [some (.ref a0), some (.int x1), some (.int x2), some (.int v_6), some (.int v_8), none]) (x := v_8) dX13_mustWin_56 (z_lt rfl) rfl rfl ?_
        refine z_iconst (q := 59) (v := 0) dX13_mustWin_58 rfl rfl ?_
        refine z_istore (q := 61) (i := 5) (ls2 := [some (.ref a0), some (.int x1), some (.int x2), some (.int v_6), some (.int v_8), some (.int 0)]) (x := 0) dX13_mustWin_59 (z_lt rfl) rfl rfl ?_
        exact hf
      refine z_if_le (q := 47) (tgt := 55) dX13_mustWin_44 rfl rfl (fun hc => ?_) (fun hc => ?_)
      · have hk := (z_ite hk).1 hc
        refine z_iconst (q := 56) (v := 0) dX13_mustWin_55 rfl rfl ?_
        exact hk
      · have hk := (z_ite hk).2 hc
        refine z_iload_n (q := 48) (i := 3) (x := v_6) dX13_mustWin_47 rfl rfl rfl ?_
        refine z_if_ne (q := 51) (tgt := 55) dX13_mustWin_48 rfl rfl (fun hc => ?_) (fun hc => ?_)
        · have hk := (z_ite hk).2 hc
          refine z_iconst (q := 56) (v := 0) dX13_mustWin_55 rfl rfl ?_
          exact hk
        · have hk := (z_ite hk).1 hc
          refine z_iconst (q := 52) (v := 1) dX13_mustWin_51 rfl rfl ?_
          refine z_goto (q := 56) dX13_mustWin_52 rfl ?_
          exact hk
    refine z_if_ne (q := 37) (tgt := 41) dX13_mustWin_34 rfl rfl (fun hc => ?_) (fun hc => ?_)
    · have hk := (z_ite hk).2 hc
      refine z_iconst (q := 42) (v := 0) dX13_mustWin_41 rfl rfl ?_
      exact hk
    · have hk := (z_ite hk).1 hc
      refine z_iconst (q := 38) (v := 1) dX13_mustWin_37 rfl rfl ?_
      refine z_goto (q := 42) dX13_mustWin_38 rfl ?_
      exact hk
  · have hf := hf.1 hc
    refine z_aload_n (q := 9) (i := 0) (x := a0) dX13_mustWin_8 rfl rfl rfl ?_
    obtain ⟨g_10, hf⟩ := hf
    refine z_get 11 22 (q := 12) (v := .ref (a0 + 16)) rfl (z_lt rfl) (z_L11_T g_10) q1780 dX13_mustWin_9 rfl (z_fvR (fun _ _ _ => rfl) (z_L11_P22 g_10)) ?_
    refine z_iload_n (q := 13) (i := 1) (x := x1) dX13_mustWin_12 rfl rfl rfl ?_
    refine z_bipush (q := 15) (v := 8) dX13_mustWin_13 (by decide) rfl ?_
    refine z_iadd (q := 16) dX13_mustWin_15 rfl ?_
    obtain ⟨g_11, hf⟩ := hf
    refine z_iald (q := 17) (n := 16560) (z_L11_A22 g_10) g_11 dX13_mustWin_16 rfl ?_
    have hk : z_V l G (m_X13_mustWin (d + 1)) (z_Fm G (m_X13_mustWin (d + 1)) Q) 0 0 h_3 25 [some (.ref a0), some (.int x1), some (.int x2), none, none, none] [.int (if (h_3.I (a0 + 16) (Int32.toNatClampNeg (x1 + 8))) = 0 then 1 else 0)] := by
      exact z_zret dX13_mustWin_25 rfl (z_nb01 (z_bif z_b1 z_b0)) hf
    refine z_if_ne (q := 20) (tgt := 24) dX13_mustWin_17 rfl rfl (fun hc => ?_) (fun hc => ?_)
    · have hk := (z_ite hk).2 hc
      refine z_iconst (q := 25) (v := 0) dX13_mustWin_24 rfl rfl ?_
      exact hk
    · have hk := (z_ite hk).1 hc
      refine z_iconst (q := 21) (v := 1) dX13_mustWin_20 rfl rfl ?_
      refine z_goto (q := 25) dX13_mustWin_21 rfl ?_
      exact hk

theorem b_X13_mustWin_61 {l : Launch} {G : z_G} {d : Nat} {a0 : Nat} {x1 : Int32} {x2 : Int32} {x3 : Int32} {x4 : Int32} {x5 : Int32} {h : z_H} {Q : z_Q}  (hf : (5 ≤ x5 → (x4 = 0 ∨ x4 = 1) ∧ Q (some (.int x4)) h) ∧ (¬ 5 ≤ x5 → (x2 ≤ 0 → (x4 = 0 ∨ x4 = 1) ∧ Q (some (.int x4)) h) ∧ (¬ x2 ≤ 0 → (x4 = x3 → (x4 = 0 ∨ x4 = 1) ∧ Q (some (.int x4)) h) ∧ (¬ x4 = x3 → z_L11 h a0 ∧ z_Ct l G m_X13_copies [.ref a0, .int x1, .int (x1 + 460), .int 164] h (z_Qv (fun h_5 => z_L11 h_5 a0 ∧ z_Ct l G m_X13_takes [.ref a0, .int (x1 + 460), .int x5] h_5 (z_Qv (fun h_7 => z_L11 h_7 a0 ∧ z_Ct l G (m_X13_mustWin d) [.ref a0, .int (x1 + 460), .int (x2 - 1)] h_7 (z_Qi (fun x_9 h_10 => z_V l G (m_X13_mustWin (d + 1)) (z_Fm G (m_X13_mustWin (d + 1)) Q) 0 0 h_10 61 [some (.ref a0), some (.int x1), some (.int x2), some (.int x3), some (.int x_9), some (.int (x5 + 1))] [])))))))))) : z_V l G (m_X13_mustWin (d + 1)) (z_Fm G (m_X13_mustWin (d + 1)) Q) 0 0 h 61 [some (.ref a0), some (.int x1), some (.int x2), some (.int x3), some (.int x4), some (.int x5)] [] := by
  refine z_iload (q := 63) (i := 5) (x := x5) dX13_mustWin_61 rfl rfl ?_
  refine z_iconst (q := 64) (v := 5) dX13_mustWin_63 rfl rfl ?_
  refine z_icmp_ge (q := 67) (tgt := 121) dX13_mustWin_64 rfl rfl (fun hc => ?_) (fun hc => ?_)
  · have hf := hf.1 hc
    refine z_iload (q := 123) (i := 4) (x := x4) dX13_mustWin_121 rfl rfl ?_
    obtain ⟨g_1, hf⟩ := hf
    exact z_zret dX13_mustWin_123 rfl (z_nb01 g_1) hf
  · have hf := hf.2 hc
    refine z_iload_n (q := 68) (i := 2) (x := x2) dX13_mustWin_67 rfl rfl rfl ?_
    refine z_if_le (q := 71) (tgt := 121) dX13_mustWin_68 rfl rfl (fun hc => ?_) (fun hc => ?_)
    · have hf := hf.1 hc
      refine z_iload (q := 123) (i := 4) (x := x4) dX13_mustWin_121 rfl rfl ?_
      obtain ⟨g_2, hf⟩ := hf
      exact z_zret dX13_mustWin_123 rfl (z_nb01 g_2) hf
    · have hf := hf.2 hc
      refine z_iload (q := 73) (i := 4) (x := x4) dX13_mustWin_71 rfl rfl ?_
      refine z_iload_n (q := 74) (i := 3) (x := x3) dX13_mustWin_73 rfl rfl rfl ?_
      refine z_icmp_eq (q := 77) (tgt := 121) dX13_mustWin_74 rfl rfl (fun hc => ?_) (fun hc => ?_)
      · have hf := hf.1 hc
        refine z_iload (q := 123) (i := 4) (x := x4) dX13_mustWin_121 rfl rfl ?_
        obtain ⟨g_3, hf⟩ := hf
        exact z_zret dX13_mustWin_123 rfl (z_nb01 g_3) hf
      · have hf := hf.2 hc
        refine z_aload_n (q := 78) (i := 0) (x := a0) dX13_mustWin_77 rfl rfl rfl ?_
        refine z_iload_n (q := 79) (i := 1) (x := x1) dX13_mustWin_78 rfl rfl rfl ?_
        refine z_iload_n (q := 80) (i := 1) (x := x1) dX13_mustWin_79 rfl rfl rfl ?_
        refine z_sipush (q := 83) (v := 460) dX13_mustWin_80 (by decide) rfl ?_
        refine z_iadd (q := 84) dX13_mustWin_83 rfl ?_
        refine z_sipush (q := 87) (v := 164) dX13_mustWin_84 (by decide) rfl ?_
        obtain ⟨g_4, hf⟩ := hf
        refine z_cVv m_X13_copies [.int x1, .int (x1 + 460), .int 164] (a0) (q := 90) (rc2 := 0) (rs2 := 0) (st := []) dX13_mustWin_87 rfl q2104 oV_X13_copies rfl rfl (z_room_of (by first | exact z_le rfl | (simp only [z_M.d, z_M.nL, z_M.lo, m_X13_copies, m_X13_mustWin]; omega)) (by first | exact z_le rfl | (simp only [z_M.d, z_M.nL, z_M.lo, m_X13_copies, m_X13_mustWin]; omega))) (z_le rfl) (z_rcv_of 11 rfl (z_L11_T g_4) rfl) rfl  rfl hf (fun h_5 hf => ?_)
        refine z_aload_n (q := 91) (i := 0) (x := a0) dX13_mustWin_90 rfl rfl rfl ?_
        refine z_iload_n (q := 92) (i := 1) (x := x1) dX13_mustWin_91 rfl rfl rfl ?_
        refine z_sipush (q := 95) (v := 460) dX13_mustWin_92 (by decide) rfl ?_
        refine z_iadd (q := 96) dX13_mustWin_95 rfl ?_
        refine z_iload (q := 98) (i := 5) (x := x5) dX13_mustWin_96 rfl rfl ?_
        obtain ⟨g_6, hf⟩ := hf
        refine z_cVv m_X13_takes [.int (x1 + 460), .int x5] (a0) (q := 101) (rc2 := 0) (rs2 := 0) (st := []) dX13_mustWin_98 rfl q2132 oV_X13_takes rfl rfl (z_room_of (by first | exact z_le rfl | (simp only [z_M.d, z_M.nL, z_M.lo, m_X13_takes, m_X13_mustWin]; omega)) (by first | exact z_le rfl | (simp only [z_M.d, z_M.nL, z_M.lo, m_X13_takes, m_X13_mustWin]; omega))) (z_le rfl) (z_rcv_of 11 rfl (z_L11_T g_6) rfl) rfl  rfl hf (fun h_7 hf => ?_)
        refine z_aload_n (q := 102) (i := 0) (x := a0) dX13_mustWin_101 rfl rfl rfl ?_
        refine z_iload_n (q := 103) (i := 1) (x := x1) dX13_mustWin_102 rfl rfl rfl ?_
        refine z_sipush (q := 106) (v := 460) dX13_mustWin_103 (by decide) rfl ?_
        refine z_iadd (q := 107) dX13_mustWin_106 rfl ?_
        refine z_iload_n (q := 108) (i := 2) (x := x2) dX13_mustWin_107 rfl rfl rfl ?_
        refine z_iconst (q := 109) (v := 1) dX13_mustWin_108 rfl rfl ?_
        refine z_isub (q := 110) dX13_mustWin_109 rfl ?_
        obtain ⟨g_8, hf⟩ := hf
        refine z_cVi (m_X13_mustWin d) [.int (x1 + 460), .int (x2 - 1)] (a0) (q := 113) (rc2 := 0) (rs2 := 0) (st := []) dX13_mustWin_110 rfl q2297 (oV_X13_mustWin _) rfl rfl (z_room_of (by first | exact z_le rfl | (simp only [z_M.d, z_M.nL, z_M.lo, m_X13_mustWin, m_X13_mustWin]; omega)) (by first | exact z_le rfl | (simp only [z_M.d, z_M.nL, z_M.lo, m_X13_mustWin, m_X13_mustWin]; omega))) (z_le rfl) (z_rcv_of 11 rfl (z_L11_T g_8) rfl) rfl  rfl hf (fun x_9 h_10 hf => ?_)
        refine z_istore (q := 115) (i := 4) (ls2 := [some (.ref a0), some (.int x1), some (.int x2), some (.int x3), some (.int x_9), some (.int x5)]) (x := x_9) dX13_mustWin_113 (z_lt rfl) rfl rfl ?_
        refine z_iinc (q := 118) (i := 5) (x := x5) (v := (x5 + 1)) (ls2 := [some (.ref a0), some (.int x1), some (.int x2), some (.int x3), some (.int x_9), some (.int (x5 + 1))]) dX13_mustWin_115 rfl rfl (z_lt rfl) rfl rfl ?_
        refine z_goto (q := 61) dX13_mustWin_118 rfl ?_
        exact hf

theorem u_X13_odds {l : Launch} {G : z_G} {a0 : Nat} {x1 : Int32} {h : z_H} {Q : z_Q} (hst : l.stackTraces = false)  (hf : z_L11 h a0 ∧ z_Ct l G m_X13_within [.int x1, .int 0, .int 2] (h.sI a0 0 0) (z_Qi (fun x_2 h_3 => (x_2 = 0 → Q (some (.int (-1))) h_3) ∧ (¬ x_2 = 0 → z_L11 h_3 a0 ∧ z_Ct l G m_X13_findOdds [.ref a0] h_3 (z_Qi (fun x_5 h_6 => (x_5 = 0 → Q (some (.int (-1))) h_6) ∧ (¬ x_5 = 0 → z_L11 h_6 a0 ∧ Q (some (.int (if x1 = 0 then (h_6.I a0 49) else (if x1 = 1 then (h_6.I a0 50) else (h_6.I a0 51))))) h_6))))))) : z_Ct l G m_X13_odds [.ref a0, .int x1] h Q := by
  refine z_Ct.of (ls := [some (.ref a0), some (.int x1)]) hst rfl (by show plainName yX13_odds.cls = true; decide +kernel) (z_le rfl) rfl ?_
  show z_V l G m_X13_odds (z_Fm G m_X13_odds Q) 0 0 h 0 [some (.ref a0), some (.int x1)] []
  refine z_aload_n (q := 1) (i := 0) (x := a0) dX13_odds_0 rfl rfl rfl ?_
  refine z_iconst (q := 2) (v := 0) dX13_odds_1 rfl rfl ?_
  obtain ⟨g_1, hf⟩ := hf
  refine z_putI 11 0 (q := 5) (x := 0) (v := .int 0) rfl (z_lt rfl) (z_L11_T g_1) q1758 rfl dX13_odds_2 rfl rfl rfl rfl (fun _ _ _ => rfl) ?_
  refine z_iload_n (q := 6) (i := 1) (x := x1) dX13_odds_5 rfl rfl rfl ?_
  refine z_iconst (q := 7) (v := 0) dX13_odds_6 rfl rfl ?_
  refine z_iconst (q := 8) (v := 2) dX13_odds_7 rfl rfl ?_
  refine z_cSi m_X13_within [.int x1, .int 0, .int 2] (q := 11) (rc2 := 0) (rs2 := 0) (st := []) dX13_odds_8 rfl q2074 oS_X13_within rfl rfl ⟨z_le rfl, z_le rfl⟩ (z_le rfl) rfl  rfl hf (fun x_2 h_3 hf => ?_)
  refine z_if_eq (q := 14) (tgt := 21) dX13_odds_11 rfl rfl (fun hc => ?_) (fun hc => ?_)
  · have hf := hf.1 hc
    refine z_iconst (q := 22) (v := (-1)) dX13_odds_21 rfl rfl ?_
    exact z_iret dX13_odds_22 rfl hf
  · have hf := hf.2 hc
    refine z_aload_n (q := 15) (i := 0) (x := a0) dX13_odds_14 rfl rfl rfl ?_
    obtain ⟨g_4, hf⟩ := hf
    refine z_cVi m_X13_findOdds [] (a0) (q := 18) (rc2 := 0) (rs2 := 0) (st := []) dX13_odds_15 rfl q2246 oV_X13_findOdds rfl rfl ⟨z_le rfl, z_le rfl⟩ (z_le rfl) (z_rcv_of 11 rfl (z_L11_T g_4) rfl) rfl  rfl hf (fun x_5 h_6 hf => ?_)
    refine z_if_ne (q := 21) (tgt := 23) dX13_odds_18 rfl rfl (fun hc => ?_) (fun hc => ?_)
    · have hf := hf.2 hc
      refine z_iload_n (q := 24) (i := 1) (x := x1) dX13_odds_23 rfl rfl rfl ?_
      obtain ⟨g_7, hf⟩ := hf
      have hk : z_V l G m_X13_odds (z_Fm G m_X13_odds Q) 0 0 h_6 50 [some (.ref a0), some (.int x1)] [.int (if x1 = 0 then (h_6.I a0 49) else (if x1 = 1 then (h_6.I a0 50) else (h_6.I a0 51)))] := by
        exact z_iret dX13_odds_50 rfl hf
      refine z_if_ne (q := 27) (tgt := 34) dX13_odds_24 rfl rfl (fun hc => ?_) (fun hc => ?_)
      · have hk := (z_ite hk).2 hc
        refine z_iload_n (q := 35) (i := 1) (x := x1) dX13_odds_34 rfl rfl rfl ?_
        refine z_iconst (q := 36) (v := 1) dX13_odds_35 rfl rfl ?_
        refine z_icmp_ne (q := 39) (tgt := 46) dX13_odds_36 rfl rfl (fun hc => ?_) (fun hc => ?_)
        · have hk := (z_ite hk).2 hc
          refine z_aload_n (q := 47) (i := 0) (x := a0) dX13_odds_46 rfl rfl rfl ?_
          refine z_get 11 51 (q := 50) (v := .int (h_6.I a0 51)) rfl (z_lt rfl) (z_L11_T g_7) q1809 dX13_odds_47 rfl rfl ?_
          exact hk
        · have hk := (z_ite hk).1 hc
          refine z_aload_n (q := 40) (i := 0) (x := a0) dX13_odds_39 rfl rfl rfl ?_
          refine z_get 11 50 (q := 43) (v := .int (h_6.I a0 50)) rfl (z_lt rfl) (z_L11_T g_7) q1808 dX13_odds_40 rfl rfl ?_
          refine z_goto (q := 50) dX13_odds_43 rfl ?_
          exact hk
      · have hk := (z_ite hk).1 hc
        refine z_aload_n (q := 28) (i := 0) (x := a0) dX13_odds_27 rfl rfl rfl ?_
        refine z_get 11 49 (q := 31) (v := .int (h_6.I a0 49)) rfl (z_lt rfl) (z_L11_T g_7) q1807 dX13_odds_28 rfl rfl ?_
        refine z_goto (q := 50) dX13_odds_31 rfl ?_
        exact hk
    · have hf := hf.1 hc
      refine z_iconst (q := 22) (v := (-1)) dX13_odds_21 rfl rfl ?_
      exact z_iret dX13_odds_22 rfl hf

theorem u_X13_offer {l : Launch} {G : z_G} {a0 : Nat} {h : z_H} {Q : z_Q} (hst : l.stackTraces = false)  (hf : z_L11 h a0 ∧ z_Ct l G m_X13_offerNow [.ref a0] (h.sI a0 0 0) (z_Qi (fun x_2 h_3 => Q (some (.int x_2)) h_3))) : z_Ct l G m_X13_offer [.ref a0] h Q := by
  refine z_Ct.of (ls := [some (.ref a0)]) hst rfl (by show plainName yX13_offer.cls = true; decide +kernel) (z_le rfl) rfl ?_
  show z_V l G m_X13_offer (z_Fm G m_X13_offer Q) 0 0 h 0 [some (.ref a0)] []
  refine z_aload_n (q := 1) (i := 0) (x := a0) dX13_offer_0 rfl rfl rfl ?_
  refine z_iconst (q := 2) (v := 0) dX13_offer_1 rfl rfl ?_
  obtain ⟨g_1, hf⟩ := hf
  refine z_putI 11 0 (q := 5) (x := 0) (v := .int 0) rfl (z_lt rfl) (z_L11_T g_1) q1758 rfl dX13_offer_2 rfl rfl rfl rfl (fun _ _ _ => rfl) ?_
  refine z_aload_n (q := 6) (i := 0) (x := a0) dX13_offer_5 rfl rfl rfl ?_
  refine z_cVi m_X13_offerNow [] (a0) (q := 9) (rc2 := 0) (rs2 := 0) (st := []) dX13_offer_6 rfl q2258 oV_X13_offerNow rfl rfl ⟨z_le rfl, z_le rfl⟩ (z_le rfl) (z_rcv_of 11 rfl (z_L11_T g_1) rfl) rfl  rfl hf (fun x_2 h_3 hf => ?_)
  exact z_iret dX13_offer_9 rfl hf

theorem u_X13_offerNow {l : Launch} {G : z_G} {a0 : Nat} {h : z_H} {Q : z_Q} (hst : l.stackTraces = false)  (hf : z_L11 h a0 ∧ vp_in 4 420 ∧ (0 ≤ (h.I (a0 + 6) (Int32.toNatClampNeg 4)) → vp_in 0 16560 ∧ vp_in 1 16560 ∧ vp_in 0 4 ∧ z_Ct l G m_X13_paysIn [.ref a0, .int 0, .int 0] (h.sI (a0 + 14) (Int32.toNatClampNeg 0) ((h.I (a0 + 16) (Int32.toNatClampNeg 0)) - (h.I (a0 + 16) (Int32.toNatClampNeg 1)))) (z_Qi (fun x_6 h_7 => z_L11 h_7 a0 ∧ z_Ct l G m_X13_paysIn [.ref a0, .int 0, .int 1] h_7 (z_Qi (fun x_9 h_10 => ∃ n_11, h_10.T (a0 + 14) = (1, n_11) ∧ vp_in 1 n_11 ∧ z_L11 h_10 a0 ∧ vp_in 7 16560 ∧ vp_in 2 4 ∧ vp_in 6 16560 ∧ vp_in 3 4 ∧ vp_in 4 420 ∧ z_Ct l G m_X13_worthAt [.ref a0, .int (h_10.I (a0 + 6) (Int32.toNatClampNeg 4))] (((h_10.sI (a0 + 14) (Int32.toNatClampNeg 1) (x_6 - x_9)).sI (a0 + 14) (Int32.toNatClampNeg 2) (h_10.I (a0 + 16) (Int32.toNatClampNeg 7))).sI (a0 + 14) (Int32.toNatClampNeg 3) (h_10.I (a0 + 16) (Int32.toNatClampNeg 6))) (z_Qi (fun x_20 h_21 => Q (some (.int (if 0 ≤ x_20 then (if x_20 ≤ 99 then x_20 else 99) else 0))) h_21))))))) ∧ (¬ 0 ≤ (h.I (a0 + 6) (Int32.toNatClampNeg 4)) → Q (some (.int 10)) h)) : z_Ct l G m_X13_offerNow [.ref a0] h Q := by
  refine z_Ct.of (ls := [some (.ref a0), none]) hst rfl (by show plainName yX13_offerNow.cls = true; decide +kernel) (z_le rfl) rfl ?_
  show z_V l G m_X13_offerNow (z_Fm G m_X13_offerNow Q) 0 0 h 0 [some (.ref a0), none] []
  refine z_aload_n (q := 1) (i := 0) (x := a0) dX13_offerNow_0 rfl rfl rfl ?_
  obtain ⟨g_1, hf⟩ := hf
  refine z_get 11 10 (q := 4) (v := .ref (a0 + 6)) rfl (z_lt rfl) (z_L11_T g_1) q1768 dX13_offerNow_1 rfl (z_fvR (fun _ _ _ => rfl) (z_L11_P10 g_1)) ?_
  refine z_iconst (q := 5) (v := 4) dX13_offerNow_4 rfl rfl ?_
  obtain ⟨g_2, hf⟩ := hf
  refine z_iald (q := 6) (n := 420) (z_L11_A10 g_1) g_2 dX13_offerNow_5 rfl ?_
  refine z_if_ge (q := 9) (tgt := 12) dX13_offerNow_6 rfl rfl (fun hc => ?_) (fun hc => ?_)
  · have hf := hf.1 hc
    refine z_aload_n (q := 13) (i := 0) (x := a0) dX13_offerNow_12 rfl rfl rfl ?_
    refine z_get 11 20 (q := 16) (v := .ref (a0 + 14)) rfl (z_lt rfl) (z_L11_T g_1) q1778 dX13_offerNow_13 rfl (z_fvR (fun _ _ _ => rfl) (z_L11_P20 g_1)) ?_
    refine z_iconst (q := 17) (v := 0) dX13_offerNow_16 rfl rfl ?_
    refine z_aload_n (q := 18) (i := 0) (x := a0) dX13_offerNow_17 rfl rfl rfl ?_
    refine z_get 11 22 (q := 21) (v := .ref (a0 + 16)) rfl (z_lt rfl) (z_L11_T g_1) q1780 dX13_offerNow_18 rfl (z_fvR (fun _ _ _ => rfl) (z_L11_P22 g_1)) ?_
    refine z_iconst (q := 22) (v := 0) dX13_offerNow_21 rfl rfl ?_
    obtain ⟨g_3, hf⟩ := hf
    refine z_iald (q := 23) (n := 16560) (z_L11_A22 g_1) g_3 dX13_offerNow_22 rfl ?_
    refine z_aload_n (q := 24) (i := 0) (x := a0) dX13_offerNow_23 rfl rfl rfl ?_
    refine z_get 11 22 (q := 27) (v := .ref (a0 + 16)) rfl (z_lt rfl) (z_L11_T g_1) q1780 dX13_offerNow_24 rfl (z_fvR (fun _ _ _ => rfl) (z_L11_P22 g_1)) ?_
    refine z_iconst (q := 28) (v := 1) dX13_offerNow_27 rfl rfl ?_
    obtain ⟨g_4, hf⟩ := hf
    refine z_iald (q := 29) (n := 16560) (z_L11_A22 g_1) g_4 dX13_offerNow_28 rfl ?_
    refine z_isub (q := 30) dX13_offerNow_29 rfl ?_
    obtain ⟨g_5, hf⟩ := hf
    refine z_iast (q := 31) (n := 4) (z_L11_A20 g_1) g_5 dX13_offerNow_30 rfl ?_
    refine z_aload_n (q := 32) (i := 0) (x := a0) dX13_offerNow_31 rfl rfl rfl ?_
    refine z_get 11 20 (q := 35) (v := .ref (a0 + 14)) rfl (z_lt rfl) (z_L11_T g_1) q1778 dX13_offerNow_32 rfl (z_fvR (fun _ _ _ => rfl) (z_L11_P20 g_1)) ?_
    refine z_iconst (q := 36) (v := 1) dX13_offerNow_35 rfl rfl ?_
    refine z_aload_n (q := 37) (i := 0) (x := a0) dX13_offerNow_36 rfl rfl rfl ?_
    refine z_iconst (q := 38) (v := 0) dX13_offerNow_37 rfl rfl ?_
    refine z_iconst (q := 39) (v := 0) dX13_offerNow_38 rfl rfl ?_
    refine z_cVi m_X13_paysIn [.int 0, .int 0] (a0) (q := 42) (rc2 := 0) (rs2 := 0) (st := [.int 1, .ref (a0 + 14)]) dX13_offerNow_39 rfl q2230 oV_X13_paysIn rfl rfl ⟨z_le rfl, z_le rfl⟩ (z_le rfl) (z_rcv_of 11 rfl (z_L11_T g_1) rfl) rfl  rfl hf (fun x_6 h_7 hf => ?_)
    refine z_aload_n (q := 43) (i := 0) (x := a0) dX13_offerNow_42 rfl rfl rfl ?_
    refine z_iconst (q := 44) (v := 0) dX13_offerNow_43 rfl rfl ?_
    refine z_iconst (q := 45) (v := 1) dX13_offerNow_44 rfl rfl ?_
    obtain ⟨g_8, hf⟩ := hf
    refine z_cVi m_X13_paysIn [.int 0, .int 1] (a0) (q := 48) (rc2 := 0) (rs2 := 0) (st := [.int x_6, .int 1, .ref (a0 + 14)]) dX13_offerNow_45 rfl q2230 oV_X13_paysIn rfl rfl ⟨z_le rfl, z_le rfl⟩ (z_le rfl) (z_rcv_of 11 rfl (z_L11_T g_8) rfl) rfl  rfl hf (fun x_9 h_10 hf => ?_)
    refine z_isub (q := 49) dX13_offerNow_48 rfl ?_
    obtain ⟨n_11, g_12, hf⟩ := hf
    obtain ⟨g_13, hf⟩ := hf
    refine z_iast (q := 50) (n := n_11) g_12 g_13 dX13_offerNow_49 rfl ?_
    refine z_aload_n (q := 51) (i := 0) (x := a0) dX13_offerNow_50 rfl rfl rfl ?_
    obtain ⟨g_14, hf⟩ := hf
    refine z_get 11 20 (q := 54) (v := .ref (a0 + 14)) rfl (z_lt rfl) (z_L11_T g_14) q1778 dX13_offerNow_51 rfl (z_fvR (fun _ _ _ => rfl) (z_L11_P20 g_14)) ?_
    refine z_iconst (q := 55) (v := 2) dX13_offerNow_54 rfl rfl ?_
    refine z_aload_n (q := 56) (i := 0) (x := a0) dX13_offerNow_55 rfl rfl rfl ?_
    refine z_get 11 22 (q := 59) (v := .ref (a0 + 16)) rfl (z_lt rfl) (z_L11_T g_14) q1780 dX13_offerNow_56 rfl (z_fvR (fun _ _ _ => rfl) (z_L11_P22 g_14)) ?_
    refine z_bipush (q := 61) (v := 7) dX13_offerNow_59 (by decide) rfl ?_
    obtain ⟨g_15, hf⟩ := hf
    refine z_iald (q := 62) (n := 16560) (z_L11_A22 g_14) g_15 dX13_offerNow_61 rfl ?_
    refine z_topI (z_rIa (by omega)) ?_
    obtain ⟨g_16, hf⟩ := hf
    refine z_iast (q := 63) (n := 4) (z_L11_A20 g_14) g_16 dX13_offerNow_62 rfl ?_
    refine z_aload_n (q := 64) (i := 0) (x := a0) dX13_offerNow_63 rfl rfl rfl ?_
    refine z_get 11 20 (q := 67) (v := .ref (a0 + 14)) rfl (z_lt rfl) (z_L11_T g_14) q1778 dX13_offerNow_64 rfl (z_fvR (fun _ _ _ => rfl) (z_L11_P20 g_14)) ?_
    refine z_iconst (q := 68) (v := 3) dX13_offerNow_67 rfl rfl ?_
    refine z_aload_n (q := 69) (i := 0) (x := a0) dX13_offerNow_68 rfl rfl rfl ?_
    refine z_get 11 22 (q := 72) (v := .ref (a0 + 16)) rfl (z_lt rfl) (z_L11_T g_14) q1780 dX13_offerNow_69 rfl (z_fvR (fun _ _ _ => rfl) (z_L11_P22 g_14)) ?_
    refine z_bipush (q := 74) (v := 6) dX13_offerNow_72 (by decide) rfl ?_
    obtain ⟨g_17, hf⟩ := hf
    refine z_iald (q := 75) (n := 16560) (z_L11_A22 g_14) g_17 dX13_offerNow_74 rfl ?_
    refine z_topI (Eq.trans (z_rIa (by omega)) (z_rIa (by omega))) ?_
    obtain ⟨g_18, hf⟩ := hf
    refine z_iast (q := 76) (n := 4) (z_L11_A20 g_14) g_18 dX13_offerNow_75 rfl ?_
    refine z_aload_n (q := 77) (i := 0) (x := a0) dX13_offerNow_76 rfl rfl rfl ?_
    refine z_aload_n (q := 78) (i := 0) (x := a0) dX13_offerNow_77 rfl rfl rfl ?_
    refine z_get 11 10 (q := 81) (v := .ref (a0 + 6)) rfl (z_lt rfl) (z_L11_T g_14) q1768 dX13_offerNow_78 rfl (z_fvR (fun _ _ _ => rfl) (z_L11_P10 g_14)) ?_
    refine z_iconst (q := 82) (v := 4) dX13_offerNow_81 rfl rfl ?_
    obtain ⟨g_19, hf⟩ := hf
    refine z_iald (q := 83) (n := 420) (z_L11_A10 g_14) g_19 dX13_offerNow_82 rfl ?_
    refine z_topI (Eq.trans (z_rIa (by omega)) (Eq.trans (z_rIa (by omega)) (z_rIa (by omega)))) ?_
    refine z_cVi m_X13_worthAt [.int (h_10.I (a0 + 6) (Int32.toNatClampNeg 4))] (a0) (q := 86) (rc2 := 0) (rs2 := 0) (st := []) dX13_offerNow_83 rfl q2262 oV_X13_worthAt rfl rfl ⟨z_le rfl, z_le rfl⟩ (z_le rfl) (z_rcv_of 11 rfl (z_L11_T g_14) rfl) rfl  rfl hf (fun x_20 h_21 hf => ?_)
    refine z_istore_n (q := 87) (i := 1) (ls2 := [some (.ref a0), some (.int x_20)]) (x := x_20) dX13_offerNow_86 rfl (z_lt rfl) rfl rfl ?_
    refine z_iload_n (q := 88) (i := 1) (x := x_20) dX13_offerNow_87 rfl rfl rfl ?_
    have hk : z_V l G m_X13_offerNow (z_Fm G m_X13_offerNow Q) 0 0 h_21 107 [some (.ref a0), some (.int x_20)] [.int (if 0 ≤ x_20 then (if x_20 ≤ 99 then x_20 else 99) else 0)] := by
      exact z_iret dX13_offerNow_107 rfl hf
    refine z_if_ge (q := 91) (tgt := 95) dX13_offerNow_88 rfl rfl (fun hc => ?_) (fun hc => ?_)
    · have hk := (z_ite hk).1 hc
      refine z_iload_n (q := 96) (i := 1) (x := x_20) dX13_offerNow_95 rfl rfl rfl ?_
      refine z_bipush (q := 98) (v := 99) dX13_offerNow_96 (by decide) rfl ?_
      refine z_icmp_le (q := 101) (tgt := 106) dX13_offerNow_98 rfl rfl (fun hc => ?_) (fun hc => ?_)
      · have hk := (z_ite hk).1 hc
        refine z_iload_n (q := 107) (i := 1) (x := x_20) dX13_offerNow_106 rfl rfl rfl ?_
        exact hk
      · have hk := (z_ite hk).2 hc
        refine z_bipush (q := 103) (v := 99) dX13_offerNow_101 (by decide) rfl ?_
        refine z_goto (q := 107) dX13_offerNow_103 rfl ?_
        exact hk
    · have hk := (z_ite hk).2 hc
      refine z_iconst (q := 92) (v := 0) dX13_offerNow_91 rfl rfl ?_
      refine z_goto (q := 107) dX13_offerNow_92 rfl ?_
      exact hk
  · have hf := hf.2 hc
    refine z_bipush (q := 11) (v := 10) dX13_offerNow_9 (by decide) rfl ?_
    exact z_iret dX13_offerNow_11 rfl hf

theorem u_X13_opening {l : Launch} {G : z_G} {a0 : Nat} {x1 : Int32} {h : z_H} {Q : z_Q} (hst : l.stackTraces = false)  (hf : z_L11 h a0 ∧ z_Ct l G m_X13_within [.int x1, .int 0, .int 3] (h.sI a0 0 0) (z_Qi (fun x_2 h_3 => (x_2 = 0 → Q (some (.int (-1))) h_3) ∧ (¬ x_2 = 0 → z_V l G m_X13_opening (z_Fm G m_X13_opening Q) 0 0 h_3 20 [some (.ref a0), some (.int x1), some (.int 0), some (.int 0), none] [])))) : z_Ct l G m_X13_opening [.ref a0, .int x1] h Q := by
  refine z_Ct.of (ls := [some (.ref a0), some (.int x1), none, none, none]) hst rfl (by show plainName yX13_opening.cls = true; decide +kernel) (z_le rfl) rfl ?_
  show z_V l G m_X13_opening (z_Fm G m_X13_opening Q) 0 0 h 0 [some (.ref a0), some (.int x1), none, none, none] []
  refine z_aload_n (q := 1) (i := 0) (x := a0) dX13_opening_0 rfl rfl rfl ?_
  refine z_iconst (q := 2) (v := 0) dX13_opening_1 rfl rfl ?_
  obtain ⟨g_1, hf⟩ := hf
  refine z_putI 11 0 (q := 5) (x := 0) (v := .int 0) rfl (z_lt rfl) (z_L11_T g_1) q1758 rfl dX13_opening_2 rfl rfl rfl rfl (fun _ _ _ => rfl) ?_
  refine z_iload_n (q := 6) (i := 1) (x := x1) dX13_opening_5 rfl rfl rfl ?_
  refine z_iconst (q := 7) (v := 0) dX13_opening_6 rfl rfl ?_
  refine z_iconst (q := 8) (v := 3) dX13_opening_7 rfl rfl ?_
  refine z_cSi m_X13_within [.int x1, .int 0, .int 3] (q := 11) (rc2 := 0) (rs2 := 0) (st := []) dX13_opening_8 rfl q2074 oS_X13_within rfl rfl ⟨z_le rfl, z_le rfl⟩ (z_le rfl) rfl  rfl hf (fun x_2 h_3 hf => ?_)
  refine z_if_ne (q := 14) (tgt := 16) dX13_opening_11 rfl rfl (fun hc => ?_) (fun hc => ?_)
  · have hf := hf.2 hc
    refine z_iconst (q := 17) (v := 0) dX13_opening_16 rfl rfl ?_
    refine z_istore_n (q := 18) (i := 2) (ls2 := [some (.ref a0), some (.int x1), some (.int 0), none, none]) (x := 0) dX13_opening_17 rfl (z_lt rfl) rfl rfl ?_
    refine z_iconst (q := 19) (v := 0) dX13_opening_18 rfl rfl ?_
    refine z_istore_n (q := 20) (i := 3) (ls2 := [some (.ref a0), some (.int x1), some (.int 0), some (.int 0), none]) (x := 0) dX13_opening_19 rfl (z_lt rfl) rfl rfl ?_
    exact hf
  · have hf := hf.1 hc
    refine z_iconst (q := 15) (v := (-1)) dX13_opening_14 rfl rfl ?_
    exact z_iret dX13_opening_15 rfl hf

theorem b_X13_opening_20 {l : Launch} {G : z_G} {a0 : Nat} {x1 : Int32} {x2 : Int32} {x3 : Int32} {h : z_H} {Q : z_Q}  (hf : z_L11 h a0 ∧ vp_in 21 420 ∧ ((h.I (a0 + 6) (Int32.toNatClampNeg 21)) ≤ x3 → Q (some (.int x2)) h) ∧ (¬ (h.I (a0 + 6) (Int32.toNatClampNeg 21)) ≤ x3 → z_Ct l G m_X13_fitsOpening [.ref a0, .int x3] h (z_Qi (fun x_3 h_4 => z_L11 h_4 a0 ∧ ((x_3 = 0 → True) ∧ (¬ x_3 = 0 → (x1 = 0 → True) ∧ (¬ x1 = 0 → vp_in ((22 + (15 * x3)) + 14) 420 ∧ True))) ∧ ∀ v_7 : Int32, v_7 = (if x_3 = 0 then 0 else (if x1 = 0 then 1 else (if (h_4.I (a0 + 6) (Int32.toNatClampNeg ((22 + (15 * x3)) + 14))) = (x1 - 1) then 1 else 0))) → ∀ v_9 : Int32, v_9 = (x2 + (if v_7 = 0 then 0 else 1)) → z_V l G m_X13_opening (z_Fm G m_X13_opening Q) 0 0 h_4 20 [some (.ref a0), some (.int x1), some (.int v_9), some (.int (x3 + 1)), none] [])))) : z_V l G m_X13_opening (z_Fm G m_X13_opening Q) 0 0 h 20 [some (.ref a0), some (.int x1), some (.int x2), some (.int x3), none] [] := by
  refine z_iload_n (q := 21) (i := 3) (x := x3) dX13_opening_20 rfl rfl rfl ?_
  refine z_aload_n (q := 22) (i := 0) (x := a0) dX13_opening_21 rfl rfl rfl ?_
  obtain ⟨g_1, hf⟩ := hf
  refine z_get 11 10 (q := 25) (v := .ref (a0 + 6)) rfl (z_lt rfl) (z_L11_T g_1) q1768 dX13_opening_22 rfl (z_fvR (fun _ _ _ => rfl) (z_L11_P10 g_1)) ?_
  refine z_bipush (q := 27) (v := 21) dX13_opening_25 (by decide) rfl ?_
  obtain ⟨g_2, hf⟩ := hf
  refine z_iald (q := 28) (n := 420) (z_L11_A10 g_1) g_2 dX13_opening_27 rfl ?_
  refine z_icmp_ge (q := 31) (tgt := 90) dX13_opening_28 rfl rfl (fun hc => ?_) (fun hc => ?_)
  · have hf := hf.1 hc
    refine z_iload_n (q := 91) (i := 2) (x := x2) dX13_opening_90 rfl rfl rfl ?_
    exact z_iret dX13_opening_91 rfl hf
  · have hf := hf.2 hc
    refine z_aload_n (q := 32) (i := 0) (x := a0) dX13_opening_31 rfl rfl rfl ?_
    refine z_iload_n (q := 33) (i := 3) (x := x3) dX13_opening_32 rfl rfl rfl ?_
    refine z_cVi m_X13_fitsOpening [.int x3] (a0) (q := 36) (rc2 := 0) (rs2 := 0) (st := []) dX13_opening_33 rfl q2305 oV_X13_fitsOpening rfl rfl ⟨z_le rfl, z_le rfl⟩ (z_le rfl) (z_rcv_of 11 rfl (z_L11_T g_1) rfl) rfl  rfl hf (fun x_3 h_4 hf => ?_)
    obtain ⟨g_5, hf⟩ := hf
    obtain ⟨hsc, hf⟩ := hf
    have hk : z_V l G m_X13_opening (z_Fm G m_X13_opening Q) 0 0 h_4 69 [some (.ref a0), some (.int x1), some (.int x2), some (.int x3), none] [.int (if x_3 = 0 then 0 else (if x1 = 0 then 1 else (if (h_4.I (a0 + 6) (Int32.toNatClampNeg ((22 + (15 * x3)) + 14))) = (x1 - 1) then 1 else 0)))] := by
      refine z_nmI (fun v_7 hv_8 => ?_)
      have hf := hf v_7 hv_8
      refine z_istore (q := 71) (i := 4) (ls2 := [some (.ref a0), some (.int x1), some (.int x2), some (.int x3), some (.int v_7)]) (x := v_7) dX13_opening_69 (z_lt rfl) rfl rfl ?_
      refine z_iload_n (q := 72) (i := 2) (x := x2) dX13_opening_71 rfl rfl rfl ?_
      refine z_iload (q := 74) (i := 4) (x := v_7) dX13_opening_72 rfl rfl ?_
      have hk : z_V l G m_X13_opening (z_Fm G m_X13_opening Q) 0 0 h_4 82 [some (.ref a0), some (.int x1), some (.int x2), some (.int x3), some (.int v_7)] [.int (if v_7 = 0 then 0 else 1), .int x2] := by
        refine z_iadd (q := 83) dX13_opening_82 rfl ?_
        refine z_nmI (fun v_9 hv_10 => ?_)
        have hf := hf v_9 hv_10
        refine z_istore_n (q := 84) (i := 2) (ls2 := [some (.ref a0), some (.int x1), some (.int v_9), some (.int x3), some (.int v_7)]) (x := v_9) dX13_opening_83 rfl (z_lt rfl) rfl rfl ?_
        refine z_iinc (q := 87) (i := 3) (x := x3) (v := (x3 + 1)) (ls2 := [some (.ref a0), some (.int x1), some (.int v_9), some (.int (x3 + 1)), some (.int v_7)]) dX13_opening_84 rfl rfl (z_lt rfl) rfl rfl ?_
        refine z_goto (q := 20) dX13_opening_87 rfl ?_
        refine z_prune [true, true, true, true, false] (ls2 := [some (.ref a0), some (.int x1), some (.int v_9), some (.int (x3 + 1)), none]) rfl ?_
        exact hf
      refine z_if_eq (q := 77) (tgt := 81) dX13_opening_74 rfl rfl (fun hc => ?_) (fun hc => ?_)
      · have hk := (z_ite hk).1 hc
        refine z_iconst (q := 82) (v := 0) dX13_opening_81 rfl rfl ?_
        exact hk
      · have hk := (z_ite hk).2 hc
        refine z_iconst (q := 78) (v := 1) dX13_opening_77 rfl rfl ?_
        refine z_goto (q := 82) dX13_opening_78 rfl ?_
        exact hk
    refine z_if_eq (q := 39) (tgt := 68) dX13_opening_36 rfl rfl (fun hc => ?_) (fun hc => ?_)
    · have hk := (z_ite hk).1 hc
      have hsc := hsc.1 hc
      refine z_iconst (q := 69) (v := 0) dX13_opening_68 rfl rfl ?_
      exact hk
    · have hk := (z_ite hk).2 hc
      have hsc := hsc.2 hc
      refine z_iload_n (q := 40) (i := 1) (x := x1) dX13_opening_39 rfl rfl rfl ?_
      refine z_if_eq (q := 43) (tgt := 64) dX13_opening_40 rfl rfl (fun hc => ?_) (fun hc => ?_)
      · have hk := (z_ite hk).1 hc
        have hsc := hsc.1 hc
        refine z_iconst (q := 65) (v := 1) dX13_opening_64 rfl rfl ?_
        refine z_goto (q := 69) dX13_opening_65 rfl ?_
        exact hk
      · have hk := (z_ite hk).2 hc
        have hsc := hsc.2 hc
        obtain ⟨g_6, hsc⟩ := hsc
        refine z_aload_n (q := 44) (i := 0) (x := a0) dX13_opening_43 rfl rfl rfl ?_
        refine z_get 11 10 (q := 47) (v := .ref (a0 + 6)) rfl (z_lt rfl) (z_L11_T g_5) q1768 dX13_opening_44 rfl (z_fvR (fun _ _ _ => rfl) (z_L11_P10 g_5)) ?_
        refine z_bipush (q := 49) (v := 22) dX13_opening_47 (by decide) rfl ?_
        refine z_bipush (q := 51) (v := 15) dX13_opening_49 (by decide) rfl ?_
        refine z_iload_n (q := 52) (i := 3) (x := x3) dX13_opening_51 rfl rfl rfl ?_
        refine z_imul (q := 53) dX13_opening_52 rfl ?_
        refine z_iadd (q := 54) dX13_opening_53 rfl ?_
        refine z_bipush (q := 56) (v := 14) dX13_opening_54 (by decide) rfl ?_
        refine z_iadd (q := 57) dX13_opening_56 rfl ?_
        refine z_iald (q := 58) (n := 420) (z_L11_A10 g_5) g_6 dX13_opening_57 rfl ?_
        refine z_iload_n (q := 59) (i := 1) (x := x1) dX13_opening_58 rfl rfl rfl ?_
        refine z_iconst (q := 60) (v := 1) dX13_opening_59 rfl rfl ?_
        refine z_isub (q := 61) dX13_opening_60 rfl ?_
        refine z_icmp_ne (q := 64) (tgt := 68) dX13_opening_61 rfl rfl (fun hc => ?_) (fun hc => ?_)
        · have hk := (z_ite hk).2 hc
          refine z_iconst (q := 69) (v := 0) dX13_opening_68 rfl rfl ?_
          exact hk
        · have hk := (z_ite hk).1 hc
          refine z_iconst (q := 65) (v := 1) dX13_opening_64 rfl rfl ?_
          refine z_goto (q := 69) dX13_opening_65 rfl ?_
          exact hk

theorem u_X13_orderNow {l : Launch} {G : z_G} {a0 : Nat} {x1 : Int32} {h : z_H} {Q : z_Q} (hst : l.stackTraces = false)  (hf : z_L11 h a0 ∧ vp_in (x1 + 11) 16560 ∧ ∀ v_3 : Int32, v_3 = (if (h.I (a0 + 16) (Int32.toNatClampNeg (x1 + 11))) = 1 then 1 else 0) → vp_in (x1 + 11) 16560 ∧ ((v_3 = 0 → vp_in 1 420 ∧ True) ∧ (¬ v_3 = 0 → True)) ∧ Q (some (.int (if v_3 = 0 then (h.I (a0 + 6) (Int32.toNatClampNeg 1)) else 1))) (h.sI (a0 + 16) (Int32.toNatClampNeg (x1 + 11)) 0)) : z_Ct l G m_X13_orderNow [.ref a0, .int x1] h Q := by
  refine z_Ct.of (ls := [some (.ref a0), some (.int x1), none]) hst rfl (by show plainName yX13_orderNow.cls = true; decide +kernel) (z_le rfl) rfl ?_
  show z_V l G m_X13_orderNow (z_Fm G m_X13_orderNow Q) 0 0 h 0 [some (.ref a0), some (.int x1), none] []
  refine z_aload_n (q := 1) (i := 0) (x := a0) dX13_orderNow_0 rfl rfl rfl ?_
  obtain ⟨g_1, hf⟩ := hf
  refine z_get 11 22 (q := 4) (v := .ref (a0 + 16)) rfl (z_lt rfl) (z_L11_T g_1) q1780 dX13_orderNow_1 rfl (z_fvR (fun _ _ _ => rfl) (z_L11_P22 g_1)) ?_
  refine z_iload_n (q := 5) (i := 1) (x := x1) dX13_orderNow_4 rfl rfl rfl ?_
  refine z_bipush (q := 7) (v := 11) dX13_orderNow_5 (by decide) rfl ?_
  refine z_iadd (q := 8) dX13_orderNow_7 rfl ?_
  obtain ⟨g_2, hf⟩ := hf
  refine z_iald (q := 9) (n := 16560) (z_L11_A22 g_1) g_2 dX13_orderNow_8 rfl ?_
  refine z_iconst (q := 10) (v := 1) dX13_orderNow_9 rfl rfl ?_
  have hk : z_V l G m_X13_orderNow (z_Fm G m_X13_orderNow Q) 0 0 h 18 [some (.ref a0), some (.int x1), none] [.int (if (h.I (a0 + 16) (Int32.toNatClampNeg (x1 + 11))) = 1 then 1 else 0)] := by
    refine z_nmI (fun v_3 hv_4 => ?_)
    have hf := hf v_3 hv_4
    refine z_istore_n (q := 19) (i := 2) (ls2 := [some (.ref a0), some (.int x1), some (.int v_3)]) (x := v_3) dX13_orderNow_18 rfl (z_lt rfl) rfl rfl ?_
    refine z_aload_n (q := 20) (i := 0) (x := a0) dX13_orderNow_19 rfl rfl rfl ?_
    refine z_get 11 22 (q := 23) (v := .ref (a0 + 16)) rfl (z_lt rfl) (z_L11_T g_1) q1780 dX13_orderNow_20 rfl (z_fvR (fun _ _ _ => rfl) (z_L11_P22 g_1)) ?_
    refine z_iload_n (q := 24) (i := 1) (x := x1) dX13_orderNow_23 rfl rfl rfl ?_
    refine z_bipush (q := 26) (v := 11) dX13_orderNow_24 (by decide) rfl ?_
    refine z_iadd (q := 27) dX13_orderNow_26 rfl ?_
    refine z_iconst (q := 28) (v := 0) dX13_orderNow_27 rfl rfl ?_
    obtain ⟨g_5, hf⟩ := hf
    refine z_iast (q := 29) (n := 16560) (z_L11_A22 g_1) g_5 dX13_orderNow_28 rfl ?_
    refine z_iload_n (q := 30) (i := 2) (x := v_3) dX13_orderNow_29 rfl rfl rfl ?_
    obtain ⟨hsc, hf⟩ := hf
    have hk : z_V l G m_X13_orderNow (z_Fm G m_X13_orderNow Q) 0 0 (h.sI (a0 + 16) (Int32.toNatClampNeg (x1 + 11)) 0) 43 [some (.ref a0), some (.int x1), some (.int v_3)] [.int (if v_3 = 0 then (h.I (a0 + 6) (Int32.toNatClampNeg 1)) else 1)] := by
      exact z_iret dX13_orderNow_43 rfl hf
    refine z_if_eq (q := 33) (tgt := 37) dX13_orderNow_30 rfl rfl (fun hc => ?_) (fun hc => ?_)
    · have hk := (z_ite hk).1 hc
      have hsc := hsc.1 hc
      obtain ⟨g_6, hsc⟩ := hsc
      refine z_aload_n (q := 38) (i := 0) (x := a0) dX13_orderNow_37 rfl rfl rfl ?_
      refine z_get 11 10 (q := 41) (v := .ref (a0 + 6)) rfl (z_lt rfl) (z_L11_T g_1) q1768 dX13_orderNow_38 rfl (z_fvR (fun _ _ _ => rfl) (z_L11_P10 g_1)) ?_
      refine z_iconst (q := 42) (v := 1) dX13_orderNow_41 rfl rfl ?_
      refine z_iald (q := 43) (n := 420) (z_L11_A10 g_1) g_6 dX13_orderNow_42 rfl ?_
      refine z_topI (z_rIa (by omega)) ?_
      exact hk
    · have hk := (z_ite hk).2 hc
      have hsc := hsc.2 hc
      refine z_iconst (q := 34) (v := 1) dX13_orderNow_33 rfl rfl ?_
      refine z_goto (q := 43) dX13_orderNow_34 rfl ?_
      exact hk
  refine z_icmp_ne (q := 13) (tgt := 17) dX13_orderNow_10 rfl rfl (fun hc => ?_) (fun hc => ?_)
  · have hk := (z_ite hk).2 hc
    refine z_iconst (q := 18) (v := 0) dX13_orderNow_17 rfl rfl ?_
    exact hk
  · have hk := (z_ite hk).1 hc
    refine z_iconst (q := 14) (v := 1) dX13_orderNow_13 rfl rfl ?_
    refine z_goto (q := 18) dX13_orderNow_14 rfl ?_
    exact hk

theorem u_X13_orders {l : Launch} {G : z_G} {a0 : Nat} {h : z_H} {Q : z_Q} (hst : l.stackTraces = false)  (hf : z_L11 h a0 ∧ vp_in 14 16560 ∧ z_V l G m_X13_orders (z_Fm G m_X13_orders Q) 0 0 (h.sI a0 0 (if (h.I (a0 + 16) (Int32.toNatClampNeg 14)) ≤ 0 then 1 else 0)) 23 [some (.ref a0), some (.int 0), some (.int 0), none, none] []) : z_Ct l G m_X13_orders [.ref a0] h Q := by
  refine z_Ct.of (ls := [some (.ref a0), none, none, none, none]) hst rfl (by show plainName yX13_orders.cls = true; decide +kernel) (z_le rfl) rfl ?_
  show z_V l G m_X13_orders (z_Fm G m_X13_orders Q) 0 0 h 0 [some (.ref a0), none, none, none, none] []
  refine z_aload_n (q := 1) (i := 0) (x := a0) dX13_orders_0 rfl rfl rfl ?_
  refine z_aload_n (q := 2) (i := 0) (x := a0) dX13_orders_1 rfl rfl rfl ?_
  obtain ⟨g_1, hf⟩ := hf
  refine z_get 11 22 (q := 5) (v := .ref (a0 + 16)) rfl (z_lt rfl) (z_L11_T g_1) q1780 dX13_orders_2 rfl (z_fvR (fun _ _ _ => rfl) (z_L11_P22 g_1)) ?_
  refine z_bipush (q := 7) (v := 14) dX13_orders_5 (by decide) rfl ?_
  obtain ⟨g_2, hf⟩ := hf
  refine z_iald (q := 8) (n := 16560) (z_L11_A22 g_1) g_2 dX13_orders_7 rfl ?_
  have hk : z_V l G m_X13_orders (z_Fm G m_X13_orders Q) 0 0 h 16 [some (.ref a0), none, none, none, none] [.int (if (h.I (a0 + 16) (Int32.toNatClampNeg 14)) ≤ 0 then 1 else 0), .ref a0] := by
    refine z_putI 11 0 (q := 19) (x := (if (h.I (a0 + 16) (Int32.toNatClampNeg 14)) ≤ 0 then 1 else 0)) (v := .int (if (h.I (a0 + 16) (Int32.toNatClampNeg 14)) ≤ 0 then 1 else 0)) rfl (z_lt rfl) (z_L11_T g_1) q1758 rfl dX13_orders_16 rfl rfl rfl rfl (fun _ _ _ => rfl) ?_
    refine z_iconst (q := 20) (v := 0) dX13_orders_19 rfl rfl ?_
    refine z_istore_n (q := 21) (i := 1) (ls2 := [some (.ref a0), some (.int 0), none, none, none]) (x := 0) dX13_orders_20 rfl (z_lt rfl) rfl rfl ?_
    refine z_iconst (q := 22) (v := 0) dX13_orders_21 rfl rfl ?_
    refine z_istore_n (q := 23) (i := 2) (ls2 := [some (.ref a0), some (.int 0), some (.int 0), none, none]) (x := 0) dX13_orders_22 rfl (z_lt rfl) rfl rfl ?_
    exact hf
  refine z_if_le (q := 11) (tgt := 15) dX13_orders_8 rfl rfl (fun hc => ?_) (fun hc => ?_)
  · have hk := (z_ite hk).1 hc
    refine z_iconst (q := 16) (v := 1) dX13_orders_15 rfl rfl ?_
    exact hk
  · have hk := (z_ite hk).2 hc
    refine z_iconst (q := 12) (v := 0) dX13_orders_11 rfl rfl ?_
    refine z_goto (q := 16) dX13_orders_12 rfl ?_
    exact hk

theorem b_X13_orders_23 {l : Launch} {G : z_G} {a0 : Nat} {x1 : Int32} {x2 : Int32} {h : z_H} {Q : z_Q}  (hf : (5 ≤ x2 → Q (some (.int x1)) h) ∧ (¬ 5 ≤ x2 → z_L11 h a0 ∧ ((h.I a0 0) = 0 → vp_in 14 16560 ∧ z_Ct l G m_X13_lays [.ref a0, .int 164, .int (h.I (a0 + 16) (Int32.toNatClampNeg 14)), .int x2] h (z_Qv (fun h_3 => z_V l G m_X13_orders (z_Fm G m_X13_orders Q) 0 0 h_3 55 [some (.ref a0), some (.int x1), some (.int x2), some (.int 1), some (.int 0)] []))) ∧ (¬ (h.I a0 0) = 0 → Q (some (.int x1)) h))) : z_V l G m_X13_orders (z_Fm G m_X13_orders Q) 0 0 h 23 [some (.ref a0), some (.int x1), some (.int x2), none, none] [] := by
  refine z_iload_n (q := 24) (i := 2) (x := x2) dX13_orders_23 rfl rfl rfl ?_
  refine z_iconst (q := 25) (v := 5) dX13_orders_24 rfl rfl ?_
  refine z_icmp_ge (q := 28) (tgt := 124) dX13_orders_25 rfl rfl (fun hc => ?_) (fun hc => ?_)
  · have hf := hf.1 hc
    refine z_iload_n (q := 125) (i := 1) (x := x1) dX13_orders_124 rfl rfl rfl ?_
    exact z_iret dX13_orders_125 rfl hf
  · have hf := hf.2 hc
    refine z_aload_n (q := 29) (i := 0) (x := a0) dX13_orders_28 rfl rfl rfl ?_
    obtain ⟨g_1, hf⟩ := hf
    refine z_get 11 0 (q := 32) (v := .int (h.I a0 0)) rfl (z_lt rfl) (z_L11_T g_1) q1758 dX13_orders_29 rfl rfl ?_
    refine z_if_ne (q := 35) (tgt := 124) dX13_orders_32 rfl rfl (fun hc => ?_) (fun hc => ?_)
    · have hf := hf.2 hc
      refine z_iload_n (q := 125) (i := 1) (x := x1) dX13_orders_124 rfl rfl rfl ?_
      exact z_iret dX13_orders_125 rfl hf
    · have hf := hf.1 hc
      refine z_aload_n (q := 36) (i := 0) (x := a0) dX13_orders_35 rfl rfl rfl ?_
      refine z_sipush (q := 39) (v := 164) dX13_orders_36 (by decide) rfl ?_
      refine z_aload_n (q := 40) (i := 0) (x := a0) dX13_orders_39 rfl rfl rfl ?_
      refine z_get 11 22 (q := 43) (v := .ref (a0 + 16)) rfl (z_lt rfl) (z_L11_T g_1) q1780 dX13_orders_40 rfl (z_fvR (fun _ _ _ => rfl) (z_L11_P22 g_1)) ?_
      refine z_bipush (q := 45) (v := 14) dX13_orders_43 (by decide) rfl ?_
      obtain ⟨g_2, hf⟩ := hf
      refine z_iald (q := 46) (n := 16560) (z_L11_A22 g_1) g_2 dX13_orders_45 rfl ?_
      refine z_iload_n (q := 47) (i := 2) (x := x2) dX13_orders_46 rfl rfl rfl ?_
      refine z_cVv m_X13_lays [.int 164, .int (h.I (a0 + 16) (Int32.toNatClampNeg 14)), .int x2] (a0) (q := 50) (rc2 := 0) (rs2 := 0) (st := []) dX13_orders_47 rfl q2136 oV_X13_lays rfl rfl ⟨z_le rfl, z_le rfl⟩ (z_le rfl) (z_rcv_of 11 rfl (z_L11_T g_1) rfl) rfl  rfl hf (fun h_3 hf => ?_)
      refine z_iconst (q := 51) (v := 1) dX13_orders_50 rfl rfl ?_
      refine z_istore_n (q := 52) (i := 3) (ls2 := [some (.ref a0), some (.int x1), some (.int x2), some (.int 1), none]) (x := 1) dX13_orders_51 rfl (z_lt rfl) rfl rfl ?_
      refine z_iconst (q := 53) (v := 0) dX13_orders_52 rfl rfl ?_
      refine z_istore (q := 55) (i := 4) (ls2 := [some (.ref a0), some (.int x1), some (.int x2), some (.int 1), some (.int 0)]) (x := 0) dX13_orders_53 (z_lt rfl) rfl rfl ?_
      exact hf

theorem b_X13_orders_55 {l : Launch} {G : z_G} {a0 : Nat} {x1 : Int32} {x2 : Int32} {x3 : Int32} {x4 : Int32} {h : z_H} {Q : z_Q}  (hf : z_L11 h a0 ∧ vp_in 13 16560 ∧ ((h.I (a0 + 16) (Int32.toNatClampNeg 13)) ≤ x4 → ∀ v_3 : Int32, v_3 = (x1 ||| (if x3 = 0 then 0 else (1 <<< (x2 &&& 31)))) → z_V l G m_X13_orders (z_Fm G m_X13_orders Q) 0 0 h 23 [some (.ref a0), some (.int v_3), some (.int (x2 + 1)), none, none] []) ∧ (¬ (h.I (a0 + 16) (Int32.toNatClampNeg 13)) ≤ x4 → ((x3 = 0 → True) ∧ (¬ x3 = 0 → vp_in x4 48 ∧ vp_in (444 + x4) 16560 ∧ True)) ∧ ∀ v_7 : Int32, v_7 = (if x3 = 0 then 0 else (if (h.I (a0 + 18) (Int32.toNatClampNeg x4)) = (h.I (a0 + 16) (Int32.toNatClampNeg (444 + x4))) then 1 else 0)) → z_V l G m_X13_orders (z_Fm G m_X13_orders Q) 0 0 h 55 [some (.ref a0), some (.int x1), some (.int x2), some (.int v_7), some (.int (x4 + 1))] [])) : z_V l G m_X13_orders (z_Fm G m_X13_orders Q) 0 0 h 55 [some (.ref a0), some (.int x1), some (.int x2), some (.int x3), some (.int x4)] [] := by
  refine z_iload (q := 57) (i := 4) (x := x4) dX13_orders_55 rfl rfl ?_
  refine z_aload_n (q := 58) (i := 0) (x := a0) dX13_orders_57 rfl rfl rfl ?_
  obtain ⟨g_1, hf⟩ := hf
  refine z_get 11 22 (q := 61) (v := .ref (a0 + 16)) rfl (z_lt rfl) (z_L11_T g_1) q1780 dX13_orders_58 rfl (z_fvR (fun _ _ _ => rfl) (z_L11_P22 g_1)) ?_
  refine z_bipush (q := 63) (v := 13) dX13_orders_61 (by decide) rfl ?_
  obtain ⟨g_2, hf⟩ := hf
  refine z_iald (q := 64) (n := 16560) (z_L11_A22 g_1) g_2 dX13_orders_63 rfl ?_
  refine z_icmp_ge (q := 67) (tgt := 104) dX13_orders_64 rfl rfl (fun hc => ?_) (fun hc => ?_)
  · have hf := hf.1 hc
    refine z_iload_n (q := 105) (i := 1) (x := x1) dX13_orders_104 rfl rfl rfl ?_
    refine z_iload_n (q := 106) (i := 3) (x := x3) dX13_orders_105 rfl rfl rfl ?_
    have hk : z_V l G m_X13_orders (z_Fm G m_X13_orders Q) 0 0 h 116 [some (.ref a0), some (.int x1), some (.int x2), some (.int x3), some (.int x4)] [.int (if x3 = 0 then 0 else (1 <<< (x2 &&& 31))), .int x1] := by
      refine z_ior (q := 117) dX13_orders_116 rfl ?_
      refine z_nmI (fun v_3 hv_4 => ?_)
      have hf := hf v_3 hv_4
      refine z_istore_n (q := 118) (i := 1) (ls2 := [some (.ref a0), some (.int v_3), some (.int x2), some (.int x3), some (.int x4)]) (x := v_3) dX13_orders_117 rfl (z_lt rfl) rfl rfl ?_
      refine z_iinc (q := 121) (i := 2) (x := x2) (v := (x2 + 1)) (ls2 := [some (.ref a0), some (.int v_3), some (.int (x2 + 1)), some (.int x3), some (.int x4)]) dX13_orders_118 rfl rfl (z_lt rfl) rfl rfl ?_
      refine z_goto (q := 23) dX13_orders_121 rfl ?_
      refine z_prune [true, true, true, false, false] (ls2 := [some (.ref a0), some (.int v_3), some (.int (x2 + 1)), none, none]) rfl ?_
      exact hf
    refine z_if_eq (q := 109) (tgt := 115) dX13_orders_106 rfl rfl (fun hc => ?_) (fun hc => ?_)
    · have hk := (z_ite hk).1 hc
      refine z_iconst (q := 116) (v := 0) dX13_orders_115 rfl rfl ?_
      exact hk
    · have hk := (z_ite hk).2 hc
      refine z_iconst (q := 110) (v := 1) dX13_orders_109 rfl rfl ?_
      refine z_iload_n (q := 111) (i := 2) (x := x2) dX13_orders_110 rfl rfl rfl ?_
      refine z_ishl (q := 112) dX13_orders_111 rfl ?_
      refine z_goto (q := 116) dX13_orders_112 rfl ?_
      exact hk
  · have hf := hf.2 hc
    refine z_iload_n (q := 68) (i := 3) (x := x3) dX13_orders_67 rfl rfl rfl ?_
    obtain ⟨hsc, hf⟩ := hf
    have hk : z_V l G m_X13_orders (z_Fm G m_X13_orders Q) 0 0 h 97 [some (.ref a0), some (.int x1), some (.int x2), some (.int x3), some (.int x4)] [.int (if x3 = 0 then 0 else (if (h.I (a0 + 18) (Int32.toNatClampNeg x4)) = (h.I (a0 + 16) (Int32.toNatClampNeg (444 + x4))) then 1 else 0))] := by
      refine z_nmI (fun v_7 hv_8 => ?_)
      have hf := hf v_7 hv_8
      refine z_istore_n (q := 98) (i := 3) (ls2 := [some (.ref a0), some (.int x1), some (.int x2), some (.int v_7), some (.int x4)]) (x := v_7) dX13_orders_97 rfl (z_lt rfl) rfl rfl ?_
      refine z_iinc (q := 101) (i := 4) (x := x4) (v := (x4 + 1)) (ls2 := [some (.ref a0), some (.int x1), some (.int x2), some (.int v_7), some (.int (x4 + 1))]) dX13_orders_98 rfl rfl (z_lt rfl) rfl rfl ?_
      refine z_goto (q := 55) dX13_orders_101 rfl ?_
      exact hf
    refine z_if_eq (q := 71) (tgt := 96) dX13_orders_68 rfl rfl (fun hc => ?_) (fun hc => ?_)
    · have hk := (z_ite hk).1 hc
      have hsc := hsc.1 hc
      refine z_iconst (q := 97) (v := 0) dX13_orders_96 rfl rfl ?_
      exact hk
    · have hk := (z_ite hk).2 hc
      have hsc := hsc.2 hc
      obtain ⟨g_5, hsc⟩ := hsc
      obtain ⟨g_6, hsc⟩ := hsc
      refine z_aload_n (q := 72) (i := 0) (x := a0) dX13_orders_71 rfl rfl rfl ?_
      refine z_get 11 27 (q := 75) (v := .ref (a0 + 18)) rfl (z_lt rfl) (z_L11_T g_1) q1785 dX13_orders_72 rfl (z_fvR (fun _ _ _ => rfl) (z_L11_P27 g_1)) ?_
      refine z_iload (q := 77) (i := 4) (x := x4) dX13_orders_75 rfl rfl ?_
      refine z_iald (q := 78) (n := 48) (z_L11_A27 g_1) g_5 dX13_orders_77 rfl ?_
      refine z_aload_n (q := 79) (i := 0) (x := a0) dX13_orders_78 rfl rfl rfl ?_
      refine z_get 11 22 (q := 82) (v := .ref (a0 + 16)) rfl (z_lt rfl) (z_L11_T g_1) q1780 dX13_orders_79 rfl (z_fvR (fun _ _ _ => rfl) (z_L11_P22 g_1)) ?_
      refine z_sipush (q := 85) (v := 444) dX13_orders_82 (by decide) rfl ?_
      refine z_iload (q := 87) (i := 4) (x := x4) dX13_orders_85 rfl rfl ?_
      refine z_iadd (q := 88) dX13_orders_87 rfl ?_
      refine z_iald (q := 89) (n := 16560) (z_L11_A22 g_1) g_6 dX13_orders_88 rfl ?_
      refine z_icmp_ne (q := 92) (tgt := 96) dX13_orders_89 rfl rfl (fun hc => ?_) (fun hc => ?_)
      · have hk := (z_ite hk).2 hc
        refine z_iconst (q := 97) (v := 0) dX13_orders_96 rfl rfl ?_
        exact hk
      · have hk := (z_ite hk).1 hc
        refine z_iconst (q := 93) (v := 1) dX13_orders_92 rfl rfl ?_
        refine z_goto (q := 97) dX13_orders_93 rfl ?_
        exact hk

theorem u_X13_paysIn {l : Launch} {G : z_G} {a0 : Nat} {x1 : Int32} {x2 : Int32} {h : z_H} {Q : z_Q} (hst : l.stackTraces = false)  (hf : z_V l G m_X13_paysIn (z_Fm G m_X13_paysIn Q) 0 0 h 5 [some (.ref a0), some (.int x1), some (.int x2), some (.int 0), some (.int 0)] []) : z_Ct l G m_X13_paysIn [.ref a0, .int x1, .int x2] h Q := by
  refine z_Ct.of (ls := [some (.ref a0), some (.int x1), some (.int x2), none, none]) hst rfl (by show plainName yX13_paysIn.cls = true; decide +kernel) (z_le rfl) rfl ?_
  show z_V l G m_X13_paysIn (z_Fm G m_X13_paysIn Q) 0 0 h 0 [some (.ref a0), some (.int x1), some (.int x2), none, none] []
  refine z_iconst (q := 1) (v := 0) dX13_paysIn_0 rfl rfl ?_
  refine z_istore_n (q := 2) (i := 3) (ls2 := [some (.ref a0), some (.int x1), some (.int x2), some (.int 0), none]) (x := 0) dX13_paysIn_1 rfl (z_lt rfl) rfl rfl ?_
  refine z_iconst (q := 3) (v := 0) dX13_paysIn_2 rfl rfl ?_
  refine z_istore (q := 5) (i := 4) (ls2 := [some (.ref a0), some (.int x1), some (.int x2), some (.int 0), some (.int 0)]) (x := 0) dX13_paysIn_3 (z_lt rfl) rfl rfl ?_
  exact hf

theorem b_X13_paysIn_5 {l : Launch} {G : z_G} {a0 : Nat} {x1 : Int32} {x2 : Int32} {x3 : Int32} {x4 : Int32} {h : z_H} {Q : z_Q}  (hf : z_L11 h a0 ∧ vp_in ((x1 + 0) + x2) 16560 ∧ ((h.I (a0 + 16) (Int32.toNatClampNeg ((x1 + 0) + x2))) ≤ x4 → Q (some (.int x3)) h) ∧ (¬ (h.I (a0 + 16) (Int32.toNatClampNeg ((x1 + 0) + x2))) ≤ x4 → vp_in (((x1 + 20) + (48 * x2)) + x4) 16560 ∧ z_Ct l G m_X13_paysOf [.ref a0, .int (h.I (a0 + 16) (Int32.toNatClampNeg (((x1 + 20) + (48 * x2)) + x4)))] h (z_Qi (fun x_4 h_5 => z_V l G m_X13_paysIn (z_Fm G m_X13_paysIn Q) 0 0 h_5 5 [some (.ref a0), some (.int x1), some (.int x2), some (.int (x3 + x_4)), some (.int (x4 + 1))] [])))) : z_V l G m_X13_paysIn (z_Fm G m_X13_paysIn Q) 0 0 h 5 [some (.ref a0), some (.int x1), some (.int x2), some (.int x3), some (.int x4)] [] := by
  refine z_iload (q := 7) (i := 4) (x := x4) dX13_paysIn_5 rfl rfl ?_
  refine z_aload_n (q := 8) (i := 0) (x := a0) dX13_paysIn_7 rfl rfl rfl ?_
  obtain ⟨g_1, hf⟩ := hf
  refine z_get 11 22 (q := 11) (v := .ref (a0 + 16)) rfl (z_lt rfl) (z_L11_T g_1) q1780 dX13_paysIn_8 rfl (z_fvR (fun _ _ _ => rfl) (z_L11_P22 g_1)) ?_
  refine z_iload_n (q := 12) (i := 1) (x := x1) dX13_paysIn_11 rfl rfl rfl ?_
  refine z_iconst (q := 13) (v := 0) dX13_paysIn_12 rfl rfl ?_
  refine z_iadd (q := 14) dX13_paysIn_13 rfl ?_
  refine z_iload_n (q := 15) (i := 2) (x := x2) dX13_paysIn_14 rfl rfl rfl ?_
  refine z_iadd (q := 16) dX13_paysIn_15 rfl ?_
  obtain ⟨g_2, hf⟩ := hf
  refine z_iald (q := 17) (n := 16560) (z_L11_A22 g_1) g_2 dX13_paysIn_16 rfl ?_
  refine z_icmp_ge (q := 20) (tgt := 50) dX13_paysIn_17 rfl rfl (fun hc => ?_) (fun hc => ?_)
  · have hf := hf.1 hc
    refine z_iload_n (q := 51) (i := 3) (x := x3) dX13_paysIn_50 rfl rfl rfl ?_
    exact z_iret dX13_paysIn_51 rfl hf
  · have hf := hf.2 hc
    refine z_iload_n (q := 21) (i := 3) (x := x3) dX13_paysIn_20 rfl rfl rfl ?_
    refine z_aload_n (q := 22) (i := 0) (x := a0) dX13_paysIn_21 rfl rfl rfl ?_
    refine z_aload_n (q := 23) (i := 0) (x := a0) dX13_paysIn_22 rfl rfl rfl ?_
    refine z_get 11 22 (q := 26) (v := .ref (a0 + 16)) rfl (z_lt rfl) (z_L11_T g_1) q1780 dX13_paysIn_23 rfl (z_fvR (fun _ _ _ => rfl) (z_L11_P22 g_1)) ?_
    refine z_iload_n (q := 27) (i := 1) (x := x1) dX13_paysIn_26 rfl rfl rfl ?_
    refine z_bipush (q := 29) (v := 20) dX13_paysIn_27 (by decide) rfl ?_
    refine z_iadd (q := 30) dX13_paysIn_29 rfl ?_
    refine z_bipush (q := 32) (v := 48) dX13_paysIn_30 (by decide) rfl ?_
    refine z_iload_n (q := 33) (i := 2) (x := x2) dX13_paysIn_32 rfl rfl rfl ?_
    refine z_imul (q := 34) dX13_paysIn_33 rfl ?_
    refine z_iadd (q := 35) dX13_paysIn_34 rfl ?_
    refine z_iload (q := 37) (i := 4) (x := x4) dX13_paysIn_35 rfl rfl ?_
    refine z_iadd (q := 38) dX13_paysIn_37 rfl ?_
    obtain ⟨g_3, hf⟩ := hf
    refine z_iald (q := 39) (n := 16560) (z_L11_A22 g_1) g_3 dX13_paysIn_38 rfl ?_
    refine z_cVi m_X13_paysOf [.int (h.I (a0 + 16) (Int32.toNatClampNeg (((x1 + 20) + (48 * x2)) + x4)))] (a0) (q := 42) (rc2 := 0) (rs2 := 0) (st := [.int x3]) dX13_paysIn_39 rfl q2124 oV_X13_paysOf rfl rfl ⟨z_le rfl, z_le rfl⟩ (z_le rfl) (z_rcv_of 11 rfl (z_L11_T g_1) rfl) rfl  rfl hf (fun x_4 h_5 hf => ?_)
    refine z_iadd (q := 43) dX13_paysIn_42 rfl ?_
    refine z_istore_n (q := 44) (i := 3) (ls2 := [some (.ref a0), some (.int x1), some (.int x2), some (.int (x3 + x_4)), some (.int x4)]) (x := (x3 + x_4)) dX13_paysIn_43 rfl (z_lt rfl) rfl rfl ?_
    refine z_iinc (q := 47) (i := 4) (x := x4) (v := (x4 + 1)) (ls2 := [some (.ref a0), some (.int x1), some (.int x2), some (.int (x3 + x_4)), some (.int (x4 + 1))]) dX13_paysIn_44 rfl rfl (z_lt rfl) rfl rfl ?_
    refine z_goto (q := 5) dX13_paysIn_47 rfl ?_
    exact hf

theorem u_X13_paysOf {l : Launch} {G : z_G} {a0 : Nat} {x1 : Int32} {h : z_H} {Q : z_Q} (hst : l.stackTraces = false)  (hf : ∀ v_1 : Int32, v_1 = (x1 - x1 / 8 * 8) → z_L11 h a0 ∧ ((v_1 = (h.I a0 25) → True) ∧ (¬ v_1 = (h.I a0 25) → vp_in (5 + (2 * v_1)) 420 ∧ True)) ∧ Q (some (.int (if v_1 = (h.I a0 25) then (h.I a0 26) else (h.I (a0 + 6) (Int32.toNatClampNeg (5 + (2 * v_1))))))) h) : z_Ct l G m_X13_paysOf [.ref a0, .int x1] h Q := by
  refine z_Ct.of (ls := [some (.ref a0), some (.int x1), none]) hst rfl (by show plainName yX13_paysOf.cls = true; decide +kernel) (z_le rfl) rfl ?_
  show z_V l G m_X13_paysOf (z_Fm G m_X13_paysOf Q) 0 0 h 0 [some (.ref a0), some (.int x1), none] []
  refine z_iload_n (q := 1) (i := 1) (x := x1) dX13_paysOf_0 rfl rfl rfl ?_
  refine z_bipush (q := 3) (v := 8) dX13_paysOf_1 (by decide) rfl ?_
  refine z_irem (q := 4) dX13_paysOf_3 (by decide) rfl ?_
  refine z_nmI (fun v_1 hv_2 => ?_)
  have hf := hf v_1 hv_2
  refine z_istore_n (q := 5) (i := 2) (ls2 := [some (.ref a0), some (.int x1), some (.int v_1)]) (x := v_1) dX13_paysOf_4 rfl (z_lt rfl) rfl rfl ?_
  refine z_iload_n (q := 6) (i := 2) (x := v_1) dX13_paysOf_5 rfl rfl rfl ?_
  refine z_aload_n (q := 7) (i := 0) (x := a0) dX13_paysOf_6 rfl rfl rfl ?_
  obtain ⟨g_3, hf⟩ := hf
  refine z_get 11 25 (q := 10) (v := .int (h.I a0 25)) rfl (z_lt rfl) (z_L11_T g_3) q1783 dX13_paysOf_7 rfl rfl ?_
  obtain ⟨hsc, hf⟩ := hf
  have hk : z_V l G m_X13_paysOf (z_Fm G m_X13_paysOf Q) 0 0 h 30 [some (.ref a0), some (.int x1), some (.int v_1)] [.int (if v_1 = (h.I a0 25) then (h.I a0 26) else (h.I (a0 + 6) (Int32.toNatClampNeg (5 + (2 * v_1)))))] := by
    exact z_iret dX13_paysOf_30 rfl hf
  refine z_icmp_ne (q := 13) (tgt := 20) dX13_paysOf_10 rfl rfl (fun hc => ?_) (fun hc => ?_)
  · have hk := (z_ite hk).2 hc
    have hsc := hsc.2 hc
    obtain ⟨g_4, hsc⟩ := hsc
    refine z_aload_n (q := 21) (i := 0) (x := a0) dX13_paysOf_20 rfl rfl rfl ?_
    refine z_get 11 10 (q := 24) (v := .ref (a0 + 6)) rfl (z_lt rfl) (z_L11_T g_3) q1768 dX13_paysOf_21 rfl (z_fvR (fun _ _ _ => rfl) (z_L11_P10 g_3)) ?_
    refine z_iconst (q := 25) (v := 5) dX13_paysOf_24 rfl rfl ?_
    refine z_iconst (q := 26) (v := 2) dX13_paysOf_25 rfl rfl ?_
    refine z_iload_n (q := 27) (i := 2) (x := v_1) dX13_paysOf_26 rfl rfl rfl ?_
    refine z_imul (q := 28) dX13_paysOf_27 rfl ?_
    refine z_iadd (q := 29) dX13_paysOf_28 rfl ?_
    refine z_iald (q := 30) (n := 420) (z_L11_A10 g_3) g_4 dX13_paysOf_29 rfl ?_
    exact hk
  · have hk := (z_ite hk).1 hc
    have hsc := hsc.1 hc
    refine z_aload_n (q := 14) (i := 0) (x := a0) dX13_paysOf_13 rfl rfl rfl ?_
    refine z_get 11 26 (q := 17) (v := .int (h.I a0 26)) rfl (z_lt rfl) (z_L11_T g_3) q1784 dX13_paysOf_14 rfl rfl ?_
    refine z_goto (q := 30) dX13_paysOf_17 rfl ?_
    exact hk

theorem u_X13_plays {l : Launch} {G : z_G} {a0 : Nat} {x1 : Int32} {h : z_H} {Q : z_Q} (hst : l.stackTraces = false)  (hf : z_L11 h a0 ∧ z_Ct l G m_X13_goes [.ref a0, .int x1] h (z_Qi (fun x_2 h_3 => (x_2 = 0 → Q none h_3) ∧ (¬ x_2 = 0 → z_L11 h_3 a0 ∧ z_Ct l G m_X13_orderNow [.ref a0, .int x1] h_3 (z_Qi (fun x_5 h_6 => z_L11 h_6 a0 ∧ z_Ct l G m_X13_takes [.ref a0, .int x1, .int x_5] h_6 (z_Qv (fun h_8 => Q none h_8)))))))) : z_Ct l G m_X13_plays [.ref a0, .int x1] h Q := by
  refine z_Ct.of (ls := [some (.ref a0), some (.int x1)]) hst rfl (by show plainName yX13_plays.cls = true; decide +kernel) (z_le rfl) rfl ?_
  show z_V l G m_X13_plays (z_Fm G m_X13_plays Q) 0 0 h 0 [some (.ref a0), some (.int x1)] []
  refine z_aload_n (q := 1) (i := 0) (x := a0) dX13_plays_0 rfl rfl rfl ?_
  refine z_iload_n (q := 2) (i := 1) (x := x1) dX13_plays_1 rfl rfl rfl ?_
  obtain ⟨g_1, hf⟩ := hf
  refine z_cVi m_X13_goes [.int x1] (a0) (q := 5) (rc2 := 0) (rs2 := 0) (st := []) dX13_plays_2 rfl q2116 oV_X13_goes rfl rfl ⟨z_le rfl, z_le rfl⟩ (z_le rfl) (z_rcv_of 11 rfl (z_L11_T g_1) rfl) rfl  rfl hf (fun x_2 h_3 hf => ?_)
  refine z_if_eq (q := 8) (tgt := 18) dX13_plays_5 rfl rfl (fun hc => ?_) (fun hc => ?_)
  · have hf := hf.1 hc
    exact z_vret dX13_plays_18 rfl hf
  · have hf := hf.2 hc
    refine z_aload_n (q := 9) (i := 0) (x := a0) dX13_plays_8 rfl rfl rfl ?_
    refine z_iload_n (q := 10) (i := 1) (x := x1) dX13_plays_9 rfl rfl rfl ?_
    refine z_aload_n (q := 11) (i := 0) (x := a0) dX13_plays_10 rfl rfl rfl ?_
    refine z_iload_n (q := 12) (i := 1) (x := x1) dX13_plays_11 rfl rfl rfl ?_
    obtain ⟨g_4, hf⟩ := hf
    refine z_cVi m_X13_orderNow [.int x1] (a0) (q := 15) (rc2 := 0) (rs2 := 0) (st := [.int x1, .ref a0]) dX13_plays_12 rfl q2128 oV_X13_orderNow rfl rfl ⟨z_le rfl, z_le rfl⟩ (z_le rfl) (z_rcv_of 11 rfl (z_L11_T g_4) rfl) rfl  rfl hf (fun x_5 h_6 hf => ?_)
    obtain ⟨g_7, hf⟩ := hf
    refine z_cVv m_X13_takes [.int x1, .int x_5] (a0) (q := 18) (rc2 := 0) (rs2 := 0) (st := []) dX13_plays_15 rfl q2132 oV_X13_takes rfl rfl ⟨z_le rfl, z_le rfl⟩ (z_le rfl) (z_rcv_of 11 rfl (z_L11_T g_7) rfl) rfl  rfl hf (fun h_8 hf => ?_)
    exact z_vret dX13_plays_18 rfl hf

theorem u_X13_products {l : Launch} {G : z_G} {d : Nat} {a0 : Nat} {x1 : Int32} {h : z_H} {Q : z_Q} (hst : l.stackTraces = false)  (hf : z_L11 h a0 ∧ z_Ct l G (m_X13_takePart d) [.ref a0, .int x1] h (z_Qv (fun h_2 => z_V l G (m_X13_products d) (z_Fm G (m_X13_products d) Q) 0 0 h_2 5 [some (.ref a0), some (.int x1)] []))) : z_Ct l G (m_X13_products d) [.ref a0, .int x1] h Q := by
  refine z_Ct.of (ls := [some (.ref a0), some (.int x1)]) hst rfl (by show plainName yX13_products.cls = true; decide +kernel) (z_le rfl) rfl ?_
  show z_V l G (m_X13_products d) (z_Fm G (m_X13_products d) Q) 0 0 h 0 [some (.ref a0), some (.int x1)] []
  refine z_aload_n (q := 1) (i := 0) (x := a0) dX13_products_0 rfl rfl rfl ?_
  refine z_iload_n (q := 2) (i := 1) (x := x1) dX13_products_1 rfl rfl rfl ?_
  obtain ⟨g_1, hf⟩ := hf
  refine z_cVv (m_X13_takePart d) [.int x1] (a0) (q := 5) (rc2 := 0) (rs2 := 0) (st := []) dX13_products_2 rfl q2022 (oV_X13_takePart _) rfl rfl (z_room_of (by first | exact z_le rfl | (simp only [z_M.d, z_M.nL, z_M.lo, m_X13_takePart, m_X13_products]; omega)) (by first | exact z_le rfl | (simp only [z_M.d, z_M.nL, z_M.lo, m_X13_takePart, m_X13_products]; omega))) (z_le rfl) (z_rcv_of 11 rfl (z_L11_T g_1) rfl) rfl  rfl hf (fun h_2 hf => ?_)
  exact hf

theorem b_X13_products_5 {l : Launch} {G : z_G} {d : Nat} {a0 : Nat} {x1 : Int32} {h : z_H} {Q : z_Q}  (hf : z_L11 h a0 ∧ z_Ct l G m_X13_hasSign [.ref a0, .int 42] h (z_Qi (fun x_2 h_3 => (x_2 = 0 → Q none h_3) ∧ (¬ x_2 = 0 → z_L11 h_3 a0 ∧ z_Ct l G (m_X13_takePart d) [.ref a0, .int x1] h_3 (z_Qv (fun h_5 => z_L11 h_5 a0 ∧ z_Ct l G m_X13_emit [.ref a0, .int 6, .int 0] h_5 (z_Qv (fun h_7 => z_V l G (m_X13_products d) (z_Fm G (m_X13_products d) Q) 0 0 h_7 5 [some (.ref a0), some (.int x1)] [])))))))) : z_V l G (m_X13_products d) (z_Fm G (m_X13_products d) Q) 0 0 h 5 [some (.ref a0), some (.int x1)] [] := by
  refine z_aload_n (q := 6) (i := 0) (x := a0) dX13_products_5 rfl rfl rfl ?_
  refine z_bipush (q := 8) (v := 42) dX13_products_6 (by decide) rfl ?_
  obtain ⟨g_1, hf⟩ := hf
  refine z_cVi m_X13_hasSign [.int 42] (a0) (q := 11) (rc2 := 0) (rs2 := 0) (st := []) dX13_products_8 rfl q2034 oV_X13_hasSign rfl rfl (z_room_of (by first | exact z_le rfl | (simp only [z_M.d, z_M.nL, z_M.lo, m_X13_hasSign, m_X13_products]; omega)) (by first | exact z_le rfl | (simp only [z_M.d, z_M.nL, z_M.lo, m_X13_hasSign, m_X13_products]; omega))) (z_le rfl) (z_rcv_of 11 rfl (z_L11_T g_1) rfl) rfl  rfl hf (fun x_2 h_3 hf => ?_)
  refine z_if_eq (q := 14) (tgt := 29) dX13_products_11 rfl rfl (fun hc => ?_) (fun hc => ?_)
  · have hf := hf.1 hc
    exact z_vret dX13_products_29 rfl hf
  · have hf := hf.2 hc
    refine z_aload_n (q := 15) (i := 0) (x := a0) dX13_products_14 rfl rfl rfl ?_
    refine z_iload_n (q := 16) (i := 1) (x := x1) dX13_products_15 rfl rfl rfl ?_
    obtain ⟨g_4, hf⟩ := hf
    refine z_cVv (m_X13_takePart d) [.int x1] (a0) (q := 19) (rc2 := 0) (rs2 := 0) (st := []) dX13_products_16 rfl q2022 (oV_X13_takePart _) rfl rfl (z_room_of (by first | exact z_le rfl | (simp only [z_M.d, z_M.nL, z_M.lo, m_X13_takePart, m_X13_products]; omega)) (by first | exact z_le rfl | (simp only [z_M.d, z_M.nL, z_M.lo, m_X13_takePart, m_X13_products]; omega))) (z_le rfl) (z_rcv_of 11 rfl (z_L11_T g_4) rfl) rfl  rfl hf (fun h_5 hf => ?_)
    refine z_aload_n (q := 20) (i := 0) (x := a0) dX13_products_19 rfl rfl rfl ?_
    refine z_bipush (q := 22) (v := 6) dX13_products_20 (by decide) rfl ?_
    refine z_iconst (q := 23) (v := 0) dX13_products_22 rfl rfl ?_
    obtain ⟨g_6, hf⟩ := hf
    refine z_cVv m_X13_emit [.int 6, .int 0] (a0) (q := 26) (rc2 := 0) (rs2 := 0) (st := []) dX13_products_23 rfl q2030 oV_X13_emit rfl rfl (z_room_of (by first | exact z_le rfl | (simp only [z_M.d, z_M.nL, z_M.lo, m_X13_emit, m_X13_products]; omega)) (by first | exact z_le rfl | (simp only [z_M.d, z_M.nL, z_M.lo, m_X13_emit, m_X13_products]; omega))) (z_le rfl) (z_rcv_of 11 rfl (z_L11_T g_6) rfl) rfl  rfl hf (fun h_7 hf => ?_)
    refine z_goto (q := 5) dX13_products_26 rfl ?_
    exact hf

theorem u_X13_rank {l : Launch} {G : z_G} {x0 : Int32} {h : z_H} {Q : z_Q} (hst : l.stackTraces = false)  (hf : z_Ct l G m_X13_isLetter [.int x0] h (z_Qi (fun x_1 h_2 => Q (some (.int (if x_1 = 0 then (x0 - 21) else (x0 - 96)))) h_2))) : z_Ct l G m_X13_rank [.int x0] h Q := by
  refine z_Ct.of (ls := [some (.int x0)]) hst rfl (by show plainName yX13_rank.cls = true; decide +kernel) (z_le rfl) rfl ?_
  show z_V l G m_X13_rank (z_Fm G m_X13_rank Q) 0 0 h 0 [some (.int x0)] []
  refine z_iload_n (q := 1) (i := 0) (x := x0) dX13_rank_0 rfl rfl rfl ?_
  refine z_cSi m_X13_isLetter [.int x0] (q := 4) (rc2 := 0) (rs2 := 0) (st := []) dX13_rank_1 rfl q1935 oS_X13_isLetter rfl rfl ⟨z_le rfl, z_le rfl⟩ (z_le rfl) rfl  rfl hf (fun x_1 h_2 hf => ?_)
  have hk : z_V l G m_X13_rank (z_Fm G m_X13_rank Q) 0 0 h_2 18 [some (.int x0)] [.int (if x_1 = 0 then (x0 - 21) else (x0 - 96))] := by
    exact z_iret dX13_rank_18 rfl hf
  refine z_if_eq (q := 7) (tgt := 14) dX13_rank_4 rfl rfl (fun hc => ?_) (fun hc => ?_)
  · have hk := (z_ite hk).1 hc
    refine z_iload_n (q := 15) (i := 0) (x := x0) dX13_rank_14 rfl rfl rfl ?_
    refine z_bipush (q := 17) (v := 21) dX13_rank_15 (by decide) rfl ?_
    refine z_isub (q := 18) dX13_rank_17 rfl ?_
    exact hk
  · have hk := (z_ite hk).2 hc
    refine z_iload_n (q := 8) (i := 0) (x := x0) dX13_rank_7 rfl rfl rfl ?_
    refine z_bipush (q := 10) (v := 96) dX13_rank_8 (by decide) rfl ?_
    refine z_isub (q := 11) dX13_rank_10 rfl ?_
    refine z_goto (q := 18) dX13_rank_11 rfl ?_
    exact hk

theorem u_X13_readKind {l : Launch} {G : z_G} {a0 : Nat} {h : z_H} {Q : z_Q} (hst : l.stackTraces = false)  (hf : z_L11 h a0 ∧ vp_in 210 420 ∧ ∀ v_3 : Int32, v_3 = (h.I (a0 + 6) (Int32.toNatClampNeg 210)) → (v_3 = 8 → z_Ct l G m_X13_wrong [.ref a0, .int 5] h (z_Qv (fun h_14 => Q none h_14))) ∧ (¬ v_3 = 8 → z_Ct l G m_X13_isName [.ref a0] (h.sI a0 7 ((h.I a0 7) + 1)) (z_Qi (fun x_5 h_6 => (x_5 = 0 → z_L11 h_6 a0 ∧ z_Ct l G m_X13_wrong [.ref a0, .int 1] h_6 (z_Qv (fun h_13 => z_V l G m_X13_readKind (z_Fm G m_X13_readKind Q) 0 0 h_13 63 [some (.ref a0), some (.int v_3)] []))) ∧ (¬ x_5 = 0 → z_L11 h_6 a0 ∧ z_Ct l G m_X13_find [.ref a0, .ref (a0 + 10), .int v_3] h_6 (z_Qi (fun x_8 h_9 => (x_8 < 0 → z_V l G m_X13_readKind (z_Fm G m_X13_readKind Q) 0 0 h_9 63 [some (.ref a0), some (.int v_3)] []) ∧ (¬ x_8 < 0 → z_L11 h_9 a0 ∧ z_Ct l G m_X13_wrong [.ref a0, .int 3] h_9 (z_Qv (fun h_11 => z_V l G m_X13_readKind (z_Fm G m_X13_readKind Q) 0 0 h_11 63 [some (.ref a0), some (.int v_3)] [])))))))))) : z_Ct l G m_X13_readKind [.ref a0] h Q := by
  refine z_Ct.of (ls := [some (.ref a0), none]) hst rfl (by show plainName yX13_readKind.cls = true; decide +kernel) (z_le rfl) rfl ?_
  show z_V l G m_X13_readKind (z_Fm G m_X13_readKind Q) 0 0 h 0 [some (.ref a0), none] []
  refine z_aload_n (q := 1) (i := 0) (x := a0) dX13_readKind_0 rfl rfl rfl ?_
  obtain ⟨g_1, hf⟩ := hf
  refine z_get 11 10 (q := 4) (v := .ref (a0 + 6)) rfl (z_lt rfl) (z_L11_T g_1) q1768 dX13_readKind_1 rfl (z_fvR (fun _ _ _ => rfl) (z_L11_P10 g_1)) ?_
  refine z_sipush (q := 7) (v := 210) dX13_readKind_4 (by decide) rfl ?_
  obtain ⟨g_2, hf⟩ := hf
  refine z_iald (q := 8) (n := 420) (z_L11_A10 g_1) g_2 dX13_readKind_7 rfl ?_
  refine z_nmI (fun v_3 hv_4 => ?_)
  have hf := hf v_3 hv_4
  refine z_istore_n (q := 9) (i := 1) (ls2 := [some (.ref a0), some (.int v_3)]) (x := v_3) dX13_readKind_8 rfl (z_lt rfl) rfl rfl ?_
  refine z_iload_n (q := 10) (i := 1) (x := v_3) dX13_readKind_9 rfl rfl rfl ?_
  refine z_bipush (q := 12) (v := 8) dX13_readKind_10 (by decide) rfl ?_
  refine z_icmp_ne (q := 15) (tgt := 21) dX13_readKind_12 rfl rfl (fun hc => ?_) (fun hc => ?_)
  · have hf := hf.2 hc
    refine z_aload_n (q := 22) (i := 0) (x := a0) dX13_readKind_21 rfl rfl rfl ?_
    refine z_dup (q := 23) dX13_readKind_22 rfl rfl ?_
    refine z_get 11 7 (q := 26) (v := .int (h.I a0 7)) rfl (z_lt rfl) (z_L11_T g_1) q1765 dX13_readKind_23 rfl rfl ?_
    refine z_iconst (q := 27) (v := 1) dX13_readKind_26 rfl rfl ?_
    refine z_iadd (q := 28) dX13_readKind_27 rfl ?_
    refine z_putI 11 7 (q := 31) (x := ((h.I a0 7) + 1)) (v := .int ((h.I a0 7) + 1)) rfl (z_lt rfl) (z_L11_T g_1) q1765 rfl dX13_readKind_28 rfl rfl rfl rfl (fun _ _ _ => rfl) ?_
    refine z_aload_n (q := 32) (i := 0) (x := a0) dX13_readKind_31 rfl rfl rfl ?_
    refine z_cVi m_X13_isName [] (a0) (q := 35) (rc2 := 0) (rs2 := 0) (st := []) dX13_readKind_32 rfl q1966 oV_X13_isName rfl rfl ⟨z_le rfl, z_le rfl⟩ (z_le rfl) (z_rcv_of 11 rfl (z_L11_T g_1) rfl) rfl  rfl hf (fun x_5 h_6 hf => ?_)
    refine z_if_ne (q := 38) (tgt := 46) dX13_readKind_35 rfl rfl (fun hc => ?_) (fun hc => ?_)
    · have hf := hf.2 hc
      refine z_aload_n (q := 47) (i := 0) (x := a0) dX13_readKind_46 rfl rfl rfl ?_
      refine z_aload_n (q := 48) (i := 0) (x := a0) dX13_readKind_47 rfl rfl rfl ?_
      obtain ⟨g_7, hf⟩ := hf
      refine z_get 11 15 (q := 51) (v := .ref (a0 + 10)) rfl (z_lt rfl) (z_L11_T g_7) q1773 dX13_readKind_48 rfl (z_fvR (fun _ _ _ => rfl) (z_L11_P15 g_7)) ?_
      refine z_iload_n (q := 52) (i := 1) (x := v_3) dX13_readKind_51 rfl rfl rfl ?_
      refine z_cVi m_X13_find [.ref (a0 + 10), .int v_3] (a0) (q := 55) (rc2 := 0) (rs2 := 0) (st := []) dX13_readKind_52 rfl q1970 oV_X13_find rfl rfl ⟨z_le rfl, z_le rfl⟩ (z_le rfl) (z_rcv_of 11 rfl (z_L11_T g_7) rfl) rfl  rfl hf (fun x_8 h_9 hf => ?_)
      refine z_if_lt (q := 58) (tgt := 63) dX13_readKind_55 rfl rfl (fun hc => ?_) (fun hc => ?_)
      · have hf := hf.1 hc
        exact hf
      · have hf := hf.2 hc
        refine z_aload_n (q := 59) (i := 0) (x := a0) dX13_readKind_58 rfl rfl rfl ?_
        refine z_iconst (q := 60) (v := 3) dX13_readKind_59 rfl rfl ?_
        obtain ⟨g_10, hf⟩ := hf
        refine z_cVv m_X13_wrong [.int 3] (a0) (q := 63) (rc2 := 0) (rs2 := 0) (st := []) dX13_readKind_60 rfl q1962 oV_X13_wrong rfl rfl ⟨z_le rfl, z_le rfl⟩ (z_le rfl) (z_rcv_of 11 rfl (z_L11_T g_10) rfl) rfl  rfl hf (fun h_11 hf => ?_)
        exact hf
    · have hf := hf.1 hc
      refine z_aload_n (q := 39) (i := 0) (x := a0) dX13_readKind_38 rfl rfl rfl ?_
      refine z_iconst (q := 40) (v := 1) dX13_readKind_39 rfl rfl ?_
      obtain ⟨g_12, hf⟩ := hf
      refine z_cVv m_X13_wrong [.int 1] (a0) (q := 43) (rc2 := 0) (rs2 := 0) (st := []) dX13_readKind_40 rfl q1962 oV_X13_wrong rfl rfl ⟨z_le rfl, z_le rfl⟩ (z_le rfl) (z_rcv_of 11 rfl (z_L11_T g_12) rfl) rfl  rfl hf (fun h_13 hf => ?_)
      refine z_goto (q := 63) dX13_readKind_43 rfl ?_
      exact hf
  · have hf := hf.1 hc
    refine z_aload_n (q := 16) (i := 0) (x := a0) dX13_readKind_15 rfl rfl rfl ?_
    refine z_iconst (q := 17) (v := 5) dX13_readKind_16 rfl rfl ?_
    refine z_cVv m_X13_wrong [.int 5] (a0) (q := 20) (rc2 := 0) (rs2 := 0) (st := []) dX13_readKind_17 rfl q1962 oV_X13_wrong rfl rfl ⟨z_le rfl, z_le rfl⟩ (z_le rfl) (z_rcv_of 11 rfl (z_L11_T g_1) rfl) rfl  rfl hf (fun h_14 hf => ?_)
    exact z_vret dX13_readKind_20 rfl hf

theorem b_X13_readKind_63 {l : Launch} {G : z_G} {a0 : Nat} {x1 : Int32} {h : z_H} {Q : z_Q}  (hf : z_L11 h a0 ∧ ((h.I a0 8) ≤ 0 → vp_in (h.I a0 7) 1002 ∧ vp_in x1 8 ∧ z_Ct l G m_X13_takeWord [.ref a0, .int 1] ((h.sL (a0 + 10) (Int32.toNatClampNeg x1) (h.L (a0 + 4) (Int32.toNatClampNeg (h.I a0 7)))).sI a0 7 ((h.I a0 7) + 1)) (z_Qv (fun h_4 => z_L11 h_4 a0 ∧ z_Ct l G m_X13_takeNumber [.ref a0, .int 0, .int 6] h_4 (z_Qi (fun x_6 h_7 => ∃ n_8, h_7.T (a0 + 6) = (1, n_8) ∧ vp_in (215 + (2 * x1)) n_8 ∧ z_L11 h_7 a0 ∧ vp_in 210 420 ∧ vp_in 210 420 ∧ Q none ((h_7.sI (a0 + 6) (Int32.toNatClampNeg (215 + (2 * x1))) x_6).sI (a0 + 6) (Int32.toNatClampNeg 210) (((h_7.sI (a0 + 6) (Int32.toNatClampNeg (215 + (2 * x1))) x_6).I (a0 + 6) (Int32.toNatClampNeg 210)) + 1))))))) ∧ (¬ (h.I a0 8) ≤ 0 → Q none h)) : z_V l G m_X13_readKind (z_Fm G m_X13_readKind Q) 0 0 h 63 [some (.ref a0), some (.int x1)] [] := by
  refine z_aload_n (q := 64) (i := 0) (x := a0) dX13_readKind_63 rfl rfl rfl ?_
  obtain ⟨g_1, hf⟩ := hf
  refine z_get 11 8 (q := 67) (v := .int (h.I a0 8)) rfl (z_lt rfl) (z_L11_T g_1) q1766 dX13_readKind_64 rfl rfl ?_
  refine z_if_le (q := 70) (tgt := 71) dX13_readKind_67 rfl rfl (fun hc => ?_) (fun hc => ?_)
  · have hf := hf.1 hc
    refine z_aload_n (q := 72) (i := 0) (x := a0) dX13_readKind_71 rfl rfl rfl ?_
    refine z_get 11 15 (q := 75) (v := .ref (a0 + 10)) rfl (z_lt rfl) (z_L11_T g_1) q1773 dX13_readKind_72 rfl (z_fvR (fun _ _ _ => rfl) (z_L11_P15 g_1)) ?_
    refine z_iload_n (q := 76) (i := 1) (x := x1) dX13_readKind_75 rfl rfl rfl ?_
    refine z_aload_n (q := 77) (i := 0) (x := a0) dX13_readKind_76 rfl rfl rfl ?_
    refine z_get 11 6 (q := 80) (v := .ref (a0 + 4)) rfl (z_lt rfl) (z_L11_T g_1) q1764 dX13_readKind_77 rfl (z_fvR (fun _ _ _ => rfl) (z_L11_P6 g_1)) ?_
    refine z_aload_n (q := 81) (i := 0) (x := a0) dX13_readKind_80 rfl rfl rfl ?_
    refine z_get 11 7 (q := 84) (v := .int (h.I a0 7)) rfl (z_lt rfl) (z_L11_T g_1) q1765 dX13_readKind_81 rfl rfl ?_
    obtain ⟨g_2, hf⟩ := hf
    refine z_lald (q := 85) (n := 1002) (z_L11_A6 g_1) g_2 dX13_readKind_84 rfl ?_
    obtain ⟨g_3, hf⟩ := hf
    refine z_last (q := 86) (n := 8) (z_L11_A15 g_1) g_3 dX13_readKind_85 rfl ?_
    refine z_aload_n (q := 87) (i := 0) (x := a0) dX13_readKind_86 rfl rfl rfl ?_
    refine z_dup (q := 88) dX13_readKind_87 rfl rfl ?_
    refine z_get 11 7 (q := 91) (v := .int (h.I a0 7)) rfl (z_lt rfl) (z_L11_T g_1) q1765 dX13_readKind_88 rfl rfl ?_
    refine z_iconst (q := 92) (v := 1) dX13_readKind_91 rfl rfl ?_
    refine z_iadd (q := 93) dX13_readKind_92 rfl ?_
    refine z_putI 11 7 (q := 96) (x := ((h.I a0 7) + 1)) (v := .int ((h.I a0 7) + 1)) rfl (z_lt rfl) (z_L11_T g_1) q1765 rfl dX13_readKind_93 rfl rfl rfl rfl (fun _ _ _ => rfl) ?_
    refine z_aload_n (q := 97) (i := 0) (x := a0) dX13_readKind_96 rfl rfl rfl ?_
    refine z_iconst (q := 98) (v := 1) dX13_readKind_97 rfl rfl ?_
    refine z_cVv m_X13_takeWord [.int 1] (a0) (q := 101) (rc2 := 0) (rs2 := 0) (st := []) dX13_readKind_98 rfl q1974 oV_X13_takeWord rfl rfl ⟨z_le rfl, z_le rfl⟩ (z_le rfl) (z_rcv_of 11 rfl (z_L11_T g_1) rfl) rfl  rfl hf (fun h_4 hf => ?_)
    refine z_aload_n (q := 102) (i := 0) (x := a0) dX13_readKind_101 rfl rfl rfl ?_
    obtain ⟨g_5, hf⟩ := hf
    refine z_get 11 10 (q := 105) (v := .ref (a0 + 6)) rfl (z_lt rfl) (z_L11_T g_5) q1768 dX13_readKind_102 rfl (z_fvR (fun _ _ _ => rfl) (z_L11_P10 g_5)) ?_
    refine z_sipush (q := 108) (v := 215) dX13_readKind_105 (by decide) rfl ?_
    refine z_iconst (q := 109) (v := 2) dX13_readKind_108 rfl rfl ?_
    refine z_iload_n (q := 110) (i := 1) (x := x1) dX13_readKind_109 rfl rfl rfl ?_
    refine z_imul (q := 111) dX13_readKind_110 rfl ?_
    refine z_iadd (q := 112) dX13_readKind_111 rfl ?_
    refine z_aload_n (q := 113) (i := 0) (x := a0) dX13_readKind_112 rfl rfl rfl ?_
    refine z_iconst (q := 114) (v := 0) dX13_readKind_113 rfl rfl ?_
    refine z_bipush (q := 116) (v := 6) dX13_readKind_114 (by decide) rfl ?_
    refine z_cVi m_X13_takeNumber [.int 0, .int 6] (a0) (q := 119) (rc2 := 0) (rs2 := 0) (st := [.int (215 + (2 * x1)), .ref (a0 + 6)]) dX13_readKind_116 rfl q1982 oV_X13_takeNumber rfl rfl ⟨z_le rfl, z_le rfl⟩ (z_le rfl) (z_rcv_of 11 rfl (z_L11_T g_5) rfl) rfl  rfl hf (fun x_6 h_7 hf => ?_)
    obtain ⟨n_8, g_9, hf⟩ := hf
    obtain ⟨g_10, hf⟩ := hf
    refine z_iast (q := 120) (n := n_8) g_9 g_10 dX13_readKind_119 rfl ?_
    refine z_aload_n (q := 121) (i := 0) (x := a0) dX13_readKind_120 rfl rfl rfl ?_
    obtain ⟨g_11, hf⟩ := hf
    refine z_get 11 10 (q := 124) (v := .ref (a0 + 6)) rfl (z_lt rfl) (z_L11_T g_11) q1768 dX13_readKind_121 rfl (z_fvR (fun _ _ _ => rfl) (z_L11_P10 g_11)) ?_
    refine z_sipush (q := 127) (v := 210) dX13_readKind_124 (by decide) rfl ?_
    refine z_dup2 (q := 128) dX13_readKind_127 rfl rfl rfl ?_
    obtain ⟨g_12, hf⟩ := hf
    refine z_iald (q := 129) (n := 420) (z_L11_A10 g_11) g_12 dX13_readKind_128 rfl ?_
    refine z_iconst (q := 130) (v := 1) dX13_readKind_129 rfl rfl ?_
    refine z_iadd (q := 131) dX13_readKind_130 rfl ?_
    obtain ⟨g_13, hf⟩ := hf
    refine z_iast (q := 132) (n := 420) (z_L11_A10 g_11) g_13 dX13_readKind_131 rfl ?_
    exact z_vret dX13_readKind_132 rfl hf
  · have hf := hf.2 hc
    exact z_vret dX13_readKind_70 rfl hf

theorem u_X13_readLine {l : Launch} {G : z_G} {a0 : Nat} {h : z_H} {Q : z_Q} (hst : l.stackTraces = false)  (hf : z_L11 h a0 ∧ z_Ct l G m_X13_isWord [.ref a0, .int 0] h (z_Qi (fun x_2 h_3 => (x_2 = 0 → z_L11 h_3 a0 ∧ z_Ct l G m_X13_isWord [.ref a0, .int 2] h_3 (z_Qi (fun x_5 h_6 => (x_5 = 0 → z_L11 h_6 a0 ∧ z_Ct l G m_X13_readOnce [.ref a0] h_6 (z_Qv (fun h_8 => Q none h_8))) ∧ (¬ x_5 = 0 → z_L11 h_6 a0 ∧ z_Ct l G m_X13_readPack [.ref a0] h_6 (z_Qv (fun h_10 => Q none h_10)))))) ∧ (¬ x_2 = 0 → z_L11 h_3 a0 ∧ z_Ct l G m_X13_readKind [.ref a0] h_3 (z_Qv (fun h_12 => Q none h_12)))))) : z_Ct l G m_X13_readLine [.ref a0] h Q := by
  refine z_Ct.of (ls := [some (.ref a0)]) hst rfl (by show plainName yX13_readLine.cls = true; decide +kernel) (z_le rfl) rfl ?_
  show z_V l G m_X13_readLine (z_Fm G m_X13_readLine Q) 0 0 h 0 [some (.ref a0)] []
  refine z_aload_n (q := 1) (i := 0) (x := a0) dX13_readLine_0 rfl rfl rfl ?_
  refine z_iconst (q := 2) (v := 0) dX13_readLine_1 rfl rfl ?_
  obtain ⟨g_1, hf⟩ := hf
  refine z_cVi m_X13_isWord [.int 0] (a0) (q := 5) (rc2 := 0) (rs2 := 0) (st := []) dX13_readLine_2 rfl q1954 oV_X13_isWord rfl rfl ⟨z_le rfl, z_le rfl⟩ (z_le rfl) (z_rcv_of 11 rfl (z_L11_T g_1) rfl) rfl  rfl hf (fun x_2 h_3 hf => ?_)
  refine z_if_eq (q := 8) (tgt := 15) dX13_readLine_5 rfl rfl (fun hc => ?_) (fun hc => ?_)
  · have hf := hf.1 hc
    refine z_aload_n (q := 16) (i := 0) (x := a0) dX13_readLine_15 rfl rfl rfl ?_
    refine z_iconst (q := 17) (v := 2) dX13_readLine_16 rfl rfl ?_
    obtain ⟨g_4, hf⟩ := hf
    refine z_cVi m_X13_isWord [.int 2] (a0) (q := 20) (rc2 := 0) (rs2 := 0) (st := []) dX13_readLine_17 rfl q1954 oV_X13_isWord rfl rfl ⟨z_le rfl, z_le rfl⟩ (z_le rfl) (z_rcv_of 11 rfl (z_L11_T g_4) rfl) rfl  rfl hf (fun x_5 h_6 hf => ?_)
    refine z_if_eq (q := 23) (tgt := 30) dX13_readLine_20 rfl rfl (fun hc => ?_) (fun hc => ?_)
    · have hf := hf.1 hc
      refine z_aload_n (q := 31) (i := 0) (x := a0) dX13_readLine_30 rfl rfl rfl ?_
      obtain ⟨g_7, hf⟩ := hf
      refine z_cVv m_X13_readOnce [] (a0) (q := 34) (rc2 := 0) (rs2 := 0) (st := []) dX13_readLine_31 rfl q1994 oV_X13_readOnce rfl rfl ⟨z_le rfl, z_le rfl⟩ (z_le rfl) (z_rcv_of 11 rfl (z_L11_T g_7) rfl) rfl  rfl hf (fun h_8 hf => ?_)
      exact z_vret dX13_readLine_34 rfl hf
    · have hf := hf.2 hc
      refine z_aload_n (q := 24) (i := 0) (x := a0) dX13_readLine_23 rfl rfl rfl ?_
      obtain ⟨g_9, hf⟩ := hf
      refine z_cVv m_X13_readPack [] (a0) (q := 27) (rc2 := 0) (rs2 := 0) (st := []) dX13_readLine_24 rfl q1986 oV_X13_readPack rfl rfl ⟨z_le rfl, z_le rfl⟩ (z_le rfl) (z_rcv_of 11 rfl (z_L11_T g_9) rfl) rfl  rfl hf (fun h_10 hf => ?_)
      refine z_goto (q := 34) dX13_readLine_27 rfl ?_
      exact z_vret dX13_readLine_34 rfl hf
  · have hf := hf.2 hc
    refine z_aload_n (q := 9) (i := 0) (x := a0) dX13_readLine_8 rfl rfl rfl ?_
    obtain ⟨g_11, hf⟩ := hf
    refine z_cVv m_X13_readKind [] (a0) (q := 12) (rc2 := 0) (rs2 := 0) (st := []) dX13_readLine_9 rfl q1958 oV_X13_readKind rfl rfl ⟨z_le rfl, z_le rfl⟩ (z_le rfl) (z_rcv_of 11 rfl (z_L11_T g_11) rfl) rfl  rfl hf (fun h_12 hf => ?_)
    refine z_goto (q := 34) dX13_readLine_12 rfl ?_
    exact z_vret dX13_readLine_34 rfl hf

theorem u_X13_readOnce {l : Launch} {G : z_G} {a0 : Nat} {h : z_H} {Q : z_Q} (hst : l.stackTraces = false)  (hf : z_L11 h a0 ∧ z_Ct l G m_X13_wordHere [.ref a0, .int 3, .int 4] h (z_Qi (fun x_2 h_3 => (0 ≤ x_2 → z_L11 h_3 a0 ∧ ((((h_3.I a0 16) >>> (x_2 &&& 31)) &&& 1) = 1 → z_Ct l G m_X13_wrong [.ref a0, .int 3] h_3 (z_Qv (fun h_24 => Q none h_24))) ∧ (¬ (((h_3.I a0 16) >>> (x_2 &&& 31)) &&& 1) = 1 → (x_2 = 0 → z_Ct l G m_X13_takeOne [.ref a0, .int 7, .int 5] ((h_3.sI a0 16 ((h_3.I a0 16) ||| (1 <<< (x_2 &&& 31)))).sI a0 7 ((h_3.I a0 7) + 1)) (z_Qi (fun x_19 h_20 => ∃ n_21, h_20.T (a0 + 6) = (1, n_21) ∧ vp_in 211 n_21 ∧ Q none (h_20.sI (a0 + 6) (Int32.toNatClampNeg 211) x_19)))) ∧ (¬ x_2 = 0 → (x_2 = 1 → z_Ct l G m_X13_takeOne [.ref a0, .int 12, .int 2] ((h_3.sI a0 16 ((h_3.I a0 16) ||| (1 <<< (x_2 &&& 31)))).sI a0 7 ((h_3.I a0 7) + 1)) (z_Qi (fun x_14 h_15 => ∃ n_16, h_15.T (a0 + 6) = (1, n_16) ∧ vp_in 212 n_16 ∧ Q none (h_15.sI (a0 + 6) (Int32.toNatClampNeg 212) x_14)))) ∧ (¬ x_2 = 1 → (x_2 = 2 → vp_in 214 420 ∧ z_Ct l G (m_X13_ands 6) [.ref a0, .int 0] (((h_3.sI a0 16 ((h_3.I a0 16) ||| (1 <<< (x_2 &&& 31)))).sI a0 7 ((h_3.I a0 7) + 1)).sI (a0 + 6) (Int32.toNatClampNeg 214) (h_3.I a0 13)) (z_Qv (fun h_11 => z_L11 h_11 a0 ∧ z_Ct l G m_X13_emit [.ref a0, .int 0, .int 0] h_11 (z_Qv (fun h_13 => Q none h_13))))) ∧ (¬ x_2 = 2 → z_Ct l G m_X13_takeNumber [.ref a0, .int 10, .int 3000] ((h_3.sI a0 16 ((h_3.I a0 16) ||| (1 <<< (x_2 &&& 31)))).sI a0 7 ((h_3.I a0 7) + 1)) (z_Qi (fun x_5 h_6 => ∃ n_7, h_6.T (a0 + 6) = (1, n_7) ∧ vp_in 213 n_7 ∧ Q none (h_6.sI (a0 + 6) (Int32.toNatClampNeg 213) x_5)))))))) ∧ (¬ 0 ≤ x_2 → z_L11 h_3 a0 ∧ z_Ct l G m_X13_wrong [.ref a0, .int 1] h_3 (z_Qv (fun h_26 => Q none h_26)))))) : z_Ct l G m_X13_readOnce [.ref a0] h Q := by
  refine z_Ct.of (ls := [some (.ref a0), none]) hst rfl (by show plainName yX13_readOnce.cls = true; decide +kernel) (z_le rfl) rfl ?_
  show z_V l G m_X13_readOnce (z_Fm G m_X13_readOnce Q) 0 0 h 0 [some (.ref a0), none] []
  refine z_aload_n (q := 1) (i := 0) (x := a0) dX13_readOnce_0 rfl rfl rfl ?_
  refine z_iconst (q := 2) (v := 3) dX13_readOnce_1 rfl rfl ?_
  refine z_iconst (q := 3) (v := 4) dX13_readOnce_2 rfl rfl ?_
  obtain ⟨g_1, hf⟩ := hf
  refine z_cVi m_X13_wordHere [.int 3, .int 4] (a0) (q := 6) (rc2 := 0) (rs2 := 0) (st := []) dX13_readOnce_3 rfl q1998 oV_X13_wordHere rfl rfl ⟨z_le rfl, z_le rfl⟩ (z_le rfl) (z_rcv_of 11 rfl (z_L11_T g_1) rfl) rfl  rfl hf (fun x_2 h_3 hf => ?_)
  refine z_istore_n (q := 7) (i := 1) (ls2 := [some (.ref a0), some (.int x_2)]) (x := x_2) dX13_readOnce_6 rfl (z_lt rfl) rfl rfl ?_
  refine z_iload_n (q := 8) (i := 1) (x := x_2) dX13_readOnce_7 rfl rfl rfl ?_
  refine z_if_ge (q := 11) (tgt := 17) dX13_readOnce_8 rfl rfl (fun hc => ?_) (fun hc => ?_)
  · have hf := hf.1 hc
    refine z_aload_n (q := 18) (i := 0) (x := a0) dX13_readOnce_17 rfl rfl rfl ?_
    obtain ⟨g_4, hf⟩ := hf
    refine z_get 11 16 (q := 21) (v := .int (h_3.I a0 16)) rfl (z_lt rfl) (z_L11_T g_4) q1774 dX13_readOnce_18 rfl rfl ?_
    refine z_iload_n (q := 22) (i := 1) (x := x_2) dX13_readOnce_21 rfl rfl rfl ?_
    refine z_ishr (q := 23) dX13_readOnce_22 rfl ?_
    refine z_iconst (q := 24) (v := 1) dX13_readOnce_23 rfl rfl ?_
    refine z_iand (q := 25) dX13_readOnce_24 rfl ?_
    refine z_iconst (q := 26) (v := 1) dX13_readOnce_25 rfl rfl ?_
    refine z_icmp_ne (q := 29) (tgt := 35) dX13_readOnce_26 rfl rfl (fun hc => ?_) (fun hc => ?_)
    · have hf := hf.2 hc
      refine z_aload_n (q := 36) (i := 0) (x := a0) dX13_readOnce_35 rfl rfl rfl ?_
      refine z_dup (q := 37) dX13_readOnce_36 rfl rfl ?_
      refine z_get 11 16 (q := 40) (v := .int (h_3.I a0 16)) rfl (z_lt rfl) (z_L11_T g_4) q1774 dX13_readOnce_37 rfl rfl ?_
      refine z_iconst (q := 41) (v := 1) dX13_readOnce_40 rfl rfl ?_
      refine z_iload_n (q := 42) (i := 1) (x := x_2) dX13_readOnce_41 rfl rfl rfl ?_
      refine z_ishl (q := 43) dX13_readOnce_42 rfl ?_
      refine z_ior (q := 44) dX13_readOnce_43 rfl ?_
      refine z_putI 11 16 (q := 47) (x := ((h_3.I a0 16) ||| (1 <<< (x_2 &&& 31)))) (v := .int ((h_3.I a0 16) ||| (1 <<< (x_2 &&& 31)))) rfl (z_lt rfl) (z_L11_T g_4) q1774 rfl dX13_readOnce_44 rfl rfl rfl rfl (fun _ _ _ => rfl) ?_
      refine z_aload_n (q := 48) (i := 0) (x := a0) dX13_readOnce_47 rfl rfl rfl ?_
      refine z_dup (q := 49) dX13_readOnce_48 rfl rfl ?_
      refine z_get 11 7 (q := 52) (v := .int (h_3.I a0 7)) rfl (z_lt rfl) (z_L11_T g_4) q1765 dX13_readOnce_49 rfl (congrArg Value.int (z_rIf (by decide))) ?_
      refine z_iconst (q := 53) (v := 1) dX13_readOnce_52 rfl rfl ?_
      refine z_iadd (q := 54) dX13_readOnce_53 rfl ?_
      refine z_putI 11 7 (q := 57) (x := ((h_3.I a0 7) + 1)) (v := .int ((h_3.I a0 7) + 1)) rfl (z_lt rfl) (z_L11_T g_4) q1765 rfl dX13_readOnce_54 rfl rfl rfl rfl (fun _ _ _ => rfl) ?_
      refine z_iload_n (q := 58) (i := 1) (x := x_2) dX13_readOnce_57 rfl rfl rfl ?_
      refine z_if_ne (q := 61) (tgt := 79) dX13_readOnce_58 rfl rfl (fun hc => ?_) (fun hc => ?_)
      · have hf := hf.2 hc
        refine z_iload_n (q := 80) (i := 1) (x := x_2) dX13_readOnce_79 rfl rfl rfl ?_
        refine z_iconst (q := 81) (v := 1) dX13_readOnce_80 rfl rfl ?_
        refine z_icmp_ne (q := 84) (tgt := 102) dX13_readOnce_81 rfl rfl (fun hc => ?_) (fun hc => ?_)
        · have hf := hf.2 hc
          refine z_iload_n (q := 103) (i := 1) (x := x_2) dX13_readOnce_102 rfl rfl rfl ?_
          refine z_iconst (q := 104) (v := 2) dX13_readOnce_103 rfl rfl ?_
          refine z_icmp_ne (q := 107) (tgt := 133) dX13_readOnce_104 rfl rfl (fun hc => ?_) (fun hc => ?_)
          · have hf := hf.2 hc
            refine z_aload_n (q := 134) (i := 0) (x := a0) dX13_readOnce_133 rfl rfl rfl ?_
            refine z_get 11 10 (q := 137) (v := .ref (a0 + 6)) rfl (z_lt rfl) (z_L11_T g_4) q1768 dX13_readOnce_134 rfl (z_fvR (fun _ _ _ => rfl) (z_L11_P10 g_4)) ?_
            refine z_sipush (q := 140) (v := 213) dX13_readOnce_137 (by decide) rfl ?_
            refine z_aload_n (q := 141) (i := 0) (x := a0) dX13_readOnce_140 rfl rfl rfl ?_
            refine z_bipush (q := 143) (v := 10) dX13_readOnce_141 (by decide) rfl ?_
            refine z_sipush (q := 146) (v := 3000) dX13_readOnce_143 (by decide) rfl ?_
            refine z_cVi m_X13_takeNumber [.int 10, .int 3000] (a0) (q := 149) (rc2 := 0) (rs2 := 0) (st := [.int 213, .ref (a0 + 6)]) dX13_readOnce_146 rfl q1982 oV_X13_takeNumber rfl rfl ⟨z_le rfl, z_le rfl⟩ (z_le rfl) (z_rcv_of 11 rfl (z_L11_T g_4) rfl) rfl  rfl hf (fun x_5 h_6 hf => ?_)
            obtain ⟨n_7, g_8, hf⟩ := hf
            obtain ⟨g_9, hf⟩ := hf
            refine z_iast (q := 150) (n := n_7) g_8 g_9 dX13_readOnce_149 rfl ?_
            exact z_vret dX13_readOnce_150 rfl hf
          · have hf := hf.1 hc
            refine z_aload_n (q := 108) (i := 0) (x := a0) dX13_readOnce_107 rfl rfl rfl ?_
            refine z_get 11 10 (q := 111) (v := .ref (a0 + 6)) rfl (z_lt rfl) (z_L11_T g_4) q1768 dX13_readOnce_108 rfl (z_fvR (fun _ _ _ => rfl) (z_L11_P10 g_4)) ?_
            refine z_sipush (q := 114) (v := 214) dX13_readOnce_111 (by decide) rfl ?_
            refine z_aload_n (q := 115) (i := 0) (x := a0) dX13_readOnce_114 rfl rfl rfl ?_
            refine z_get 11 13 (q := 118) (v := .int (h_3.I a0 13)) rfl (z_lt rfl) (z_L11_T g_4) q1771 dX13_readOnce_115 rfl (congrArg Value.int (Eq.trans (z_rIf (by decide)) (z_rIf (by decide)))) ?_
            obtain ⟨g_10, hf⟩ := hf
            refine z_iast (q := 119) (n := 420) (z_L11_A10 g_4) g_10 dX13_readOnce_118 rfl ?_
            refine z_aload_n (q := 120) (i := 0) (x := a0) dX13_readOnce_119 rfl rfl rfl ?_
            refine z_iconst (q := 121) (v := 0) dX13_readOnce_120 rfl rfl ?_
            refine z_cVv (m_X13_ands 6) [.int 0] (a0) (q := 124) (rc2 := 0) (rs2 := 0) (st := []) dX13_readOnce_121 rfl q2006 (oV_X13_ands _) rfl rfl (z_room_of (by first | exact z_le rfl | (simp only [z_M.d, z_M.nL, z_M.lo, m_X13_ands, m_X13_readOnce]; omega)) (by first | exact z_le rfl | (simp only [z_M.d, z_M.nL, z_M.lo, m_X13_ands, m_X13_readOnce]; omega))) (z_le rfl) (z_rcv_of 11 rfl (z_L11_T g_4) rfl) rfl  rfl hf (fun h_11 hf => ?_)
            refine z_aload_n (q := 125) (i := 0) (x := a0) dX13_readOnce_124 rfl rfl rfl ?_
            refine z_iconst (q := 126) (v := 0) dX13_readOnce_125 rfl rfl ?_
            refine z_iconst (q := 127) (v := 0) dX13_readOnce_126 rfl rfl ?_
            obtain ⟨g_12, hf⟩ := hf
            refine z_cVv m_X13_emit [.int 0, .int 0] (a0) (q := 130) (rc2 := 0) (rs2 := 0) (st := []) dX13_readOnce_127 rfl q2030 oV_X13_emit rfl rfl ⟨z_le rfl, z_le rfl⟩ (z_le rfl) (z_rcv_of 11 rfl (z_L11_T g_12) rfl) rfl  rfl hf (fun h_13 hf => ?_)
            refine z_goto (q := 150) dX13_readOnce_130 rfl ?_
            exact z_vret dX13_readOnce_150 rfl hf
        · have hf := hf.1 hc
          refine z_aload_n (q := 85) (i := 0) (x := a0) dX13_readOnce_84 rfl rfl rfl ?_
          refine z_get 11 10 (q := 88) (v := .ref (a0 + 6)) rfl (z_lt rfl) (z_L11_T g_4) q1768 dX13_readOnce_85 rfl (z_fvR (fun _ _ _ => rfl) (z_L11_P10 g_4)) ?_
          refine z_sipush (q := 91) (v := 212) dX13_readOnce_88 (by decide) rfl ?_
          refine z_aload_n (q := 92) (i := 0) (x := a0) dX13_readOnce_91 rfl rfl rfl ?_
          refine z_bipush (q := 94) (v := 12) dX13_readOnce_92 (by decide) rfl ?_
          refine z_iconst (q := 95) (v := 2) dX13_readOnce_94 rfl rfl ?_
          refine z_cVi m_X13_takeOne [.int 12, .int 2] (a0) (q := 98) (rc2 := 0) (rs2 := 0) (st := [.int 212, .ref (a0 + 6)]) dX13_readOnce_95 rfl q2002 oV_X13_takeOne rfl rfl ⟨z_le rfl, z_le rfl⟩ (z_le rfl) (z_rcv_of 11 rfl (z_L11_T g_4) rfl) rfl  rfl hf (fun x_14 h_15 hf => ?_)
          obtain ⟨n_16, g_17, hf⟩ := hf
          obtain ⟨g_18, hf⟩ := hf
          refine z_iast (q := 99) (n := n_16) g_17 g_18 dX13_readOnce_98 rfl ?_
          refine z_goto (q := 150) dX13_readOnce_99 rfl ?_
          exact z_vret dX13_readOnce_150 rfl hf
      · have hf := hf.1 hc
        refine z_aload_n (q := 62) (i := 0) (x := a0) dX13_readOnce_61 rfl rfl rfl ?_
        refine z_get 11 10 (q := 65) (v := .ref (a0 + 6)) rfl (z_lt rfl) (z_L11_T g_4) q1768 dX13_readOnce_62 rfl (z_fvR (fun _ _ _ => rfl) (z_L11_P10 g_4)) ?_
        refine z_sipush (q := 68) (v := 211) dX13_readOnce_65 (by decide) rfl ?_
        refine z_aload_n (q := 69) (i := 0) (x := a0) dX13_readOnce_68 rfl rfl rfl ?_
        refine z_bipush (q := 71) (v := 7) dX13_readOnce_69 (by decide) rfl ?_
        refine z_iconst (q := 72) (v := 5) dX13_readOnce_71 rfl rfl ?_
        refine z_cVi m_X13_takeOne [.int 7, .int 5] (a0) (q := 75) (rc2 := 0) (rs2 := 0) (st := [.int 211, .ref (a0 + 6)]) dX13_readOnce_72 rfl q2002 oV_X13_takeOne rfl rfl ⟨z_le rfl, z_le rfl⟩ (z_le rfl) (z_rcv_of 11 rfl (z_L11_T g_4) rfl) rfl  rfl hf (fun x_19 h_20 hf => ?_)
        obtain ⟨n_21, g_22, hf⟩ := hf
        obtain ⟨g_23, hf⟩ := hf
        refine z_iast (q := 76) (n := n_21) g_22 g_23 dX13_readOnce_75 rfl ?_
        refine z_goto (q := 150) dX13_readOnce_76 rfl ?_
        exact z_vret dX13_readOnce_150 rfl hf
    · have hf := hf.1 hc
      refine z_aload_n (q := 30) (i := 0) (x := a0) dX13_readOnce_29 rfl rfl rfl ?_
      refine z_iconst (q := 31) (v := 3) dX13_readOnce_30 rfl rfl ?_
      refine z_cVv m_X13_wrong [.int 3] (a0) (q := 34) (rc2 := 0) (rs2 := 0) (st := []) dX13_readOnce_31 rfl q1962 oV_X13_wrong rfl rfl ⟨z_le rfl, z_le rfl⟩ (z_le rfl) (z_rcv_of 11 rfl (z_L11_T g_4) rfl) rfl  rfl hf (fun h_24 hf => ?_)
      exact z_vret dX13_readOnce_34 rfl hf
  · have hf := hf.2 hc
    refine z_aload_n (q := 12) (i := 0) (x := a0) dX13_readOnce_11 rfl rfl rfl ?_
    refine z_iconst (q := 13) (v := 1) dX13_readOnce_12 rfl rfl ?_
    obtain ⟨g_25, hf⟩ := hf
    refine z_cVv m_X13_wrong [.int 1] (a0) (q := 16) (rc2 := 0) (rs2 := 0) (st := []) dX13_readOnce_13 rfl q1962 oV_X13_wrong rfl rfl ⟨z_le rfl, z_le rfl⟩ (z_le rfl) (z_rcv_of 11 rfl (z_L11_T g_25) rfl) rfl  rfl hf (fun h_26 hf => ?_)
    exact z_vret dX13_readOnce_16 rfl hf

theorem u_X13_readOpening {l : Launch} {G : z_G} {a0 : Nat} {x1 : Int32} {h : z_H} {Q : z_Q} (hst : l.stackTraces = false)  (hf : z_L11 h a0 ∧ z_Ct l G m_X13_readRow [.ref a0, .int 0, .int 6] h (z_Qv (fun h_2 => z_L11 h_2 a0 ∧ z_Ct l G m_X13_takeSign [.ref a0, .int 44] h_2 (z_Qv (fun h_4 => z_L11 h_4 a0 ∧ z_Ct l G m_X13_readRow [.ref a0, .int 1, .int 6] h_4 (z_Qv (fun h_6 => z_L11 h_6 a0 ∧ z_Ct l G m_X13_takeWord [.ref a0, .int 16] h_6 (z_Qv (fun h_8 => z_L11 h_8 a0 ∧ z_Ct l G m_X13_takeOne [.ref a0, .int 12, .int 3] h_8 (z_Qi (fun x_10 h_11 => z_V l G m_X13_readOpening (z_Fm G m_X13_readOpening Q) 0 0 h_11 36 [some (.ref a0), some (.int x1), some (.int x_10), some (.int 0), none] []))))))))))) : z_Ct l G m_X13_readOpening [.ref a0, .int x1] h Q := by
  refine z_Ct.of (ls := [some (.ref a0), some (.int x1), none, none, none]) hst rfl (by show plainName yX13_readOpening.cls = true; decide +kernel) (z_le rfl) rfl ?_
  show z_V l G m_X13_readOpening (z_Fm G m_X13_readOpening Q) 0 0 h 0 [some (.ref a0), some (.int x1), none, none, none] []
  refine z_aload_n (q := 1) (i := 0) (x := a0) dX13_readOpening_0 rfl rfl rfl ?_
  refine z_iconst (q := 2) (v := 0) dX13_readOpening_1 rfl rfl ?_
  refine z_bipush (q := 4) (v := 6) dX13_readOpening_2 (by decide) rfl ?_
  obtain ⟨g_1, hf⟩ := hf
  refine z_cVv m_X13_readRow [.int 0, .int 6] (a0) (q := 7) (rc2 := 0) (rs2 := 0) (st := []) dX13_readOpening_4 rfl q2046 oV_X13_readRow rfl rfl ⟨z_le rfl, z_le rfl⟩ (z_le rfl) (z_rcv_of 11 rfl (z_L11_T g_1) rfl) rfl  rfl hf (fun h_2 hf => ?_)
  refine z_aload_n (q := 8) (i := 0) (x := a0) dX13_readOpening_7 rfl rfl rfl ?_
  refine z_bipush (q := 10) (v := 44) dX13_readOpening_8 (by decide) rfl ?_
  obtain ⟨g_3, hf⟩ := hf
  refine z_cVv m_X13_takeSign [.int 44] (a0) (q := 13) (rc2 := 0) (rs2 := 0) (st := []) dX13_readOpening_10 rfl q2038 oV_X13_takeSign rfl rfl ⟨z_le rfl, z_le rfl⟩ (z_le rfl) (z_rcv_of 11 rfl (z_L11_T g_3) rfl) rfl  rfl hf (fun h_4 hf => ?_)
  refine z_aload_n (q := 14) (i := 0) (x := a0) dX13_readOpening_13 rfl rfl rfl ?_
  refine z_iconst (q := 15) (v := 1) dX13_readOpening_14 rfl rfl ?_
  refine z_bipush (q := 17) (v := 6) dX13_readOpening_15 (by decide) rfl ?_
  obtain ⟨g_5, hf⟩ := hf
  refine z_cVv m_X13_readRow [.int 1, .int 6] (a0) (q := 20) (rc2 := 0) (rs2 := 0) (st := []) dX13_readOpening_17 rfl q2046 oV_X13_readRow rfl rfl ⟨z_le rfl, z_le rfl⟩ (z_le rfl) (z_rcv_of 11 rfl (z_L11_T g_5) rfl) rfl  rfl hf (fun h_6 hf => ?_)
  refine z_aload_n (q := 21) (i := 0) (x := a0) dX13_readOpening_20 rfl rfl rfl ?_
  refine z_bipush (q := 23) (v := 16) dX13_readOpening_21 (by decide) rfl ?_
  obtain ⟨g_7, hf⟩ := hf
  refine z_cVv m_X13_takeWord [.int 16] (a0) (q := 26) (rc2 := 0) (rs2 := 0) (st := []) dX13_readOpening_23 rfl q1974 oV_X13_takeWord rfl rfl ⟨z_le rfl, z_le rfl⟩ (z_le rfl) (z_rcv_of 11 rfl (z_L11_T g_7) rfl) rfl  rfl hf (fun h_8 hf => ?_)
  refine z_aload_n (q := 27) (i := 0) (x := a0) dX13_readOpening_26 rfl rfl rfl ?_
  refine z_bipush (q := 29) (v := 12) dX13_readOpening_27 (by decide) rfl ?_
  refine z_iconst (q := 30) (v := 3) dX13_readOpening_29 rfl rfl ?_
  obtain ⟨g_9, hf⟩ := hf
  refine z_cVi m_X13_takeOne [.int 12, .int 3] (a0) (q := 33) (rc2 := 0) (rs2 := 0) (st := []) dX13_readOpening_30 rfl q2002 oV_X13_takeOne rfl rfl ⟨z_le rfl, z_le rfl⟩ (z_le rfl) (z_rcv_of 11 rfl (z_L11_T g_9) rfl) rfl  rfl hf (fun x_10 h_11 hf => ?_)
  refine z_istore_n (q := 34) (i := 2) (ls2 := [some (.ref a0), some (.int x1), some (.int x_10), none, none]) (x := x_10) dX13_readOpening_33 rfl (z_lt rfl) rfl rfl ?_
  refine z_iconst (q := 35) (v := 0) dX13_readOpening_34 rfl rfl ?_
  refine z_istore_n (q := 36) (i := 3) (ls2 := [some (.ref a0), some (.int x1), some (.int x_10), some (.int 0), none]) (x := 0) dX13_readOpening_35 rfl (z_lt rfl) rfl rfl ?_
  exact hf

theorem b_X13_readOpening_36 {l : Launch} {G : z_G} {a0 : Nat} {x1 : Int32} {x2 : Int32} {x3 : Int32} {h : z_H} {Q : z_Q}  (hf : (2 ≤ x3 → z_L11 h a0 ∧ vp_in (x1 + 14) 190 ∧ Q none (h.sI (a0 + 13) (Int32.toNatClampNeg (x1 + 14)) x2)) ∧ (¬ 2 ≤ x3 → z_L11 h a0 ∧ ((h.I a0 8) = 0 → vp_in x3 2 ∧ vp_in (x1 + (7 * x3)) 190 ∧ z_V l G m_X13_readOpening (z_Fm G m_X13_readOpening Q) 0 0 (h.sI (a0 + 13) (Int32.toNatClampNeg (x1 + (7 * x3))) (h.I (a0 + 12) (Int32.toNatClampNeg x3))) 68 [some (.ref a0), some (.int x1), some (.int x2), some (.int x3), some (.int 0)] []) ∧ (¬ (h.I a0 8) = 0 → vp_in (x1 + 14) 190 ∧ Q none (h.sI (a0 + 13) (Int32.toNatClampNeg (x1 + 14)) x2)))) : z_V l G m_X13_readOpening (z_Fm G m_X13_readOpening Q) 0 0 h 36 [some (.ref a0), some (.int x1), some (.int x2), some (.int x3), none] [] := by
  refine z_iload_n (q := 37) (i := 3) (x := x3) dX13_readOpening_36 rfl rfl rfl ?_
  refine z_iconst (q := 38) (v := 2) dX13_readOpening_37 rfl rfl ?_
  refine z_icmp_ge (q := 41) (tgt := 119) dX13_readOpening_38 rfl rfl (fun hc => ?_) (fun hc => ?_)
  · have hf := hf.1 hc
    refine z_aload_n (q := 120) (i := 0) (x := a0) dX13_readOpening_119 rfl rfl rfl ?_
    obtain ⟨g_1, hf⟩ := hf
    refine z_get 11 19 (q := 123) (v := .ref (a0 + 13)) rfl (z_lt rfl) (z_L11_T g_1) q1777 dX13_readOpening_120 rfl (z_fvR (fun _ _ _ => rfl) (z_L11_P19 g_1)) ?_
    refine z_iload_n (q := 124) (i := 1) (x := x1) dX13_readOpening_123 rfl rfl rfl ?_
    refine z_bipush (q := 126) (v := 14) dX13_readOpening_124 (by decide) rfl ?_
    refine z_iadd (q := 127) dX13_readOpening_126 rfl ?_
    refine z_iload_n (q := 128) (i := 2) (x := x2) dX13_readOpening_127 rfl rfl rfl ?_
    obtain ⟨g_2, hf⟩ := hf
    refine z_iast (q := 129) (n := 190) (z_L11_A19 g_1) g_2 dX13_readOpening_128 rfl ?_
    exact z_vret dX13_readOpening_129 rfl hf
  · have hf := hf.2 hc
    refine z_aload_n (q := 42) (i := 0) (x := a0) dX13_readOpening_41 rfl rfl rfl ?_
    obtain ⟨g_3, hf⟩ := hf
    refine z_get 11 8 (q := 45) (v := .int (h.I a0 8)) rfl (z_lt rfl) (z_L11_T g_3) q1766 dX13_readOpening_42 rfl rfl ?_
    refine z_if_ne (q := 48) (tgt := 119) dX13_readOpening_45 rfl rfl (fun hc => ?_) (fun hc => ?_)
    · have hf := hf.2 hc
      refine z_aload_n (q := 120) (i := 0) (x := a0) dX13_readOpening_119 rfl rfl rfl ?_
      refine z_get 11 19 (q := 123) (v := .ref (a0 + 13)) rfl (z_lt rfl) (z_L11_T g_3) q1777 dX13_readOpening_120 rfl (z_fvR (fun _ _ _ => rfl) (z_L11_P19 g_3)) ?_
      refine z_iload_n (q := 124) (i := 1) (x := x1) dX13_readOpening_123 rfl rfl rfl ?_
      refine z_bipush (q := 126) (v := 14) dX13_readOpening_124 (by decide) rfl ?_
      refine z_iadd (q := 127) dX13_readOpening_126 rfl ?_
      refine z_iload_n (q := 128) (i := 2) (x := x2) dX13_readOpening_127 rfl rfl rfl ?_
      obtain ⟨g_4, hf⟩ := hf
      refine z_iast (q := 129) (n := 190) (z_L11_A19 g_3) g_4 dX13_readOpening_128 rfl ?_
      exact z_vret dX13_readOpening_129 rfl hf
    · have hf := hf.1 hc
      refine z_aload_n (q := 49) (i := 0) (x := a0) dX13_readOpening_48 rfl rfl rfl ?_
      refine z_get 11 19 (q := 52) (v := .ref (a0 + 13)) rfl (z_lt rfl) (z_L11_T g_3) q1777 dX13_readOpening_49 rfl (z_fvR (fun _ _ _ => rfl) (z_L11_P19 g_3)) ?_
      refine z_iload_n (q := 53) (i := 1) (x := x1) dX13_readOpening_52 rfl rfl rfl ?_
      refine z_bipush (q := 55) (v := 7) dX13_readOpening_53 (by decide) rfl ?_
      refine z_iload_n (q := 56) (i := 3) (x := x3) dX13_readOpening_55 rfl rfl rfl ?_
      refine z_imul (q := 57) dX13_readOpening_56 rfl ?_
      refine z_iadd (q := 58) dX13_readOpening_57 rfl ?_
      refine z_aload_n (q := 59) (i := 0) (x := a0) dX13_readOpening_58 rfl rfl rfl ?_
      refine z_get 11 18 (q := 62) (v := .ref (a0 + 12)) rfl (z_lt rfl) (z_L11_T g_3) q1776 dX13_readOpening_59 rfl (z_fvR (fun _ _ _ => rfl) (z_L11_P18 g_3)) ?_
      refine z_iload_n (q := 63) (i := 3) (x := x3) dX13_readOpening_62 rfl rfl rfl ?_
      obtain ⟨g_5, hf⟩ := hf
      refine z_iald (q := 64) (n := 2) (z_L11_A18 g_3) g_5 dX13_readOpening_63 rfl ?_
      obtain ⟨g_6, hf⟩ := hf
      refine z_iast (q := 65) (n := 190) (z_L11_A19 g_3) g_6 dX13_readOpening_64 rfl ?_
      refine z_iconst (q := 66) (v := 0) dX13_readOpening_65 rfl rfl ?_
      refine z_istore (q := 68) (i := 4) (ls2 := [some (.ref a0), some (.int x1), some (.int x2), some (.int x3), some (.int 0)]) (x := 0) dX13_readOpening_66 (z_lt rfl) rfl rfl ?_
      exact hf

theorem b_X13_readOpening_68 {l : Launch} {G : z_G} {a0 : Nat} {x1 : Int32} {x2 : Int32} {x3 : Int32} {x4 : Int32} {h : z_H} {Q : z_Q}  (hf : z_L11 h a0 ∧ vp_in x3 2 ∧ ((h.I (a0 + 12) (Int32.toNatClampNeg x3)) ≤ x4 → z_V l G m_X13_readOpening (z_Fm G m_X13_readOpening Q) 0 0 h 36 [some (.ref a0), some (.int x1), some (.int x2), some (.int (x3 + 1)), none] []) ∧ (¬ (h.I (a0 + 12) (Int32.toNatClampNeg x3)) ≤ x4 → vp_in ((24 * x3) + x4) 48 ∧ vp_in (((x1 + (7 * x3)) + 1) + x4) 190 ∧ z_V l G m_X13_readOpening (z_Fm G m_X13_readOpening Q) 0 0 (h.sI (a0 + 13) (Int32.toNatClampNeg (((x1 + (7 * x3)) + 1) + x4)) (h.I (a0 + 11) (Int32.toNatClampNeg ((24 * x3) + x4)))) 68 [some (.ref a0), some (.int x1), some (.int x2), some (.int x3), some (.int (x4 + 1))] [])) : z_V l G m_X13_readOpening (z_Fm G m_X13_readOpening Q) 0 0 h 68 [some (.ref a0), some (.int x1), some (.int x2), some (.int x3), some (.int x4)] [] := by
  refine z_iload (q := 70) (i := 4) (x := x4) dX13_readOpening_68 rfl rfl ?_
  refine z_aload_n (q := 71) (i := 0) (x := a0) dX13_readOpening_70 rfl rfl rfl ?_
  obtain ⟨g_1, hf⟩ := hf
  refine z_get 11 18 (q := 74) (v := .ref (a0 + 12)) rfl (z_lt rfl) (z_L11_T g_1) q1776 dX13_readOpening_71 rfl (z_fvR (fun _ _ _ => rfl) (z_L11_P18 g_1)) ?_
  refine z_iload_n (q := 75) (i := 3) (x := x3) dX13_readOpening_74 rfl rfl rfl ?_
  obtain ⟨g_2, hf⟩ := hf
  refine z_iald (q := 76) (n := 2) (z_L11_A18 g_1) g_2 dX13_readOpening_75 rfl ?_
  refine z_icmp_ge (q := 79) (tgt := 113) dX13_readOpening_76 rfl rfl (fun hc => ?_) (fun hc => ?_)
  · have hf := hf.1 hc
    refine z_iinc (q := 116) (i := 3) (x := x3) (v := (x3 + 1)) (ls2 := [some (.ref a0), some (.int x1), some (.int x2), some (.int (x3 + 1)), some (.int x4)]) dX13_readOpening_113 rfl rfl (z_lt rfl) rfl rfl ?_
    refine z_goto (q := 36) dX13_readOpening_116 rfl ?_
    refine z_prune [true, true, true, true, false] (ls2 := [some (.ref a0), some (.int x1), some (.int x2), some (.int (x3 + 1)), none]) rfl ?_
    exact hf
  · have hf := hf.2 hc
    refine z_aload_n (q := 80) (i := 0) (x := a0) dX13_readOpening_79 rfl rfl rfl ?_
    refine z_get 11 19 (q := 83) (v := .ref (a0 + 13)) rfl (z_lt rfl) (z_L11_T g_1) q1777 dX13_readOpening_80 rfl (z_fvR (fun _ _ _ => rfl) (z_L11_P19 g_1)) ?_
    refine z_iload_n (q := 84) (i := 1) (x := x1) dX13_readOpening_83 rfl rfl rfl ?_
    refine z_bipush (q := 86) (v := 7) dX13_readOpening_84 (by decide) rfl ?_
    refine z_iload_n (q := 87) (i := 3) (x := x3) dX13_readOpening_86 rfl rfl rfl ?_
    refine z_imul (q := 88) dX13_readOpening_87 rfl ?_
    refine z_iadd (q := 89) dX13_readOpening_88 rfl ?_
    refine z_iconst (q := 90) (v := 1) dX13_readOpening_89 rfl rfl ?_
    refine z_iadd (q := 91) dX13_readOpening_90 rfl ?_
    refine z_iload (q := 93) (i := 4) (x := x4) dX13_readOpening_91 rfl rfl ?_
    refine z_iadd (q := 94) dX13_readOpening_93 rfl ?_
    refine z_aload_n (q := 95) (i := 0) (x := a0) dX13_readOpening_94 rfl rfl rfl ?_
    refine z_get 11 17 (q := 98) (v := .ref (a0 + 11)) rfl (z_lt rfl) (z_L11_T g_1) q1775 dX13_readOpening_95 rfl (z_fvR (fun _ _ _ => rfl) (z_L11_P17 g_1)) ?_
    refine z_bipush (q := 100) (v := 24) dX13_readOpening_98 (by decide) rfl ?_
    refine z_iload_n (q := 101) (i := 3) (x := x3) dX13_readOpening_100 rfl rfl rfl ?_
    refine z_imul (q := 102) dX13_readOpening_101 rfl ?_
    refine z_iload (q := 104) (i := 4) (x := x4) dX13_readOpening_102 rfl rfl ?_
    refine z_iadd (q := 105) dX13_readOpening_104 rfl ?_
    obtain ⟨g_3, hf⟩ := hf
    refine z_iald (q := 106) (n := 48) (z_L11_A17 g_1) g_3 dX13_readOpening_105 rfl ?_
    obtain ⟨g_4, hf⟩ := hf
    refine z_iast (q := 107) (n := 190) (z_L11_A19 g_1) g_4 dX13_readOpening_106 rfl ?_
    refine z_iinc (q := 110) (i := 4) (x := x4) (v := (x4 + 1)) (ls2 := [some (.ref a0), some (.int x1), some (.int x2), some (.int x3), some (.int (x4 + 1))]) dX13_readOpening_107 rfl rfl (z_lt rfl) rfl rfl ?_
    refine z_goto (q := 68) dX13_readOpening_110 rfl ?_
    exact hf

theorem u_X13_readPack {l : Launch} {G : z_G} {a0 : Nat} {h : z_H} {Q : z_Q} (hst : l.stackTraces = false)  (hf : z_L11 h a0 ∧ z_Ct l G m_X13_isName [.ref a0] (h.sI a0 7 ((h.I a0 7) + 1)) (z_Qi (fun x_2 h_3 => (x_2 = 0 → z_L11 h_3 a0 ∧ z_Ct l G m_X13_wrong [.ref a0, .int 1] h_3 (z_Qv (fun h_13 => Q none h_13))) ∧ (¬ x_2 = 0 → z_L11 h_3 a0 ∧ vp_in 210 420 ∧ z_Ct l G m_X13_find [.ref a0, .ref (a0 + 10), .int (h_3.I (a0 + 6) (Int32.toNatClampNeg 210))] h_3 (z_Qi (fun x_6 h_7 => (0 ≤ x_6 → z_L11 h_7 a0 ∧ ((((h_7.I a0 16) >>> ((8 + x_6) &&& 31)) &&& 1) = 1 → z_Ct l G m_X13_wrong [.ref a0, .int 3] h_7 (z_Qv (fun h_9 => z_V l G m_X13_readPack (z_Fm G m_X13_readPack Q) 0 0 h_9 72 [some (.ref a0), some (.int x_6), none] []))) ∧ (¬ (((h_7.I a0 16) >>> ((8 + x_6) &&& 31)) &&& 1) = 1 → z_V l G m_X13_readPack (z_Fm G m_X13_readPack Q) 0 0 h_7 72 [some (.ref a0), some (.int x_6), none] [])) ∧ (¬ 0 ≤ x_6 → z_L11 h_7 a0 ∧ z_Ct l G m_X13_wrong [.ref a0, .int 2] h_7 (z_Qv (fun h_11 => z_V l G m_X13_readPack (z_Fm G m_X13_readPack Q) 0 0 h_11 72 [some (.ref a0), some (.int x_6), none] []))))))))) : z_Ct l G m_X13_readPack [.ref a0] h Q := by
  refine z_Ct.of (ls := [some (.ref a0), none, none]) hst rfl (by show plainName yX13_readPack.cls = true; decide +kernel) (z_le rfl) rfl ?_
  show z_V l G m_X13_readPack (z_Fm G m_X13_readPack Q) 0 0 h 0 [some (.ref a0), none, none] []
  refine z_aload_n (q := 1) (i := 0) (x := a0) dX13_readPack_0 rfl rfl rfl ?_
  refine z_dup (q := 2) dX13_readPack_1 rfl rfl ?_
  obtain ⟨g_1, hf⟩ := hf
  refine z_get 11 7 (q := 5) (v := .int (h.I a0 7)) rfl (z_lt rfl) (z_L11_T g_1) q1765 dX13_readPack_2 rfl rfl ?_
  refine z_iconst (q := 6) (v := 1) dX13_readPack_5 rfl rfl ?_
  refine z_iadd (q := 7) dX13_readPack_6 rfl ?_
  refine z_putI 11 7 (q := 10) (x := ((h.I a0 7) + 1)) (v := .int ((h.I a0 7) + 1)) rfl (z_lt rfl) (z_L11_T g_1) q1765 rfl dX13_readPack_7 rfl rfl rfl rfl (fun _ _ _ => rfl) ?_
  refine z_aload_n (q := 11) (i := 0) (x := a0) dX13_readPack_10 rfl rfl rfl ?_
  refine z_cVi m_X13_isName [] (a0) (q := 14) (rc2 := 0) (rs2 := 0) (st := []) dX13_readPack_11 rfl q1966 oV_X13_isName rfl rfl ⟨z_le rfl, z_le rfl⟩ (z_le rfl) (z_rcv_of 11 rfl (z_L11_T g_1) rfl) rfl  rfl hf (fun x_2 h_3 hf => ?_)
  refine z_if_ne (q := 17) (tgt := 23) dX13_readPack_14 rfl rfl (fun hc => ?_) (fun hc => ?_)
  · have hf := hf.2 hc
    refine z_aload_n (q := 24) (i := 0) (x := a0) dX13_readPack_23 rfl rfl rfl ?_
    refine z_aload_n (q := 25) (i := 0) (x := a0) dX13_readPack_24 rfl rfl rfl ?_
    obtain ⟨g_4, hf⟩ := hf
    refine z_get 11 15 (q := 28) (v := .ref (a0 + 10)) rfl (z_lt rfl) (z_L11_T g_4) q1773 dX13_readPack_25 rfl (z_fvR (fun _ _ _ => rfl) (z_L11_P15 g_4)) ?_
    refine z_aload_n (q := 29) (i := 0) (x := a0) dX13_readPack_28 rfl rfl rfl ?_
    refine z_get 11 10 (q := 32) (v := .ref (a0 + 6)) rfl (z_lt rfl) (z_L11_T g_4) q1768 dX13_readPack_29 rfl (z_fvR (fun _ _ _ => rfl) (z_L11_P10 g_4)) ?_
    refine z_sipush (q := 35) (v := 210) dX13_readPack_32 (by decide) rfl ?_
    obtain ⟨g_5, hf⟩ := hf
    refine z_iald (q := 36) (n := 420) (z_L11_A10 g_4) g_5 dX13_readPack_35 rfl ?_
    refine z_cVi m_X13_find [.ref (a0 + 10), .int (h_3.I (a0 + 6) (Int32.toNatClampNeg 210))] (a0) (q := 39) (rc2 := 0) (rs2 := 0) (st := []) dX13_readPack_36 rfl q1970 oV_X13_find rfl rfl ⟨z_le rfl, z_le rfl⟩ (z_le rfl) (z_rcv_of 11 rfl (z_L11_T g_4) rfl) rfl  rfl hf (fun x_6 h_7 hf => ?_)
    refine z_istore_n (q := 40) (i := 1) (ls2 := [some (.ref a0), some (.int x_6), none]) (x := x_6) dX13_readPack_39 rfl (z_lt rfl) rfl rfl ?_
    refine z_iload_n (q := 41) (i := 1) (x := x_6) dX13_readPack_40 rfl rfl rfl ?_
    refine z_if_ge (q := 44) (tgt := 52) dX13_readPack_41 rfl rfl (fun hc => ?_) (fun hc => ?_)
    · have hf := hf.1 hc
      refine z_aload_n (q := 53) (i := 0) (x := a0) dX13_readPack_52 rfl rfl rfl ?_
      obtain ⟨g_8, hf⟩ := hf
      refine z_get 11 16 (q := 56) (v := .int (h_7.I a0 16)) rfl (z_lt rfl) (z_L11_T g_8) q1774 dX13_readPack_53 rfl rfl ?_
      refine z_bipush (q := 58) (v := 8) dX13_readPack_56 (by decide) rfl ?_
      refine z_iload_n (q := 59) (i := 1) (x := x_6) dX13_readPack_58 rfl rfl rfl ?_
      refine z_iadd (q := 60) dX13_readPack_59 rfl ?_
      refine z_ishr (q := 61) dX13_readPack_60 rfl ?_
      refine z_iconst (q := 62) (v := 1) dX13_readPack_61 rfl rfl ?_
      refine z_iand (q := 63) dX13_readPack_62 rfl ?_
      refine z_iconst (q := 64) (v := 1) dX13_readPack_63 rfl rfl ?_
      refine z_icmp_ne (q := 67) (tgt := 72) dX13_readPack_64 rfl rfl (fun hc => ?_) (fun hc => ?_)
      · have hf := hf.2 hc
        exact hf
      · have hf := hf.1 hc
        refine z_aload_n (q := 68) (i := 0) (x := a0) dX13_readPack_67 rfl rfl rfl ?_
        refine z_iconst (q := 69) (v := 3) dX13_readPack_68 rfl rfl ?_
        refine z_cVv m_X13_wrong [.int 3] (a0) (q := 72) (rc2 := 0) (rs2 := 0) (st := []) dX13_readPack_69 rfl q1962 oV_X13_wrong rfl rfl ⟨z_le rfl, z_le rfl⟩ (z_le rfl) (z_rcv_of 11 rfl (z_L11_T g_8) rfl) rfl  rfl hf (fun h_9 hf => ?_)
        exact hf
    · have hf := hf.2 hc
      refine z_aload_n (q := 45) (i := 0) (x := a0) dX13_readPack_44 rfl rfl rfl ?_
      refine z_iconst (q := 46) (v := 2) dX13_readPack_45 rfl rfl ?_
      obtain ⟨g_10, hf⟩ := hf
      refine z_cVv m_X13_wrong [.int 2] (a0) (q := 49) (rc2 := 0) (rs2 := 0) (st := []) dX13_readPack_46 rfl q1962 oV_X13_wrong rfl rfl ⟨z_le rfl, z_le rfl⟩ (z_le rfl) (z_rcv_of 11 rfl (z_L11_T g_10) rfl) rfl  rfl hf (fun h_11 hf => ?_)
      refine z_goto (q := 72) dX13_readPack_49 rfl ?_
      exact hf
  · have hf := hf.1 hc
    refine z_aload_n (q := 18) (i := 0) (x := a0) dX13_readPack_17 rfl rfl rfl ?_
    refine z_iconst (q := 19) (v := 1) dX13_readPack_18 rfl rfl ?_
    obtain ⟨g_12, hf⟩ := hf
    refine z_cVv m_X13_wrong [.int 1] (a0) (q := 22) (rc2 := 0) (rs2 := 0) (st := []) dX13_readPack_19 rfl q1962 oV_X13_wrong rfl rfl ⟨z_le rfl, z_le rfl⟩ (z_le rfl) (z_rcv_of 11 rfl (z_L11_T g_12) rfl) rfl  rfl hf (fun h_13 hf => ?_)
    exact z_vret dX13_readPack_22 rfl hf

theorem b_X13_readPack_72 {l : Launch} {G : z_G} {a0 : Nat} {x1 : Int32} {h : z_H} {Q : z_Q}  (hf : z_L11 h a0 ∧ ((h.I a0 8) ≤ 0 → z_Ct l G m_X13_takeNumber [.ref a0, .int 0, .int 12] ((h.sI a0 16 ((h.I a0 16) ||| (1 <<< ((8 + x1) &&& 31)))).sI a0 7 ((h.I a0 7) + 1)) (z_Qi (fun x_2 h_3 => z_L11 h_3 a0 ∧ ((h_3.I a0 8) = 0 → z_Ct l G m_X13_cards [.ref a0, .int 210] h_3 (z_Qi (fun x_6 h_7 => ((x_6 + x_2) ≤ 24 → z_L11 h_7 a0 ∧ vp_in ((215 + (2 * x1)) + 1) 420 ∧ Q none (h_7.sI (a0 + 6) (Int32.toNatClampNeg ((215 + (2 * x1)) + 1)) x_2)) ∧ (¬ (x_6 + x_2) ≤ 24 → z_L11 h_7 a0 ∧ z_Ct l G m_X13_wrong [.ref a0, .int 4] (h_7.sI a0 7 ((h_7.I a0 7) - 1)) (z_Qv (fun h_11 => z_L11 h_11 a0 ∧ vp_in ((215 + (2 * x1)) + 1) 420 ∧ Q none (h_11.sI (a0 + 6) (Int32.toNatClampNeg ((215 + (2 * x1)) + 1)) x_2))))))) ∧ (¬ (h_3.I a0 8) = 0 → vp_in ((215 + (2 * x1)) + 1) 420 ∧ Q none (h_3.sI (a0 + 6) (Int32.toNatClampNeg ((215 + (2 * x1)) + 1)) x_2))))) ∧ (¬ (h.I a0 8) ≤ 0 → Q none h)) : z_V l G m_X13_readPack (z_Fm G m_X13_readPack Q) 0 0 h 72 [some (.ref a0), some (.int x1), none] [] := by
  refine z_aload_n (q := 73) (i := 0) (x := a0) dX13_readPack_72 rfl rfl rfl ?_
  obtain ⟨g_1, hf⟩ := hf
  refine z_get 11 8 (q := 76) (v := .int (h.I a0 8)) rfl (z_lt rfl) (z_L11_T g_1) q1766 dX13_readPack_73 rfl rfl ?_
  refine z_if_le (q := 79) (tgt := 80) dX13_readPack_76 rfl rfl (fun hc => ?_) (fun hc => ?_)
  · have hf := hf.1 hc
    refine z_aload_n (q := 81) (i := 0) (x := a0) dX13_readPack_80 rfl rfl rfl ?_
    refine z_dup (q := 82) dX13_readPack_81 rfl rfl ?_
    refine z_get 11 16 (q := 85) (v := .int (h.I a0 16)) rfl (z_lt rfl) (z_L11_T g_1) q1774 dX13_readPack_82 rfl rfl ?_
    refine z_iconst (q := 86) (v := 1) dX13_readPack_85 rfl rfl ?_
    refine z_bipush (q := 88) (v := 8) dX13_readPack_86 (by decide) rfl ?_
    refine z_iload_n (q := 89) (i := 1) (x := x1) dX13_readPack_88 rfl rfl rfl ?_
    refine z_iadd (q := 90) dX13_readPack_89 rfl ?_
    refine z_ishl (q := 91) dX13_readPack_90 rfl ?_
    refine z_ior (q := 92) dX13_readPack_91 rfl ?_
    refine z_putI 11 16 (q := 95) (x := ((h.I a0 16) ||| (1 <<< ((8 + x1) &&& 31)))) (v := .int ((h.I a0 16) ||| (1 <<< ((8 + x1) &&& 31)))) rfl (z_lt rfl) (z_L11_T g_1) q1774 rfl dX13_readPack_92 rfl rfl rfl rfl (fun _ _ _ => rfl) ?_
    refine z_aload_n (q := 96) (i := 0) (x := a0) dX13_readPack_95 rfl rfl rfl ?_
    refine z_dup (q := 97) dX13_readPack_96 rfl rfl ?_
    refine z_get 11 7 (q := 100) (v := .int (h.I a0 7)) rfl (z_lt rfl) (z_L11_T g_1) q1765 dX13_readPack_97 rfl (congrArg Value.int (z_rIf (by decide))) ?_
    refine z_iconst (q := 101) (v := 1) dX13_readPack_100 rfl rfl ?_
    refine z_iadd (q := 102) dX13_readPack_101 rfl ?_
    refine z_putI 11 7 (q := 105) (x := ((h.I a0 7) + 1)) (v := .int ((h.I a0 7) + 1)) rfl (z_lt rfl) (z_L11_T g_1) q1765 rfl dX13_readPack_102 rfl rfl rfl rfl (fun _ _ _ => rfl) ?_
    refine z_aload_n (q := 106) (i := 0) (x := a0) dX13_readPack_105 rfl rfl rfl ?_
    refine z_iconst (q := 107) (v := 0) dX13_readPack_106 rfl rfl ?_
    refine z_bipush (q := 109) (v := 12) dX13_readPack_107 (by decide) rfl ?_
    refine z_cVi m_X13_takeNumber [.int 0, .int 12] (a0) (q := 112) (rc2 := 0) (rs2 := 0) (st := []) dX13_readPack_109 rfl q1982 oV_X13_takeNumber rfl rfl ⟨z_le rfl, z_le rfl⟩ (z_le rfl) (z_rcv_of 11 rfl (z_L11_T g_1) rfl) rfl  rfl hf (fun x_2 h_3 hf => ?_)
    refine z_istore_n (q := 113) (i := 2) (ls2 := [some (.ref a0), some (.int x1), some (.int x_2)]) (x := x_2) dX13_readPack_112 rfl (z_lt rfl) rfl rfl ?_
    refine z_aload_n (q := 114) (i := 0) (x := a0) dX13_readPack_113 rfl rfl rfl ?_
    obtain ⟨g_4, hf⟩ := hf
    refine z_get 11 8 (q := 117) (v := .int (h_3.I a0 8)) rfl (z_lt rfl) (z_L11_T g_4) q1766 dX13_readPack_114 rfl rfl ?_
    refine z_if_ne (q := 120) (tgt := 149) dX13_readPack_117 rfl rfl (fun hc => ?_) (fun hc => ?_)
    · have hf := hf.2 hc
      refine z_aload_n (q := 150) (i := 0) (x := a0) dX13_readPack_149 rfl rfl rfl ?_
      refine z_get 11 10 (q := 153) (v := .ref (a0 + 6)) rfl (z_lt rfl) (z_L11_T g_4) q1768 dX13_readPack_150 rfl (z_fvR (fun _ _ _ => rfl) (z_L11_P10 g_4)) ?_
      refine z_sipush (q := 156) (v := 215) dX13_readPack_153 (by decide) rfl ?_
      refine z_iconst (q := 157) (v := 2) dX13_readPack_156 rfl rfl ?_
      refine z_iload_n (q := 158) (i := 1) (x := x1) dX13_readPack_157 rfl rfl rfl ?_
      refine z_imul (q := 159) dX13_readPack_158 rfl ?_
      refine z_iadd (q := 160) dX13_readPack_159 rfl ?_
      refine z_iconst (q := 161) (v := 1) dX13_readPack_160 rfl rfl ?_
      refine z_iadd (q := 162) dX13_readPack_161 rfl ?_
      refine z_iload_n (q := 163) (i := 2) (x := x_2) dX13_readPack_162 rfl rfl rfl ?_
      obtain ⟨g_5, hf⟩ := hf
      refine z_iast (q := 164) (n := 420) (z_L11_A10 g_4) g_5 dX13_readPack_163 rfl ?_
      exact z_vret dX13_readPack_164 rfl hf
    · have hf := hf.1 hc
      refine z_aload_n (q := 121) (i := 0) (x := a0) dX13_readPack_120 rfl rfl rfl ?_
      refine z_sipush (q := 124) (v := 210) dX13_readPack_121 (by decide) rfl ?_
      refine z_cVi m_X13_cards [.int 210] (a0) (q := 127) (rc2 := 0) (rs2 := 0) (st := []) dX13_readPack_124 rfl q1990 oV_X13_cards rfl rfl ⟨z_le rfl, z_le rfl⟩ (z_le rfl) (z_rcv_of 11 rfl (z_L11_T g_4) rfl) rfl  rfl hf (fun x_6 h_7 hf => ?_)
      refine z_iload_n (q := 128) (i := 2) (x := x_2) dX13_readPack_127 rfl rfl rfl ?_
      refine z_iadd (q := 129) dX13_readPack_128 rfl ?_
      refine z_bipush (q := 131) (v := 24) dX13_readPack_129 (by decide) rfl ?_
      refine z_icmp_le (q := 134) (tgt := 149) dX13_readPack_131 rfl rfl (fun hc => ?_) (fun hc => ?_)
      · have hf := hf.1 hc
        refine z_aload_n (q := 150) (i := 0) (x := a0) dX13_readPack_149 rfl rfl rfl ?_
        obtain ⟨g_8, hf⟩ := hf
        refine z_get 11 10 (q := 153) (v := .ref (a0 + 6)) rfl (z_lt rfl) (z_L11_T g_8) q1768 dX13_readPack_150 rfl (z_fvR (fun _ _ _ => rfl) (z_L11_P10 g_8)) ?_
        refine z_sipush (q := 156) (v := 215) dX13_readPack_153 (by decide) rfl ?_
        refine z_iconst (q := 157) (v := 2) dX13_readPack_156 rfl rfl ?_
        refine z_iload_n (q := 158) (i := 1) (x := x1) dX13_readPack_157 rfl rfl rfl ?_
        refine z_imul (q := 159) dX13_readPack_158 rfl ?_
        refine z_iadd (q := 160) dX13_readPack_159 rfl ?_
        refine z_iconst (q := 161) (v := 1) dX13_readPack_160 rfl rfl ?_
        refine z_iadd (q := 162) dX13_readPack_161 rfl ?_
        refine z_iload_n (q := 163) (i := 2) (x := x_2) dX13_readPack_162 rfl rfl rfl ?_
        obtain ⟨g_9, hf⟩ := hf
        refine z_iast (q := 164) (n := 420) (z_L11_A10 g_8) g_9 dX13_readPack_163 rfl ?_
        exact z_vret dX13_readPack_164 rfl hf
      · have hf := hf.2 hc
        refine z_aload_n (q := 135) (i := 0) (x := a0) dX13_readPack_134 rfl rfl rfl ?_
        refine z_dup (q := 136) dX13_readPack_135 rfl rfl ?_
        obtain ⟨g_10, hf⟩ := hf
        refine z_get 11 7 (q := 139) (v := .int (h_7.I a0 7)) rfl (z_lt rfl) (z_L11_T g_10) q1765 dX13_readPack_136 rfl rfl ?_
        refine z_iconst (q := 140) (v := 1) dX13_readPack_139 rfl rfl ?_
        refine z_isub (q := 141) dX13_readPack_140 rfl ?_
        refine z_putI 11 7 (q := 144) (x := ((h_7.I a0 7) - 1)) (v := .int ((h_7.I a0 7) - 1)) rfl (z_lt rfl) (z_L11_T g_10) q1765 rfl dX13_readPack_141 rfl rfl rfl rfl (fun _ _ _ => rfl) ?_
        refine z_aload_n (q := 145) (i := 0) (x := a0) dX13_readPack_144 rfl rfl rfl ?_
        refine z_iconst (q := 146) (v := 4) dX13_readPack_145 rfl rfl ?_
        refine z_cVv m_X13_wrong [.int 4] (a0) (q := 149) (rc2 := 0) (rs2 := 0) (st := []) dX13_readPack_146 rfl q1962 oV_X13_wrong rfl rfl ⟨z_le rfl, z_le rfl⟩ (z_le rfl) (z_rcv_of 11 rfl (z_L11_T g_10) rfl) rfl  rfl hf (fun h_11 hf => ?_)
        refine z_aload_n (q := 150) (i := 0) (x := a0) dX13_readPack_149 rfl rfl rfl ?_
        obtain ⟨g_12, hf⟩ := hf
        refine z_get 11 10 (q := 153) (v := .ref (a0 + 6)) rfl (z_lt rfl) (z_L11_T g_12) q1768 dX13_readPack_150 rfl (z_fvR (fun _ _ _ => rfl) (z_L11_P10 g_12)) ?_
        refine z_sipush (q := 156) (v := 215) dX13_readPack_153 (by decide) rfl ?_
        refine z_iconst (q := 157) (v := 2) dX13_readPack_156 rfl rfl ?_
        refine z_iload_n (q := 158) (i := 1) (x := x1) dX13_readPack_157 rfl rfl rfl ?_
        refine z_imul (q := 159) dX13_readPack_158 rfl ?_
        refine z_iadd (q := 160) dX13_readPack_159 rfl ?_
        refine z_iconst (q := 161) (v := 1) dX13_readPack_160 rfl rfl ?_
        refine z_iadd (q := 162) dX13_readPack_161 rfl ?_
        refine z_iload_n (q := 163) (i := 2) (x := x_2) dX13_readPack_162 rfl rfl rfl ?_
        obtain ⟨g_13, hf⟩ := hf
        refine z_iast (q := 164) (n := 420) (z_L11_A10 g_12) g_13 dX13_readPack_163 rfl ?_
        exact z_vret dX13_readPack_164 rfl hf
  · have hf := hf.2 hc
    exact z_vret dX13_readPack_79 rfl hf

theorem u_X13_readRow {l : Launch} {G : z_G} {a0 : Nat} {x1 : Int32} {x2 : Int32} {h : z_H} {Q : z_Q} (hst : l.stackTraces = false)  (hf : z_L11 h a0 ∧ vp_in x1 2 ∧ z_V l G m_X13_readRow (z_Fm G m_X13_readRow Q) 0 0 (h.sI (a0 + 12) (Int32.toNatClampNeg x1) 0) 7 [some (.ref a0), some (.int x1), some (.int x2), none, none, none] []) : z_Ct l G m_X13_readRow [.ref a0, .int x1, .int x2] h Q := by
  refine z_Ct.of (ls := [some (.ref a0), some (.int x1), some (.int x2), none, none, none]) hst rfl (by show plainName yX13_readRow.cls = true; decide +kernel) (z_le rfl) rfl ?_
  show z_V l G m_X13_readRow (z_Fm G m_X13_readRow Q) 0 0 h 0 [some (.ref a0), some (.int x1), some (.int x2), none, none, none] []
  refine z_aload_n (q := 1) (i := 0) (x := a0) dX13_readRow_0 rfl rfl rfl ?_
  obtain ⟨g_1, hf⟩ := hf
  refine z_get 11 18 (q := 4) (v := .ref (a0 + 12)) rfl (z_lt rfl) (z_L11_T g_1) q1776 dX13_readRow_1 rfl (z_fvR (fun _ _ _ => rfl) (z_L11_P18 g_1)) ?_
  refine z_iload_n (q := 5) (i := 1) (x := x1) dX13_readRow_4 rfl rfl rfl ?_
  refine z_iconst (q := 6) (v := 0) dX13_readRow_5 rfl rfl ?_
  obtain ⟨g_2, hf⟩ := hf
  refine z_iast (q := 7) (n := 2) (z_L11_A18 g_1) g_2 dX13_readRow_6 rfl ?_
  exact hf

theorem b_X13_readRow_7 {l : Launch} {G : z_G} {a0 : Nat} {x1 : Int32} {x2 : Int32} {h : z_H} {Q : z_Q}  (hf : z_L11 h a0 ∧ ((h.I a0 8) = 0 → vp_in (h.I a0 7) 1002 ∧ ((h.I (a0 + 2) (Int32.toNatClampNeg (h.I a0 7))) = 2 → vp_in (h.I a0 7) 1002 ∧ ((h.I (a0 + 2) (Int32.toNatClampNeg (h.I a0 7))) = 2 → z_Ct l G m_X13_takeNumber [.ref a0, .int 1, .int 12] h (z_Qi (fun x_5 h_6 => z_V l G m_X13_readRow (z_Fm G m_X13_readRow Q) 0 0 h_6 58 [some (.ref a0), some (.int x1), some (.int x2), none, none, none] [.int x_5]))) ∧ (¬ (h.I (a0 + 2) (Int32.toNatClampNeg (h.I a0 7))) = 2 → z_V l G m_X13_readRow (z_Fm G m_X13_readRow Q) 0 0 h 58 [some (.ref a0), some (.int x1), some (.int x2), none, none, none] [.int 1])) ∧ (¬ (h.I (a0 + 2) (Int32.toNatClampNeg (h.I a0 7))) = 2 → z_Ct l G m_X13_isName [.ref a0] h (z_Qi (fun x_7 h_8 => (x_7 = 0 → Q none h_8) ∧ (¬ x_7 = 0 → z_L11 h_8 a0 ∧ vp_in (h_8.I a0 7) 1002 ∧ ((h_8.I (a0 + 2) (Int32.toNatClampNeg (h_8.I a0 7))) = 2 → z_Ct l G m_X13_takeNumber [.ref a0, .int 1, .int 12] h_8 (z_Qi (fun x_11 h_12 => z_V l G m_X13_readRow (z_Fm G m_X13_readRow Q) 0 0 h_12 58 [some (.ref a0), some (.int x1), some (.int x2), none, none, none] [.int x_11]))) ∧ (¬ (h_8.I (a0 + 2) (Int32.toNatClampNeg (h_8.I a0 7))) = 2 → z_V l G m_X13_readRow (z_Fm G m_X13_readRow Q) 0 0 h_8 58 [some (.ref a0), some (.int x1), some (.int x2), none, none, none] [.int 1])))))) ∧ (¬ (h.I a0 8) = 0 → Q none h)) : z_V l G m_X13_readRow (z_Fm G m_X13_readRow Q) 0 0 h 7 [some (.ref a0), some (.int x1), some (.int x2), none, none, none] [] := by
  refine z_aload_n (q := 8) (i := 0) (x := a0) dX13_readRow_7 rfl rfl rfl ?_
  obtain ⟨g_1, hf⟩ := hf
  refine z_get 11 8 (q := 11) (v := .int (h.I a0 8)) rfl (z_lt rfl) (z_L11_T g_1) q1766 dX13_readRow_8 rfl rfl ?_
  refine z_if_ne (q := 14) (tgt := 213) dX13_readRow_11 rfl rfl (fun hc => ?_) (fun hc => ?_)
  · have hf := hf.2 hc
    exact z_vret dX13_readRow_213 rfl hf
  · have hf := hf.1 hc
    refine z_aload_n (q := 15) (i := 0) (x := a0) dX13_readRow_14 rfl rfl rfl ?_
    refine z_get 11 4 (q := 18) (v := .ref (a0 + 2)) rfl (z_lt rfl) (z_L11_T g_1) q1762 dX13_readRow_15 rfl (z_fvR (fun _ _ _ => rfl) (z_L11_P4 g_1)) ?_
    refine z_aload_n (q := 19) (i := 0) (x := a0) dX13_readRow_18 rfl rfl rfl ?_
    refine z_get 11 7 (q := 22) (v := .int (h.I a0 7)) rfl (z_lt rfl) (z_L11_T g_1) q1765 dX13_readRow_19 rfl rfl ?_
    obtain ⟨g_2, hf⟩ := hf
    refine z_iald (q := 23) (n := 1002) (z_L11_A4 g_1) g_2 dX13_readRow_22 rfl ?_
    refine z_iconst (q := 24) (v := 2) dX13_readRow_23 rfl rfl ?_
    refine z_icmp_eq (q := 27) (tgt := 34) dX13_readRow_24 rfl rfl (fun hc => ?_) (fun hc => ?_)
    · have hf := hf.1 hc
      refine z_aload_n (q := 35) (i := 0) (x := a0) dX13_readRow_34 rfl rfl rfl ?_
      refine z_get 11 4 (q := 38) (v := .ref (a0 + 2)) rfl (z_lt rfl) (z_L11_T g_1) q1762 dX13_readRow_35 rfl (z_fvR (fun _ _ _ => rfl) (z_L11_P4 g_1)) ?_
      refine z_aload_n (q := 39) (i := 0) (x := a0) dX13_readRow_38 rfl rfl rfl ?_
      refine z_get 11 7 (q := 42) (v := .int (h.I a0 7)) rfl (z_lt rfl) (z_L11_T g_1) q1765 dX13_readRow_39 rfl rfl ?_
      obtain ⟨g_4, hf⟩ := hf
      refine z_iald (q := 43) (n := 1002) (z_L11_A4 g_1) g_4 dX13_readRow_42 rfl ?_
      refine z_iconst (q := 44) (v := 2) dX13_readRow_43 rfl rfl ?_
      refine z_icmp_ne (q := 47) (tgt := 57) dX13_readRow_44 rfl rfl (fun hc => ?_) (fun hc => ?_)
      · have hf := hf.2 hc
        refine z_iconst (q := 58) (v := 1) dX13_readRow_57 rfl rfl ?_
        exact hf
      · have hf := hf.1 hc
        refine z_aload_n (q := 48) (i := 0) (x := a0) dX13_readRow_47 rfl rfl rfl ?_
        refine z_iconst (q := 49) (v := 1) dX13_readRow_48 rfl rfl ?_
        refine z_bipush (q := 51) (v := 12) dX13_readRow_49 (by decide) rfl ?_
        refine z_cVi m_X13_takeNumber [.int 1, .int 12] (a0) (q := 54) (rc2 := 0) (rs2 := 0) (st := []) dX13_readRow_51 rfl q1982 oV_X13_takeNumber rfl rfl ⟨z_le rfl, z_le rfl⟩ (z_le rfl) (z_rcv_of 11 rfl (z_L11_T g_1) rfl) rfl  rfl hf (fun x_5 h_6 hf => ?_)
        refine z_goto (q := 58) dX13_readRow_54 rfl ?_
        exact hf
    · have hf := hf.2 hc
      refine z_aload_n (q := 28) (i := 0) (x := a0) dX13_readRow_27 rfl rfl rfl ?_
      refine z_cVi m_X13_isName [] (a0) (q := 31) (rc2 := 0) (rs2 := 0) (st := []) dX13_readRow_28 rfl q1966 oV_X13_isName rfl rfl ⟨z_le rfl, z_le rfl⟩ (z_le rfl) (z_rcv_of 11 rfl (z_L11_T g_1) rfl) rfl  rfl hf (fun x_7 h_8 hf => ?_)
      refine z_if_eq (q := 34) (tgt := 213) dX13_readRow_31 rfl rfl (fun hc => ?_) (fun hc => ?_)
      · have hf := hf.1 hc
        exact z_vret dX13_readRow_213 rfl hf
      · have hf := hf.2 hc
        refine z_aload_n (q := 35) (i := 0) (x := a0) dX13_readRow_34 rfl rfl rfl ?_
        obtain ⟨g_9, hf⟩ := hf
        refine z_get 11 4 (q := 38) (v := .ref (a0 + 2)) rfl (z_lt rfl) (z_L11_T g_9) q1762 dX13_readRow_35 rfl (z_fvR (fun _ _ _ => rfl) (z_L11_P4 g_9)) ?_
        refine z_aload_n (q := 39) (i := 0) (x := a0) dX13_readRow_38 rfl rfl rfl ?_
        refine z_get 11 7 (q := 42) (v := .int (h_8.I a0 7)) rfl (z_lt rfl) (z_L11_T g_9) q1765 dX13_readRow_39 rfl rfl ?_
        obtain ⟨g_10, hf⟩ := hf
        refine z_iald (q := 43) (n := 1002) (z_L11_A4 g_9) g_10 dX13_readRow_42 rfl ?_
        refine z_iconst (q := 44) (v := 2) dX13_readRow_43 rfl rfl ?_
        refine z_icmp_ne (q := 47) (tgt := 57) dX13_readRow_44 rfl rfl (fun hc => ?_) (fun hc => ?_)
        · have hf := hf.2 hc
          refine z_iconst (q := 58) (v := 1) dX13_readRow_57 rfl rfl ?_
          exact hf
        · have hf := hf.1 hc
          refine z_aload_n (q := 48) (i := 0) (x := a0) dX13_readRow_47 rfl rfl rfl ?_
          refine z_iconst (q := 49) (v := 1) dX13_readRow_48 rfl rfl ?_
          refine z_bipush (q := 51) (v := 12) dX13_readRow_49 (by decide) rfl ?_
          refine z_cVi m_X13_takeNumber [.int 1, .int 12] (a0) (q := 54) (rc2 := 0) (rs2 := 0) (st := []) dX13_readRow_51 rfl q1982 oV_X13_takeNumber rfl rfl ⟨z_le rfl, z_le rfl⟩ (z_le rfl) (z_rcv_of 11 rfl (z_L11_T g_9) rfl) rfl  rfl hf (fun x_11 h_12 hf => ?_)
          refine z_goto (q := 58) dX13_readRow_54 rfl ?_
          exact hf

theorem b_X13_readRow_58 {l : Launch} {G : z_G} {a0 : Nat} {x1 : Int32} {x2 : Int32} {s0 : Int32} {h : z_H} {Q : z_Q}  (hf : z_L11 h a0 ∧ ((h.I a0 8) = 0 → z_Ct l G m_X13_isName [.ref a0] h (z_Qi (fun x_2 h_3 => (x_2 = 0 → z_L11 h_3 a0 ∧ z_Ct l G m_X13_wrong [.ref a0, .int 1] h_3 (z_Qv (fun h_5 => z_V l G m_X13_readRow (z_Fm G m_X13_readRow Q) 0 0 h_5 78 [some (.ref a0), some (.int x1), some (.int x2), some (.int s0), none, none] []))) ∧ (¬ x_2 = 0 → z_V l G m_X13_readRow (z_Fm G m_X13_readRow Q) 0 0 h_3 78 [some (.ref a0), some (.int x1), some (.int x2), some (.int s0), none, none] [])))) ∧ (¬ (h.I a0 8) = 0 → z_V l G m_X13_readRow (z_Fm G m_X13_readRow Q) 0 0 h 78 [some (.ref a0), some (.int x1), some (.int x2), some (.int s0), none, none] [])) : z_V l G m_X13_readRow (z_Fm G m_X13_readRow Q) 0 0 h 58 [some (.ref a0), some (.int x1), some (.int x2), none, none, none] [.int s0] := by
  refine z_istore_n (q := 59) (i := 3) (ls2 := [some (.ref a0), some (.int x1), some (.int x2), some (.int s0), none, none]) (x := s0) dX13_readRow_58 rfl (z_lt rfl) rfl rfl ?_
  refine z_aload_n (q := 60) (i := 0) (x := a0) dX13_readRow_59 rfl rfl rfl ?_
  obtain ⟨g_1, hf⟩ := hf
  refine z_get 11 8 (q := 63) (v := .int (h.I a0 8)) rfl (z_lt rfl) (z_L11_T g_1) q1766 dX13_readRow_60 rfl rfl ?_
  refine z_if_ne (q := 66) (tgt := 78) dX13_readRow_63 rfl rfl (fun hc => ?_) (fun hc => ?_)
  · have hf := hf.2 hc
    exact hf
  · have hf := hf.1 hc
    refine z_aload_n (q := 67) (i := 0) (x := a0) dX13_readRow_66 rfl rfl rfl ?_
    refine z_cVi m_X13_isName [] (a0) (q := 70) (rc2 := 0) (rs2 := 0) (st := []) dX13_readRow_67 rfl q1966 oV_X13_isName rfl rfl ⟨z_le rfl, z_le rfl⟩ (z_le rfl) (z_rcv_of 11 rfl (z_L11_T g_1) rfl) rfl  rfl hf (fun x_2 h_3 hf => ?_)
    refine z_if_ne (q := 73) (tgt := 78) dX13_readRow_70 rfl rfl (fun hc => ?_) (fun hc => ?_)
    · have hf := hf.2 hc
      exact hf
    · have hf := hf.1 hc
      refine z_aload_n (q := 74) (i := 0) (x := a0) dX13_readRow_73 rfl rfl rfl ?_
      refine z_iconst (q := 75) (v := 1) dX13_readRow_74 rfl rfl ?_
      obtain ⟨g_4, hf⟩ := hf
      refine z_cVv m_X13_wrong [.int 1] (a0) (q := 78) (rc2 := 0) (rs2 := 0) (st := []) dX13_readRow_75 rfl q1962 oV_X13_wrong rfl rfl ⟨z_le rfl, z_le rfl⟩ (z_le rfl) (z_rcv_of 11 rfl (z_L11_T g_4) rfl) rfl  rfl hf (fun h_5 hf => ?_)
      exact hf

theorem b_X13_readRow_78 {l : Launch} {G : z_G} {a0 : Nat} {x1 : Int32} {x2 : Int32} {x3 : Int32} {h : z_H} {Q : z_Q}  (hf : z_L11 h a0 ∧ ((h.I a0 8) ≤ 0 → vp_in 0 420 ∧ z_Ct l G m_X13_find [.ref a0, .ref (a0 + 9), .int (h.I (a0 + 6) (Int32.toNatClampNeg 0))] h (z_Qi (fun x_4 h_5 => (0 ≤ x_4 → z_V l G m_X13_readRow (z_Fm G m_X13_readRow Q) 0 0 h_5 115 [some (.ref a0), some (.int x1), some (.int x2), some (.int x3), some (.int x_4), none] []) ∧ (¬ 0 ≤ x_4 → z_L11 h_5 a0 ∧ z_Ct l G m_X13_wrong [.ref a0, .int 2] h_5 (z_Qv (fun h_7 => z_V l G m_X13_readRow (z_Fm G m_X13_readRow Q) 0 0 h_7 115 [some (.ref a0), some (.int x1), some (.int x2), some (.int x3), some (.int x_4), none] [])))))) ∧ (¬ (h.I a0 8) ≤ 0 → (0 ≤ (0 : Int32) → z_V l G m_X13_readRow (z_Fm G m_X13_readRow Q) 0 0 h 115 [some (.ref a0), some (.int x1), some (.int x2), some (.int x3), some (.int 0), none] []) ∧ (¬ 0 ≤ (0 : Int32) → z_Ct l G m_X13_wrong [.ref a0, .int 2] h (z_Qv (fun h_8 => z_V l G m_X13_readRow (z_Fm G m_X13_readRow Q) 0 0 h_8 115 [some (.ref a0), some (.int x1), some (.int x2), some (.int x3), some (.int 0), none] []))))) : z_V l G m_X13_readRow (z_Fm G m_X13_readRow Q) 0 0 h 78 [some (.ref a0), some (.int x1), some (.int x2), some (.int x3), none, none] [] := by
  refine z_aload_n (q := 79) (i := 0) (x := a0) dX13_readRow_78 rfl rfl rfl ?_
  obtain ⟨g_1, hf⟩ := hf
  refine z_get 11 8 (q := 82) (v := .int (h.I a0 8)) rfl (z_lt rfl) (z_L11_T g_1) q1766 dX13_readRow_79 rfl rfl ?_
  refine z_if_le (q := 85) (tgt := 89) dX13_readRow_82 rfl rfl (fun hc => ?_) (fun hc => ?_)
  · have hf := hf.1 hc
    refine z_aload_n (q := 90) (i := 0) (x := a0) dX13_readRow_89 rfl rfl rfl ?_
    refine z_aload_n (q := 91) (i := 0) (x := a0) dX13_readRow_90 rfl rfl rfl ?_
    refine z_get 11 14 (q := 94) (v := .ref (a0 + 9)) rfl (z_lt rfl) (z_L11_T g_1) q1772 dX13_readRow_91 rfl (z_fvR (fun _ _ _ => rfl) (z_L11_P14 g_1)) ?_
    refine z_aload_n (q := 95) (i := 0) (x := a0) dX13_readRow_94 rfl rfl rfl ?_
    refine z_get 11 10 (q := 98) (v := .ref (a0 + 6)) rfl (z_lt rfl) (z_L11_T g_1) q1768 dX13_readRow_95 rfl (z_fvR (fun _ _ _ => rfl) (z_L11_P10 g_1)) ?_
    refine z_iconst (q := 99) (v := 0) dX13_readRow_98 rfl rfl ?_
    obtain ⟨g_3, hf⟩ := hf
    refine z_iald (q := 100) (n := 420) (z_L11_A10 g_1) g_3 dX13_readRow_99 rfl ?_
    refine z_cVi m_X13_find [.ref (a0 + 9), .int (h.I (a0 + 6) (Int32.toNatClampNeg 0))] (a0) (q := 103) (rc2 := 0) (rs2 := 0) (st := []) dX13_readRow_100 rfl q1970 oV_X13_find rfl rfl ⟨z_le rfl, z_le rfl⟩ (z_le rfl) (z_rcv_of 11 rfl (z_L11_T g_1) rfl) rfl  rfl hf (fun x_4 h_5 hf => ?_)
    refine z_istore (q := 105) (i := 4) (ls2 := [some (.ref a0), some (.int x1), some (.int x2), some (.int x3), some (.int x_4), none]) (x := x_4) dX13_readRow_103 (z_lt rfl) rfl rfl ?_
    refine z_iload (q := 107) (i := 4) (x := x_4) dX13_readRow_105 rfl rfl ?_
    refine z_if_ge (q := 110) (tgt := 115) dX13_readRow_107 rfl rfl (fun hc => ?_) (fun hc => ?_)
    · have hf := hf.1 hc
      exact hf
    · have hf := hf.2 hc
      refine z_aload_n (q := 111) (i := 0) (x := a0) dX13_readRow_110 rfl rfl rfl ?_
      refine z_iconst (q := 112) (v := 2) dX13_readRow_111 rfl rfl ?_
      obtain ⟨g_6, hf⟩ := hf
      refine z_cVv m_X13_wrong [.int 2] (a0) (q := 115) (rc2 := 0) (rs2 := 0) (st := []) dX13_readRow_112 rfl q1962 oV_X13_wrong rfl rfl ⟨z_le rfl, z_le rfl⟩ (z_le rfl) (z_rcv_of 11 rfl (z_L11_T g_6) rfl) rfl  rfl hf (fun h_7 hf => ?_)
      exact hf
  · have hf := hf.2 hc
    refine z_iconst (q := 86) (v := 0) dX13_readRow_85 rfl rfl ?_
    refine z_goto (q := 103) dX13_readRow_86 rfl ?_
    refine z_istore (q := 105) (i := 4) (ls2 := [some (.ref a0), some (.int x1), some (.int x2), some (.int x3), some (.int 0), none]) (x := 0) dX13_readRow_103 (z_lt rfl) rfl rfl ?_
    refine z_iload (q := 107) (i := 4) (x := 0) dX13_readRow_105 rfl rfl ?_
    refine z_if_ge (q := 110) (tgt := 115) dX13_readRow_107 rfl rfl (fun hc => ?_) (fun hc => ?_)
    · have hf := hf.1 hc
      exact hf
    · have hf := hf.2 hc
      refine z_aload_n (q := 111) (i := 0) (x := a0) dX13_readRow_110 rfl rfl rfl ?_
      refine z_iconst (q := 112) (v := 2) dX13_readRow_111 rfl rfl ?_
      refine z_cVv m_X13_wrong [.int 2] (a0) (q := 115) (rc2 := 0) (rs2 := 0) (st := []) dX13_readRow_112 rfl q1962 oV_X13_wrong rfl rfl ⟨z_le rfl, z_le rfl⟩ (z_le rfl) (z_rcv_of 11 rfl (z_L11_T g_1) rfl) rfl  rfl hf (fun h_8 hf => ?_)
      exact hf

theorem b_X13_readRow_115 {l : Launch} {G : z_G} {a0 : Nat} {x1 : Int32} {x2 : Int32} {x3 : Int32} {x4 : Int32} {h : z_H} {Q : z_Q}  (hf : z_L11 h a0 ∧ ((h.I a0 8) = 0 → vp_in x1 2 ∧ (((h.I (a0 + 12) (Int32.toNatClampNeg x1)) + x3) ≤ x2 → z_V l G m_X13_readRow (z_Fm G m_X13_readRow Q) 0 0 h 142 [some (.ref a0), some (.int x1), some (.int x2), some (.int x3), some (.int x4), some (.int 0)] []) ∧ (¬ ((h.I (a0 + 12) (Int32.toNatClampNeg x1)) + x3) ≤ x2 → z_Ct l G m_X13_wrong [.ref a0, .int 5] h (z_Qv (fun h_3 => z_V l G m_X13_readRow (z_Fm G m_X13_readRow Q) 0 0 h_3 142 [some (.ref a0), some (.int x1), some (.int x2), some (.int x3), some (.int x4), some (.int 0)] [])))) ∧ (¬ (h.I a0 8) = 0 → z_V l G m_X13_readRow (z_Fm G m_X13_readRow Q) 0 0 h 142 [some (.ref a0), some (.int x1), some (.int x2), some (.int x3), some (.int x4), some (.int 0)] [])) : z_V l G m_X13_readRow (z_Fm G m_X13_readRow Q) 0 0 h 115 [some (.ref a0), some (.int x1), some (.int x2), some (.int x3), some (.int x4), none] [] := by
  refine z_aload_n (q := 116) (i := 0) (x := a0) dX13_readRow_115 rfl rfl rfl ?_
  obtain ⟨g_1, hf⟩ := hf
  refine z_get 11 8 (q := 119) (v := .int (h.I a0 8)) rfl (z_lt rfl) (z_L11_T g_1) q1766 dX13_readRow_116 rfl rfl ?_
  refine z_if_ne (q := 122) (tgt := 139) dX13_readRow_119 rfl rfl (fun hc => ?_) (fun hc => ?_)
  · have hf := hf.2 hc
    refine z_iconst (q := 140) (v := 0) dX13_readRow_139 rfl rfl ?_
    refine z_istore (q := 142) (i := 5) (ls2 := [some (.ref a0), some (.int x1), some (.int x2), some (.int x3), some (.int x4), some (.int 0)]) (x := 0) dX13_readRow_140 (z_lt rfl) rfl rfl ?_
    exact hf
  · have hf := hf.1 hc
    refine z_aload_n (q := 123) (i := 0) (x := a0) dX13_readRow_122 rfl rfl rfl ?_
    refine z_get 11 18 (q := 126) (v := .ref (a0 + 12)) rfl (z_lt rfl) (z_L11_T g_1) q1776 dX13_readRow_123 rfl (z_fvR (fun _ _ _ => rfl) (z_L11_P18 g_1)) ?_
    refine z_iload_n (q := 127) (i := 1) (x := x1) dX13_readRow_126 rfl rfl rfl ?_
    obtain ⟨g_2, hf⟩ := hf
    refine z_iald (q := 128) (n := 2) (z_L11_A18 g_1) g_2 dX13_readRow_127 rfl ?_
    refine z_iload_n (q := 129) (i := 3) (x := x3) dX13_readRow_128 rfl rfl rfl ?_
    refine z_iadd (q := 130) dX13_readRow_129 rfl ?_
    refine z_iload_n (q := 131) (i := 2) (x := x2) dX13_readRow_130 rfl rfl rfl ?_
    refine z_icmp_le (q := 134) (tgt := 139) dX13_readRow_131 rfl rfl (fun hc => ?_) (fun hc => ?_)
    · have hf := hf.1 hc
      refine z_iconst (q := 140) (v := 0) dX13_readRow_139 rfl rfl ?_
      refine z_istore (q := 142) (i := 5) (ls2 := [some (.ref a0), some (.int x1), some (.int x2), some (.int x3), some (.int x4), some (.int 0)]) (x := 0) dX13_readRow_140 (z_lt rfl) rfl rfl ?_
      exact hf
    · have hf := hf.2 hc
      refine z_aload_n (q := 135) (i := 0) (x := a0) dX13_readRow_134 rfl rfl rfl ?_
      refine z_iconst (q := 136) (v := 5) dX13_readRow_135 rfl rfl ?_
      refine z_cVv m_X13_wrong [.int 5] (a0) (q := 139) (rc2 := 0) (rs2 := 0) (st := []) dX13_readRow_136 rfl q1962 oV_X13_wrong rfl rfl ⟨z_le rfl, z_le rfl⟩ (z_le rfl) (z_rcv_of 11 rfl (z_L11_T g_1) rfl) rfl  rfl hf (fun h_3 hf => ?_)
      refine z_iconst (q := 140) (v := 0) dX13_readRow_139 rfl rfl ?_
      refine z_istore (q := 142) (i := 5) (ls2 := [some (.ref a0), some (.int x1), some (.int x2), some (.int x3), some (.int x4), some (.int 0)]) (x := 0) dX13_readRow_140 (z_lt rfl) rfl rfl ?_
      exact hf

theorem b_X13_readRow_142 {l : Launch} {G : z_G} {a0 : Nat} {x1 : Int32} {x2 : Int32} {x3 : Int32} {x4 : Int32} {x5 : Int32} {h : z_H} {Q : z_Q}  (hf : (x3 ≤ x5 → z_L11 h a0 ∧ z_V l G m_X13_readRow (z_Fm G m_X13_readRow Q) 0 0 (h.sI a0 7 ((h.I a0 7) + (if (h.I a0 8) ≤ 0 then 1 else 0))) 7 [some (.ref a0), some (.int x1), some (.int x2), none, none, none] []) ∧ (¬ x3 ≤ x5 → z_L11 h a0 ∧ ((h.I a0 8) = 0 → vp_in x1 2 ∧ vp_in ((24 * x1) + (h.I (a0 + 12) (Int32.toNatClampNeg x1))) 48 ∧ vp_in x1 2 ∧ vp_in x1 2 ∧ z_V l G m_X13_readRow (z_Fm G m_X13_readRow Q) 0 0 ((h.sI (a0 + 11) (Int32.toNatClampNeg ((24 * x1) + (h.I (a0 + 12) (Int32.toNatClampNeg x1)))) x4).sI (a0 + 12) (Int32.toNatClampNeg x1) ((h.I (a0 + 12) (Int32.toNatClampNeg x1)) + 1)) 142 [some (.ref a0), some (.int x1), some (.int x2), some (.int x3), some (.int x4), some (.int (x5 + 1))] []) ∧ (¬ (h.I a0 8) = 0 → z_V l G m_X13_readRow (z_Fm G m_X13_readRow Q) 0 0 (h.sI a0 7 ((h.I a0 7) + (if (h.I a0 8) ≤ 0 then 1 else 0))) 7 [some (.ref a0), some (.int x1), some (.int x2), none, none, none] []))) : z_V l G m_X13_readRow (z_Fm G m_X13_readRow Q) 0 0 h 142 [some (.ref a0), some (.int x1), some (.int x2), some (.int x3), some (.int x4), some (.int x5)] [] := by
  refine z_iload (q := 144) (i := 5) (x := x5) dX13_readRow_142 rfl rfl ?_
  refine z_iload_n (q := 145) (i := 3) (x := x3) dX13_readRow_144 rfl rfl rfl ?_
  refine z_icmp_ge (q := 148) (tgt := 189) dX13_readRow_145 rfl rfl (fun hc => ?_) (fun hc => ?_)
  · have hf := hf.1 hc
    refine z_aload_n (q := 190) (i := 0) (x := a0) dX13_readRow_189 rfl rfl rfl ?_
    refine z_dup (q := 191) dX13_readRow_190 rfl rfl ?_
    obtain ⟨g_1, hf⟩ := hf
    refine z_get 11 7 (q := 194) (v := .int (h.I a0 7)) rfl (z_lt rfl) (z_L11_T g_1) q1765 dX13_readRow_191 rfl rfl ?_
    refine z_aload_n (q := 195) (i := 0) (x := a0) dX13_readRow_194 rfl rfl rfl ?_
    refine z_get 11 8 (q := 198) (v := .int (h.I a0 8)) rfl (z_lt rfl) (z_L11_T g_1) q1766 dX13_readRow_195 rfl rfl ?_
    have hk : z_V l G m_X13_readRow (z_Fm G m_X13_readRow Q) 0 0 h 206 [some (.ref a0), some (.int x1), some (.int x2), some (.int x3), some (.int x4), some (.int x5)] [.int (if (h.I a0 8) ≤ 0 then 1 else 0), .int (h.I a0 7), .ref a0] := by
      refine z_iadd (q := 207) dX13_readRow_206 rfl ?_
      refine z_putI 11 7 (q := 210) (x := ((h.I a0 7) + (if (h.I a0 8) ≤ 0 then 1 else 0))) (v := .int ((h.I a0 7) + (if (h.I a0 8) ≤ 0 then 1 else 0))) rfl (z_lt rfl) (z_L11_T g_1) q1765 rfl dX13_readRow_207 rfl rfl rfl rfl (fun _ _ _ => rfl) ?_
      refine z_goto (q := 7) dX13_readRow_210 rfl ?_
      refine z_prune [true, true, true, false, false, false] (ls2 := [some (.ref a0), some (.int x1), some (.int x2), none, none, none]) rfl ?_
      exact hf
    refine z_if_le (q := 201) (tgt := 205) dX13_readRow_198 rfl rfl (fun hc => ?_) (fun hc => ?_)
    · have hk := (z_ite hk).1 hc
      refine z_iconst (q := 206) (v := 1) dX13_readRow_205 rfl rfl ?_
      exact hk
    · have hk := (z_ite hk).2 hc
      refine z_iconst (q := 202) (v := 0) dX13_readRow_201 rfl rfl ?_
      refine z_goto (q := 206) dX13_readRow_202 rfl ?_
      exact hk
  · have hf := hf.2 hc
    refine z_aload_n (q := 149) (i := 0) (x := a0) dX13_readRow_148 rfl rfl rfl ?_
    obtain ⟨g_2, hf⟩ := hf
    refine z_get 11 8 (q := 152) (v := .int (h.I a0 8)) rfl (z_lt rfl) (z_L11_T g_2) q1766 dX13_readRow_149 rfl rfl ?_
    refine z_if_ne (q := 155) (tgt := 189) dX13_readRow_152 rfl rfl (fun hc => ?_) (fun hc => ?_)
    · have hf := hf.2 hc
      refine z_aload_n (q := 190) (i := 0) (x := a0) dX13_readRow_189 rfl rfl rfl ?_
      refine z_dup (q := 191) dX13_readRow_190 rfl rfl ?_
      refine z_get 11 7 (q := 194) (v := .int (h.I a0 7)) rfl (z_lt rfl) (z_L11_T g_2) q1765 dX13_readRow_191 rfl rfl ?_
      refine z_aload_n (q := 195) (i := 0) (x := a0) dX13_readRow_194 rfl rfl rfl ?_
      refine z_get 11 8 (q := 198) (v := .int (h.I a0 8)) rfl (z_lt rfl) (z_L11_T g_2) q1766 dX13_readRow_195 rfl rfl ?_
      have hk : z_V l G m_X13_readRow (z_Fm G m_X13_readRow Q) 0 0 h 206 [some (.ref a0), some (.int x1), some (.int x2), some (.int x3), some (.int x4), some (.int x5)] [.int (if (h.I a0 8) ≤ 0 then 1 else 0), .int (h.I a0 7), .ref a0] := by
        refine z_iadd (q := 207) dX13_readRow_206 rfl ?_
        refine z_putI 11 7 (q := 210) (x := ((h.I a0 7) + (if (h.I a0 8) ≤ 0 then 1 else 0))) (v := .int ((h.I a0 7) + (if (h.I a0 8) ≤ 0 then 1 else 0))) rfl (z_lt rfl) (z_L11_T g_2) q1765 rfl dX13_readRow_207 rfl rfl rfl rfl (fun _ _ _ => rfl) ?_
        refine z_goto (q := 7) dX13_readRow_210 rfl ?_
        refine z_prune [true, true, true, false, false, false] (ls2 := [some (.ref a0), some (.int x1), some (.int x2), none, none, none]) rfl ?_
        exact hf
      refine z_if_le (q := 201) (tgt := 205) dX13_readRow_198 rfl rfl (fun hc => ?_) (fun hc => ?_)
      · have hk := (z_ite hk).1 hc
        refine z_iconst (q := 206) (v := 1) dX13_readRow_205 rfl rfl ?_
        exact hk
      · have hk := (z_ite hk).2 hc
        refine z_iconst (q := 202) (v := 0) dX13_readRow_201 rfl rfl ?_
        refine z_goto (q := 206) dX13_readRow_202 rfl ?_
        exact hk
    · have hf := hf.1 hc
      refine z_aload_n (q := 156) (i := 0) (x := a0) dX13_readRow_155 rfl rfl rfl ?_
      refine z_get 11 17 (q := 159) (v := .ref (a0 + 11)) rfl (z_lt rfl) (z_L11_T g_2) q1775 dX13_readRow_156 rfl (z_fvR (fun _ _ _ => rfl) (z_L11_P17 g_2)) ?_
      refine z_bipush (q := 161) (v := 24) dX13_readRow_159 (by decide) rfl ?_
      refine z_iload_n (q := 162) (i := 1) (x := x1) dX13_readRow_161 rfl rfl rfl ?_
      refine z_imul (q := 163) dX13_readRow_162 rfl ?_
      refine z_aload_n (q := 164) (i := 0) (x := a0) dX13_readRow_163 rfl rfl rfl ?_
      refine z_get 11 18 (q := 167) (v := .ref (a0 + 12)) rfl (z_lt rfl) (z_L11_T g_2) q1776 dX13_readRow_164 rfl (z_fvR (fun _ _ _ => rfl) (z_L11_P18 g_2)) ?_
      refine z_iload_n (q := 168) (i := 1) (x := x1) dX13_readRow_167 rfl rfl rfl ?_
      obtain ⟨g_3, hf⟩ := hf
      refine z_iald (q := 169) (n := 2) (z_L11_A18 g_2) g_3 dX13_readRow_168 rfl ?_
      refine z_iadd (q := 170) dX13_readRow_169 rfl ?_
      refine z_iload (q := 172) (i := 4) (x := x4) dX13_readRow_170 rfl rfl ?_
      obtain ⟨g_4, hf⟩ := hf
      refine z_iast (q := 173) (n := 48) (z_L11_A17 g_2) g_4 dX13_readRow_172 rfl ?_
      refine z_aload_n (q := 174) (i := 0) (x := a0) dX13_readRow_173 rfl rfl rfl ?_
      refine z_get 11 18 (q := 177) (v := .ref (a0 + 12)) rfl (z_lt rfl) (z_L11_T g_2) q1776 dX13_readRow_174 rfl (z_fvR (fun _ _ _ => rfl) (z_L11_P18 g_2)) ?_
      refine z_iload_n (q := 178) (i := 1) (x := x1) dX13_readRow_177 rfl rfl rfl ?_
      refine z_dup2 (q := 179) dX13_readRow_178 rfl rfl rfl ?_
      obtain ⟨g_5, hf⟩ := hf
      refine z_iald (q := 180) (n := 2) (z_L11_A18 g_2) g_5 dX13_readRow_179 rfl ?_
      refine z_topI (z_rIa (by omega)) ?_
      refine z_iconst (q := 181) (v := 1) dX13_readRow_180 rfl rfl ?_
      refine z_iadd (q := 182) dX13_readRow_181 rfl ?_
      obtain ⟨g_6, hf⟩ := hf
      refine z_iast (q := 183) (n := 2) (z_L11_A18 g_2) g_6 dX13_readRow_182 rfl ?_
      refine z_iinc (q := 186) (i := 5) (x := x5) (v := (x5 + 1)) (ls2 := [some (.ref a0), some (.int x1), some (.int x2), some (.int x3), some (.int x4), some (.int (x5 + 1))]) dX13_readRow_183 rfl rfl (z_lt rfl) rfl rfl ?_
      refine z_goto (q := 142) dX13_readRow_186 rfl ?_
      exact hf

theorem u_X13_remembers {l : Launch} {G : z_G} {a0 : Nat} {x1 : Int32} {x2 : Int32} {h : z_H} {Q : z_Q} (hst : l.stackTraces = false)  (hf : z_V l G m_X13_remembers (z_Fm G m_X13_remembers Q) 0 0 h 5 [some (.ref a0), some (.int x1), some (.int x2), some (.int 0), some (.int 0), none] []) : z_Ct l G m_X13_remembers [.ref a0, .int x1, .int x2] h Q := by
  refine z_Ct.of (ls := [some (.ref a0), some (.int x1), some (.int x2), none, none, none]) hst rfl (by show plainName yX13_remembers.cls = true; decide +kernel) (z_le rfl) rfl ?_
  show z_V l G m_X13_remembers (z_Fm G m_X13_remembers Q) 0 0 h 0 [some (.ref a0), some (.int x1), some (.int x2), none, none, none] []
  refine z_iconst (q := 1) (v := 0) dX13_remembers_0 rfl rfl ?_
  refine z_istore_n (q := 2) (i := 3) (ls2 := [some (.ref a0), some (.int x1), some (.int x2), some (.int 0), none, none]) (x := 0) dX13_remembers_1 rfl (z_lt rfl) rfl rfl ?_
  refine z_iconst (q := 3) (v := 0) dX13_remembers_2 rfl rfl ?_
  refine z_istore (q := 5) (i := 4) (ls2 := [some (.ref a0), some (.int x1), some (.int x2), some (.int 0), some (.int 0), none]) (x := 0) dX13_remembers_3 (z_lt rfl) rfl rfl ?_
  exact hf

theorem b_X13_remembers_5 {l : Launch} {G : z_G} {a0 : Nat} {x1 : Int32} {x2 : Int32} {x3 : Int32} {x4 : Int32} {h : z_H} {Q : z_Q}  (hf : (x2 ≤ x4 → z_L11 h a0 ∧ vp_in 14 16560 ∧ vp_in 13 16560 ∧ z_V l G m_X13_remembers (z_Fm G m_X13_remembers Q) 0 0 ((h.sI (a0 + 16) (Int32.toNatClampNeg 14) x2).sI (a0 + 16) (Int32.toNatClampNeg 13) 0) 83 [some (.ref a0), some (.int x1), some (.int x2), some (.int x3), some (.int 39), none] []) ∧ (¬ x2 ≤ x4 → z_L11 h a0 ∧ vp_in (116 + x4) 16560 ∧ vp_in (164 + x4) 16560 ∧ vp_in (116 + x4) 16560 ∧ z_Ct l G m_X13_paysOf [.ref a0, .int ((h.sI (a0 + 16) (Int32.toNatClampNeg (164 + x4)) (h.I (a0 + 16) (Int32.toNatClampNeg (116 + x4)))).I (a0 + 16) (Int32.toNatClampNeg (116 + x4)))] (h.sI (a0 + 16) (Int32.toNatClampNeg (164 + x4)) (h.I (a0 + 16) (Int32.toNatClampNeg (116 + x4)))) (z_Qi (fun x_8 h_9 => ∀ v_10 : Int32, v_10 = (x3 + (if x_8 ≤ 0 then 0 else 1)) → z_V l G m_X13_remembers (z_Fm G m_X13_remembers Q) 0 0 h_9 5 [some (.ref a0), some (.int x1), some (.int x2), some (.int v_10), some (.int (x4 + 1)), none] [])))) : z_V l G m_X13_remembers (z_Fm G m_X13_remembers Q) 0 0 h 5 [some (.ref a0), some (.int x1), some (.int x2), some (.int x3), some (.int x4), none] [] := by
  refine z_iload (q := 7) (i := 4) (x := x4) dX13_remembers_5 rfl rfl ?_
  refine z_iload_n (q := 8) (i := 2) (x := x2) dX13_remembers_7 rfl rfl rfl ?_
  refine z_icmp_ge (q := 11) (tgt := 63) dX13_remembers_8 rfl rfl (fun hc => ?_) (fun hc => ?_)
  · have hf := hf.1 hc
    refine z_aload_n (q := 64) (i := 0) (x := a0) dX13_remembers_63 rfl rfl rfl ?_
    obtain ⟨g_1, hf⟩ := hf
    refine z_get 11 22 (q := 67) (v := .ref (a0 + 16)) rfl (z_lt rfl) (z_L11_T g_1) q1780 dX13_remembers_64 rfl (z_fvR (fun _ _ _ => rfl) (z_L11_P22 g_1)) ?_
    refine z_bipush (q := 69) (v := 14) dX13_remembers_67 (by decide) rfl ?_
    refine z_iload_n (q := 70) (i := 2) (x := x2) dX13_remembers_69 rfl rfl rfl ?_
    obtain ⟨g_2, hf⟩ := hf
    refine z_iast (q := 71) (n := 16560) (z_L11_A22 g_1) g_2 dX13_remembers_70 rfl ?_
    refine z_aload_n (q := 72) (i := 0) (x := a0) dX13_remembers_71 rfl rfl rfl ?_
    refine z_get 11 22 (q := 75) (v := .ref (a0 + 16)) rfl (z_lt rfl) (z_L11_T g_1) q1780 dX13_remembers_72 rfl (z_fvR (fun _ _ _ => rfl) (z_L11_P22 g_1)) ?_
    refine z_bipush (q := 77) (v := 13) dX13_remembers_75 (by decide) rfl ?_
    refine z_iconst (q := 78) (v := 0) dX13_remembers_77 rfl rfl ?_
    obtain ⟨g_3, hf⟩ := hf
    refine z_iast (q := 79) (n := 16560) (z_L11_A22 g_1) g_3 dX13_remembers_78 rfl ?_
    refine z_bipush (q := 81) (v := 39) dX13_remembers_79 (by decide) rfl ?_
    refine z_istore (q := 83) (i := 4) (ls2 := [some (.ref a0), some (.int x1), some (.int x2), some (.int x3), some (.int 39), none]) (x := 39) dX13_remembers_81 (z_lt rfl) rfl rfl ?_
    exact hf
  · have hf := hf.2 hc
    refine z_aload_n (q := 12) (i := 0) (x := a0) dX13_remembers_11 rfl rfl rfl ?_
    obtain ⟨g_4, hf⟩ := hf
    refine z_get 11 22 (q := 15) (v := .ref (a0 + 16)) rfl (z_lt rfl) (z_L11_T g_4) q1780 dX13_remembers_12 rfl (z_fvR (fun _ _ _ => rfl) (z_L11_P22 g_4)) ?_
    refine z_sipush (q := 18) (v := 164) dX13_remembers_15 (by decide) rfl ?_
    refine z_iload (q := 20) (i := 4) (x := x4) dX13_remembers_18 rfl rfl ?_
    refine z_iadd (q := 21) dX13_remembers_20 rfl ?_
    refine z_aload_n (q := 22) (i := 0) (x := a0) dX13_remembers_21 rfl rfl rfl ?_
    refine z_get 11 22 (q := 25) (v := .ref (a0 + 16)) rfl (z_lt rfl) (z_L11_T g_4) q1780 dX13_remembers_22 rfl (z_fvR (fun _ _ _ => rfl) (z_L11_P22 g_4)) ?_
    refine z_bipush (q := 27) (v := 116) dX13_remembers_25 (by decide) rfl ?_
    refine z_iload (q := 29) (i := 4) (x := x4) dX13_remembers_27 rfl rfl ?_
    refine z_iadd (q := 30) dX13_remembers_29 rfl ?_
    obtain ⟨g_5, hf⟩ := hf
    refine z_iald (q := 31) (n := 16560) (z_L11_A22 g_4) g_5 dX13_remembers_30 rfl ?_
    obtain ⟨g_6, hf⟩ := hf
    refine z_iast (q := 32) (n := 16560) (z_L11_A22 g_4) g_6 dX13_remembers_31 rfl ?_
    refine z_iload_n (q := 33) (i := 3) (x := x3) dX13_remembers_32 rfl rfl rfl ?_
    refine z_aload_n (q := 34) (i := 0) (x := a0) dX13_remembers_33 rfl rfl rfl ?_
    refine z_aload_n (q := 35) (i := 0) (x := a0) dX13_remembers_34 rfl rfl rfl ?_
    refine z_get 11 22 (q := 38) (v := .ref (a0 + 16)) rfl (z_lt rfl) (z_L11_T g_4) q1780 dX13_remembers_35 rfl (z_fvR (fun _ _ _ => rfl) (z_L11_P22 g_4)) ?_
    refine z_bipush (q := 40) (v := 116) dX13_remembers_38 (by decide) rfl ?_
    refine z_iload (q := 42) (i := 4) (x := x4) dX13_remembers_40 rfl rfl ?_
    refine z_iadd (q := 43) dX13_remembers_42 rfl ?_
    obtain ⟨g_7, hf⟩ := hf
    refine z_iald (q := 44) (n := 16560) (z_L11_A22 g_4) g_7 dX13_remembers_43 rfl ?_
    refine z_cVi m_X13_paysOf [.int ((h.sI (a0 + 16) (Int32.toNatClampNeg (164 + x4)) (h.I (a0 + 16) (Int32.toNatClampNeg (116 + x4)))).I (a0 + 16) (Int32.toNatClampNeg (116 + x4)))] (a0) (q := 47) (rc2 := 0) (rs2 := 0) (st := [.int x3]) dX13_remembers_44 rfl q2124 oV_X13_paysOf rfl rfl ⟨z_le rfl, z_le rfl⟩ (z_le rfl) (z_rcv_of 11 rfl (z_L11_T g_4) rfl) rfl  rfl hf (fun x_8 h_9 hf => ?_)
    have hk : z_V l G m_X13_remembers (z_Fm G m_X13_remembers Q) 0 0 h_9 55 [some (.ref a0), some (.int x1), some (.int x2), some (.int x3), some (.int x4), none] [.int (if x_8 ≤ 0 then 0 else 1), .int x3] := by
      refine z_iadd (q := 56) dX13_remembers_55 rfl ?_
      refine z_nmI (fun v_10 hv_11 => ?_)
      have hf := hf v_10 hv_11
      refine z_istore_n (q := 57) (i := 3) (ls2 := [some (.ref a0), some (.int x1), some (.int x2), some (.int v_10), some (.int x4), none]) (x := v_10) dX13_remembers_56 rfl (z_lt rfl) rfl rfl ?_
      refine z_iinc (q := 60) (i := 4) (x := x4) (v := (x4 + 1)) (ls2 := [some (.ref a0), some (.int x1), some (.int x2), some (.int v_10), some (.int (x4 + 1)), none]) dX13_remembers_57 rfl rfl (z_lt rfl) rfl rfl ?_
      refine z_goto (q := 5) dX13_remembers_60 rfl ?_
      exact hf
    refine z_if_le (q := 50) (tgt := 54) dX13_remembers_47 rfl rfl (fun hc => ?_) (fun hc => ?_)
    · have hk := (z_ite hk).1 hc
      refine z_iconst (q := 55) (v := 0) dX13_remembers_54 rfl rfl ?_
      exact hk
    · have hk := (z_ite hk).2 hc
      refine z_iconst (q := 51) (v := 1) dX13_remembers_50 rfl rfl ?_
      refine z_goto (q := 55) dX13_remembers_51 rfl ?_
      exact hk

theorem b_X13_remembers_83 {l : Launch} {G : z_G} {a0 : Nat} {x1 : Int32} {x2 : Int32} {x3 : Int32} {x4 : Int32} {h : z_H} {Q : z_Q}  (hf : (x4 ≤ 0 → z_L11 h a0 ∧ vp_in 260 16560 ∧ vp_in 261 16560 ∧ vp_in 262 16560 ∧ vp_in 18 16560 ∧ vp_in 263 16560 ∧ vp_in 12 16560 ∧ vp_in 12 16560 ∧ vp_in 12 16560 ∧ Q none (((((h.sI (a0 + 16) (Int32.toNatClampNeg 260) x1).sI (a0 + 16) (Int32.toNatClampNeg 261) x2).sI (a0 + 16) (Int32.toNatClampNeg 262) x3).sI (a0 + 16) (Int32.toNatClampNeg 263) ((((h.sI (a0 + 16) (Int32.toNatClampNeg 260) x1).sI (a0 + 16) (Int32.toNatClampNeg 261) x2).sI (a0 + 16) (Int32.toNatClampNeg 262) x3).I (a0 + 16) (Int32.toNatClampNeg 18))).sI (a0 + 16) (Int32.toNatClampNeg 12) ((((((h.sI (a0 + 16) (Int32.toNatClampNeg 260) x1).sI (a0 + 16) (Int32.toNatClampNeg 261) x2).sI (a0 + 16) (Int32.toNatClampNeg 262) x3).sI (a0 + 16) (Int32.toNatClampNeg 263) ((((h.sI (a0 + 16) (Int32.toNatClampNeg 260) x1).sI (a0 + 16) (Int32.toNatClampNeg 261) x2).sI (a0 + 16) (Int32.toNatClampNeg 262) x3).I (a0 + 16) (Int32.toNatClampNeg 18))).I (a0 + 16) (Int32.toNatClampNeg 12)) + (if 40 ≤ (((((h.sI (a0 + 16) (Int32.toNatClampNeg 260) x1).sI (a0 + 16) (Int32.toNatClampNeg 261) x2).sI (a0 + 16) (Int32.toNatClampNeg 262) x3).sI (a0 + 16) (Int32.toNatClampNeg 263) ((((h.sI (a0 + 16) (Int32.toNatClampNeg 260) x1).sI (a0 + 16) (Int32.toNatClampNeg 261) x2).sI (a0 + 16) (Int32.toNatClampNeg 262) x3).I (a0 + 16) (Int32.toNatClampNeg 18))).I (a0 + 16) (Int32.toNatClampNeg 12)) then 0 else 1)))) ∧ (¬ x4 ≤ 0 → z_V l G m_X13_remembers (z_Fm G m_X13_remembers Q) 0 0 h 91 [some (.ref a0), some (.int x1), some (.int x2), some (.int x3), some (.int x4), some (.int 0)] [])) : z_V l G m_X13_remembers (z_Fm G m_X13_remembers Q) 0 0 h 83 [some (.ref a0), some (.int x1), some (.int x2), some (.int x3), some (.int x4), none] [] := by
  refine z_iload (q := 85) (i := 4) (x := x4) dX13_remembers_83 rfl rfl ?_
  refine z_if_le (q := 88) (tgt := 143) dX13_remembers_85 rfl rfl (fun hc => ?_) (fun hc => ?_)
  · have hf := hf.1 hc
    refine z_aload_n (q := 144) (i := 0) (x := a0) dX13_remembers_143 rfl rfl rfl ?_
    obtain ⟨g_1, hf⟩ := hf
    refine z_get 11 22 (q := 147) (v := .ref (a0 + 16)) rfl (z_lt rfl) (z_L11_T g_1) q1780 dX13_remembers_144 rfl (z_fvR (fun _ _ _ => rfl) (z_L11_P22 g_1)) ?_
    refine z_sipush (q := 150) (v := 260) dX13_remembers_147 (by decide) rfl ?_
    refine z_iload_n (q := 151) (i := 1) (x := x1) dX13_remembers_150 rfl rfl rfl ?_
    obtain ⟨g_2, hf⟩ := hf
    refine z_iast (q := 152) (n := 16560) (z_L11_A22 g_1) g_2 dX13_remembers_151 rfl ?_
    refine z_aload_n (q := 153) (i := 0) (x := a0) dX13_remembers_152 rfl rfl rfl ?_
    refine z_get 11 22 (q := 156) (v := .ref (a0 + 16)) rfl (z_lt rfl) (z_L11_T g_1) q1780 dX13_remembers_153 rfl (z_fvR (fun _ _ _ => rfl) (z_L11_P22 g_1)) ?_
    refine z_sipush (q := 159) (v := 261) dX13_remembers_156 (by decide) rfl ?_
    refine z_iload_n (q := 160) (i := 2) (x := x2) dX13_remembers_159 rfl rfl rfl ?_
    obtain ⟨g_3, hf⟩ := hf
    refine z_iast (q := 161) (n := 16560) (z_L11_A22 g_1) g_3 dX13_remembers_160 rfl ?_
    refine z_aload_n (q := 162) (i := 0) (x := a0) dX13_remembers_161 rfl rfl rfl ?_
    refine z_get 11 22 (q := 165) (v := .ref (a0 + 16)) rfl (z_lt rfl) (z_L11_T g_1) q1780 dX13_remembers_162 rfl (z_fvR (fun _ _ _ => rfl) (z_L11_P22 g_1)) ?_
    refine z_sipush (q := 168) (v := 262) dX13_remembers_165 (by decide) rfl ?_
    refine z_iload_n (q := 169) (i := 3) (x := x3) dX13_remembers_168 rfl rfl rfl ?_
    obtain ⟨g_4, hf⟩ := hf
    refine z_iast (q := 170) (n := 16560) (z_L11_A22 g_1) g_4 dX13_remembers_169 rfl ?_
    refine z_aload_n (q := 171) (i := 0) (x := a0) dX13_remembers_170 rfl rfl rfl ?_
    refine z_get 11 22 (q := 174) (v := .ref (a0 + 16)) rfl (z_lt rfl) (z_L11_T g_1) q1780 dX13_remembers_171 rfl (z_fvR (fun _ _ _ => rfl) (z_L11_P22 g_1)) ?_
    refine z_sipush (q := 177) (v := 263) dX13_remembers_174 (by decide) rfl ?_
    refine z_aload_n (q := 178) (i := 0) (x := a0) dX13_remembers_177 rfl rfl rfl ?_
    refine z_get 11 22 (q := 181) (v := .ref (a0 + 16)) rfl (z_lt rfl) (z_L11_T g_1) q1780 dX13_remembers_178 rfl (z_fvR (fun _ _ _ => rfl) (z_L11_P22 g_1)) ?_
    refine z_bipush (q := 183) (v := 18) dX13_remembers_181 (by decide) rfl ?_
    obtain ⟨g_5, hf⟩ := hf
    refine z_iald (q := 184) (n := 16560) (z_L11_A22 g_1) g_5 dX13_remembers_183 rfl ?_
    obtain ⟨g_6, hf⟩ := hf
    refine z_iast (q := 185) (n := 16560) (z_L11_A22 g_1) g_6 dX13_remembers_184 rfl ?_
    refine z_aload_n (q := 186) (i := 0) (x := a0) dX13_remembers_185 rfl rfl rfl ?_
    refine z_get 11 22 (q := 189) (v := .ref (a0 + 16)) rfl (z_lt rfl) (z_L11_T g_1) q1780 dX13_remembers_186 rfl (z_fvR (fun _ _ _ => rfl) (z_L11_P22 g_1)) ?_
    refine z_bipush (q := 191) (v := 12) dX13_remembers_189 (by decide) rfl ?_
    refine z_dup2 (q := 192) dX13_remembers_191 rfl rfl rfl ?_
    obtain ⟨g_7, hf⟩ := hf
    refine z_iald (q := 193) (n := 16560) (z_L11_A22 g_1) g_7 dX13_remembers_192 rfl ?_
    refine z_aload_n (q := 194) (i := 0) (x := a0) dX13_remembers_193 rfl rfl rfl ?_
    refine z_get 11 22 (q := 197) (v := .ref (a0 + 16)) rfl (z_lt rfl) (z_L11_T g_1) q1780 dX13_remembers_194 rfl (z_fvR (fun _ _ _ => rfl) (z_L11_P22 g_1)) ?_
    refine z_bipush (q := 199) (v := 12) dX13_remembers_197 (by decide) rfl ?_
    obtain ⟨g_8, hf⟩ := hf
    refine z_iald (q := 200) (n := 16560) (z_L11_A22 g_1) g_8 dX13_remembers_199 rfl ?_
    refine z_bipush (q := 202) (v := 40) dX13_remembers_200 (by decide) rfl ?_
    have hk : z_V l G m_X13_remembers (z_Fm G m_X13_remembers Q) 0 0 ((((h.sI (a0 + 16) (Int32.toNatClampNeg 260) x1).sI (a0 + 16) (Int32.toNatClampNeg 261) x2).sI (a0 + 16) (Int32.toNatClampNeg 262) x3).sI (a0 + 16) (Int32.toNatClampNeg 263) ((((h.sI (a0 + 16) (Int32.toNatClampNeg 260) x1).sI (a0 + 16) (Int32.toNatClampNeg 261) x2).sI (a0 + 16) (Int32.toNatClampNeg 262) x3).I (a0 + 16) (Int32.toNatClampNeg 18))) 210 [some (.ref a0), some (.int x1), some (.int x2), some (.int x3), some (.int x4), none] [.int (if 40 ≤ (((((h.sI (a0 + 16) (Int32.toNatClampNeg 260) x1).sI (a0 + 16) (Int32.toNatClampNeg 261) x2).sI (a0 + 16) (Int32.toNatClampNeg 262) x3).sI (a0 + 16) (Int32.toNatClampNeg 263) ((((h.sI (a0 + 16) (Int32.toNatClampNeg 260) x1).sI (a0 + 16) (Int32.toNatClampNeg 261) x2).sI (a0 + 16) (Int32.toNatClampNeg 262) x3).I (a0 + 16) (Int32.toNatClampNeg 18))).I (a0 + 16) (Int32.toNatClampNeg 12)) then 0 else 1), .int (((((h.sI (a0 + 16) (Int32.toNatClampNeg 260) x1).sI (a0 + 16) (Int32.toNatClampNeg 261) x2).sI (a0 + 16) (Int32.toNatClampNeg 262) x3).sI (a0 + 16) (Int32.toNatClampNeg 263) ((((h.sI (a0 + 16) (Int32.toNatClampNeg 260) x1).sI (a0 + 16) (Int32.toNatClampNeg 261) x2).sI (a0 + 16) (Int32.toNatClampNeg 262) x3).I (a0 + 16) (Int32.toNatClampNeg 18))).I (a0 + 16) (Int32.toNatClampNeg 12)), .int 12, .ref (a0 + 16)] := by
      refine z_iadd (q := 211) dX13_remembers_210 rfl ?_
      obtain ⟨g_9, hf⟩ := hf
      refine z_iast (q := 212) (n := 16560) (z_L11_A22 g_1) g_9 dX13_remembers_211 rfl ?_
      exact z_vret dX13_remembers_212 rfl hf
    refine z_icmp_ge (q := 205) (tgt := 209) dX13_remembers_202 rfl rfl (fun hc => ?_) (fun hc => ?_)
    · have hk := (z_ite hk).1 hc
      refine z_iconst (q := 210) (v := 0) dX13_remembers_209 rfl rfl ?_
      exact hk
    · have hk := (z_ite hk).2 hc
      refine z_iconst (q := 206) (v := 1) dX13_remembers_205 rfl rfl ?_
      refine z_goto (q := 210) dX13_remembers_206 rfl ?_
      exact hk
  · have hf := hf.2 hc
    refine z_iconst (q := 89) (v := 0) dX13_remembers_88 rfl rfl ?_
    refine z_istore (q := 91) (i := 5) (ls2 := [some (.ref a0), some (.int x1), some (.int x2), some (.int x3), some (.int x4), some (.int 0)]) (x := 0) dX13_remembers_89 (z_lt rfl) rfl rfl ?_
    exact hf

theorem b_X13_remembers_91 {l : Launch} {G : z_G} {a0 : Nat} {x1 : Int32} {x2 : Int32} {x3 : Int32} {x4 : Int32} {x5 : Int32} {h : z_H} {Q : z_Q}  (hf : (4 ≤ x5 → z_V l G m_X13_remembers (z_Fm G m_X13_remembers Q) 0 0 h 83 [some (.ref a0), some (.int x1), some (.int x2), some (.int x3), some (.int (x4 + (-1))), none] []) ∧ (¬ 4 ≤ x5 → z_L11 h a0 ∧ vp_in (((260 + (4 * x4)) - 4) + x5) 16560 ∧ vp_in ((260 + (4 * x4)) + x5) 16560 ∧ z_V l G m_X13_remembers (z_Fm G m_X13_remembers Q) 0 0 (h.sI (a0 + 16) (Int32.toNatClampNeg ((260 + (4 * x4)) + x5)) (h.I (a0 + 16) (Int32.toNatClampNeg (((260 + (4 * x4)) - 4) + x5)))) 91 [some (.ref a0), some (.int x1), some (.int x2), some (.int x3), some (.int x4), some (.int (x5 + 1))] [])) : z_V l G m_X13_remembers (z_Fm G m_X13_remembers Q) 0 0 h 91 [some (.ref a0), some (.int x1), some (.int x2), some (.int x3), some (.int x4), some (.int x5)] [] := by
  refine z_iload (q := 93) (i := 5) (x := x5) dX13_remembers_91 rfl rfl ?_
  refine z_iconst (q := 94) (v := 4) dX13_remembers_93 rfl rfl ?_
  refine z_icmp_ge (q := 97) (tgt := 137) dX13_remembers_94 rfl rfl (fun hc => ?_) (fun hc => ?_)
  · have hf := hf.1 hc
    refine z_iinc (q := 140) (i := 4) (x := x4) (v := (x4 + (-1))) (ls2 := [some (.ref a0), some (.int x1), some (.int x2), some (.int x3), some (.int (x4 + (-1))), some (.int x5)]) dX13_remembers_137 rfl rfl (z_lt rfl) rfl rfl ?_
    refine z_goto (q := 83) dX13_remembers_140 rfl ?_
    refine z_prune [true, true, true, true, true, false] (ls2 := [some (.ref a0), some (.int x1), some (.int x2), some (.int x3), some (.int (x4 + (-1))), none]) rfl ?_
    exact hf
  · have hf := hf.2 hc
    refine z_aload_n (q := 98) (i := 0) (x := a0) dX13_remembers_97 rfl rfl rfl ?_
    obtain ⟨g_1, hf⟩ := hf
    refine z_get 11 22 (q := 101) (v := .ref (a0 + 16)) rfl (z_lt rfl) (z_L11_T g_1) q1780 dX13_remembers_98 rfl (z_fvR (fun _ _ _ => rfl) (z_L11_P22 g_1)) ?_
    refine z_sipush (q := 104) (v := 260) dX13_remembers_101 (by decide) rfl ?_
    refine z_iconst (q := 105) (v := 4) dX13_remembers_104 rfl rfl ?_
    refine z_iload (q := 107) (i := 4) (x := x4) dX13_remembers_105 rfl rfl ?_
    refine z_imul (q := 108) dX13_remembers_107 rfl ?_
    refine z_iadd (q := 109) dX13_remembers_108 rfl ?_
    refine z_iload (q := 111) (i := 5) (x := x5) dX13_remembers_109 rfl rfl ?_
    refine z_iadd (q := 112) dX13_remembers_111 rfl ?_
    refine z_aload_n (q := 113) (i := 0) (x := a0) dX13_remembers_112 rfl rfl rfl ?_
    refine z_get 11 22 (q := 116) (v := .ref (a0 + 16)) rfl (z_lt rfl) (z_L11_T g_1) q1780 dX13_remembers_113 rfl (z_fvR (fun _ _ _ => rfl) (z_L11_P22 g_1)) ?_
    refine z_sipush (q := 119) (v := 260) dX13_remembers_116 (by decide) rfl ?_
    refine z_iconst (q := 120) (v := 4) dX13_remembers_119 rfl rfl ?_
    refine z_iload (q := 122) (i := 4) (x := x4) dX13_remembers_120 rfl rfl ?_
    refine z_imul (q := 123) dX13_remembers_122 rfl ?_
    refine z_iadd (q := 124) dX13_remembers_123 rfl ?_
    refine z_iconst (q := 125) (v := 4) dX13_remembers_124 rfl rfl ?_
    refine z_isub (q := 126) dX13_remembers_125 rfl ?_
    refine z_iload (q := 128) (i := 5) (x := x5) dX13_remembers_126 rfl rfl ?_
    refine z_iadd (q := 129) dX13_remembers_128 rfl ?_
    obtain ⟨g_2, hf⟩ := hf
    refine z_iald (q := 130) (n := 16560) (z_L11_A22 g_1) g_2 dX13_remembers_129 rfl ?_
    obtain ⟨g_3, hf⟩ := hf
    refine z_iast (q := 131) (n := 16560) (z_L11_A22 g_1) g_3 dX13_remembers_130 rfl ?_
    refine z_iinc (q := 134) (i := 5) (x := x5) (v := (x5 + 1)) (ls2 := [some (.ref a0), some (.int x1), some (.int x2), some (.int x3), some (.int x4), some (.int (x5 + 1))]) dX13_remembers_131 rfl rfl (z_lt rfl) rfl rfl ?_
    refine z_goto (q := 91) dX13_remembers_134 rfl ?_
    exact hf

theorem u_X13_row {l : Launch} {G : z_G} {a0 : Nat} {x1 : Int32} {x2 : Int32} {h : z_H} {Q : z_Q} (hst : l.stackTraces = false)  (hf : z_L11 h a0 ∧ z_Ct l G m_X13_counts [.ref a0] (h.sI a0 0 0) (z_Qi (fun x_2 h_3 => (x_2 = 0 → Q (some (.int (-1))) h_3) ∧ (¬ x_2 = 0 → (x1 < 0 → Q (some (.int (-1))) h_3) ∧ (¬ x1 < 0 → z_L11 h_3 a0 ∧ ((h_3.I a0 44) ≤ x1 → Q (some (.int (-1))) h_3) ∧ (¬ (h_3.I a0 44) ≤ x1 → (x2 < 0 → Q (some (.int (-1))) h_3) ∧ (¬ x2 < 0 → (x2 < (h_3.I a0 41) → z_V l G m_X13_row (z_Fm G m_X13_row Q) 0 0 h_3 40 [some (.ref a0), some (.int x1), some (.int x2), some (.int 0)] []) ∧ (¬ x2 < (h_3.I a0 41) → Q (some (.int (-1))) h_3)))))))) : z_Ct l G m_X13_row [.ref a0, .int x1, .int x2] h Q := by
  refine z_Ct.of (ls := [some (.ref a0), some (.int x1), some (.int x2), none]) hst rfl (by show plainName yX13_row.cls = true; decide +kernel) (z_le rfl) rfl ?_
  show z_V l G m_X13_row (z_Fm G m_X13_row Q) 0 0 h 0 [some (.ref a0), some (.int x1), some (.int x2), none] []
  refine z_aload_n (q := 1) (i := 0) (x := a0) dX13_row_0 rfl rfl rfl ?_
  refine z_iconst (q := 2) (v := 0) dX13_row_1 rfl rfl ?_
  obtain ⟨g_1, hf⟩ := hf
  refine z_putI 11 0 (q := 5) (x := 0) (v := .int 0) rfl (z_lt rfl) (z_L11_T g_1) q1758 rfl dX13_row_2 rfl rfl rfl rfl (fun _ _ _ => rfl) ?_
  refine z_aload_n (q := 6) (i := 0) (x := a0) dX13_row_5 rfl rfl rfl ?_
  refine z_cVi m_X13_counts [] (a0) (q := 9) (rc2 := 0) (rs2 := 0) (st := []) dX13_row_6 rfl q2190 oV_X13_counts rfl rfl ⟨z_le rfl, z_le rfl⟩ (z_le rfl) (z_rcv_of 11 rfl (z_L11_T g_1) rfl) rfl  rfl hf (fun x_2 h_3 hf => ?_)
  refine z_if_eq (q := 12) (tgt := 36) dX13_row_9 rfl rfl (fun hc => ?_) (fun hc => ?_)
  · have hf := hf.1 hc
    refine z_iconst (q := 37) (v := (-1)) dX13_row_36 rfl rfl ?_
    exact z_iret dX13_row_37 rfl hf
  · have hf := hf.2 hc
    refine z_iload_n (q := 13) (i := 1) (x := x1) dX13_row_12 rfl rfl rfl ?_
    refine z_if_lt (q := 16) (tgt := 36) dX13_row_13 rfl rfl (fun hc => ?_) (fun hc => ?_)
    · have hf := hf.1 hc
      refine z_iconst (q := 37) (v := (-1)) dX13_row_36 rfl rfl ?_
      exact z_iret dX13_row_37 rfl hf
    · have hf := hf.2 hc
      refine z_iload_n (q := 17) (i := 1) (x := x1) dX13_row_16 rfl rfl rfl ?_
      refine z_aload_n (q := 18) (i := 0) (x := a0) dX13_row_17 rfl rfl rfl ?_
      obtain ⟨g_4, hf⟩ := hf
      refine z_get 11 44 (q := 21) (v := .int (h_3.I a0 44)) rfl (z_lt rfl) (z_L11_T g_4) q1802 dX13_row_18 rfl rfl ?_
      refine z_icmp_ge (q := 24) (tgt := 36) dX13_row_21 rfl rfl (fun hc => ?_) (fun hc => ?_)
      · have hf := hf.1 hc
        refine z_iconst (q := 37) (v := (-1)) dX13_row_36 rfl rfl ?_
        exact z_iret dX13_row_37 rfl hf
      · have hf := hf.2 hc
        refine z_iload_n (q := 25) (i := 2) (x := x2) dX13_row_24 rfl rfl rfl ?_
        refine z_if_lt (q := 28) (tgt := 36) dX13_row_25 rfl rfl (fun hc => ?_) (fun hc => ?_)
        · have hf := hf.1 hc
          refine z_iconst (q := 37) (v := (-1)) dX13_row_36 rfl rfl ?_
          exact z_iret dX13_row_37 rfl hf
        · have hf := hf.2 hc
          refine z_iload_n (q := 29) (i := 2) (x := x2) dX13_row_28 rfl rfl rfl ?_
          refine z_aload_n (q := 30) (i := 0) (x := a0) dX13_row_29 rfl rfl rfl ?_
          refine z_get 11 41 (q := 33) (v := .int (h_3.I a0 41)) rfl (z_lt rfl) (z_L11_T g_4) q1799 dX13_row_30 rfl rfl ?_
          refine z_icmp_lt (q := 36) (tgt := 38) dX13_row_33 rfl rfl (fun hc => ?_) (fun hc => ?_)
          · have hf := hf.1 hc
            refine z_iconst (q := 39) (v := 0) dX13_row_38 rfl rfl ?_
            refine z_istore_n (q := 40) (i := 3) (ls2 := [some (.ref a0), some (.int x1), some (.int x2), some (.int 0)]) (x := 0) dX13_row_39 rfl (z_lt rfl) rfl rfl ?_
            exact hf
          · have hf := hf.2 hc
            refine z_iconst (q := 37) (v := (-1)) dX13_row_36 rfl rfl ?_
            exact z_iret dX13_row_37 rfl hf

theorem b_X13_row_40 {l : Launch} {G : z_G} {a0 : Nat} {x1 : Int32} {x2 : Int32} {x3 : Int32} {h : z_H} {Q : z_Q}  (hf : (x1 ≤ x3 → z_L11 h a0 ∧ vp_in x2 24 ∧ Q (some (.int (h.I (a0 + 26) (Int32.toNatClampNeg x2)))) h) ∧ (¬ x1 ≤ x3 → z_L11 h a0 ∧ z_Ct l G m_X13_goesNext [.ref a0, .ref (a0 + 26), .int (h.I a0 41)] h (z_Qi (fun x_4 h_5 => z_V l G m_X13_row (z_Fm G m_X13_row Q) 0 0 h_5 40 [some (.ref a0), some (.int x1), some (.int x2), some (.int (x3 + 1))] [])))) : z_V l G m_X13_row (z_Fm G m_X13_row Q) 0 0 h 40 [some (.ref a0), some (.int x1), some (.int x2), some (.int x3)] [] := by
  refine z_iload_n (q := 41) (i := 3) (x := x3) dX13_row_40 rfl rfl rfl ?_
  refine z_iload_n (q := 42) (i := 1) (x := x1) dX13_row_41 rfl rfl rfl ?_
  refine z_icmp_ge (q := 45) (tgt := 64) dX13_row_42 rfl rfl (fun hc => ?_) (fun hc => ?_)
  · have hf := hf.1 hc
    refine z_aload_n (q := 65) (i := 0) (x := a0) dX13_row_64 rfl rfl rfl ?_
    obtain ⟨g_1, hf⟩ := hf
    refine z_get 11 40 (q := 68) (v := .ref (a0 + 26)) rfl (z_lt rfl) (z_L11_T g_1) q1798 dX13_row_65 rfl (z_fvR (fun _ _ _ => rfl) (z_L11_P40 g_1)) ?_
    refine z_iload_n (q := 69) (i := 2) (x := x2) dX13_row_68 rfl rfl rfl ?_
    obtain ⟨g_2, hf⟩ := hf
    refine z_iald (q := 70) (n := 24) (z_L11_A40 g_1) g_2 dX13_row_69 rfl ?_
    exact z_iret dX13_row_70 rfl hf
  · have hf := hf.2 hc
    refine z_aload_n (q := 46) (i := 0) (x := a0) dX13_row_45 rfl rfl rfl ?_
    refine z_aload_n (q := 47) (i := 0) (x := a0) dX13_row_46 rfl rfl rfl ?_
    obtain ⟨g_3, hf⟩ := hf
    refine z_get 11 40 (q := 50) (v := .ref (a0 + 26)) rfl (z_lt rfl) (z_L11_T g_3) q1798 dX13_row_47 rfl (z_fvR (fun _ _ _ => rfl) (z_L11_P40 g_3)) ?_
    refine z_aload_n (q := 51) (i := 0) (x := a0) dX13_row_50 rfl rfl rfl ?_
    refine z_get 11 41 (q := 54) (v := .int (h.I a0 41)) rfl (z_lt rfl) (z_L11_T g_3) q1799 dX13_row_51 rfl rfl ?_
    refine z_cVi m_X13_goesNext [.ref (a0 + 26), .int (h.I a0 41)] (a0) (q := 57) (rc2 := 0) (rs2 := 0) (st := []) dX13_row_54 rfl q2207 oV_X13_goesNext rfl rfl ⟨z_le rfl, z_le rfl⟩ (z_le rfl) (z_rcv_of 11 rfl (z_L11_T g_3) rfl) rfl  rfl hf (fun x_4 h_5 hf => ?_)
    refine z_pop (q := 58) dX13_row_57 rfl rfl ?_
    refine z_iinc (q := 61) (i := 3) (x := x3) (v := (x3 + 1)) (ls2 := [some (.ref a0), some (.int x1), some (.int x2), some (.int (x3 + 1))]) dX13_row_58 rfl rfl (z_lt rfl) rfl rfl ?_
    refine z_goto (q := 40) dX13_row_61 rfl ?_
    exact hf

theorem u_X13_rowsOf {l : Launch} {G : z_G} {a0 : Nat} {a1 : Nat} {x2 : Int32} {h : z_H} {Q : z_Q} (hst : l.stackTraces = false)  (hf : (x2 ≤ 10 → z_V l G m_X13_rowsOf (z_Fm G m_X13_rowsOf Q) 0 0 h 13 [none, some (.ref a1), some (.int x2), some (.long 1), none, some (.int 0), none, none] []) ∧ (¬ x2 ≤ 10 → Q (some (.int (-1))) h)) : z_Ct l G m_X13_rowsOf [.ref a0, .ref a1, .int x2] h Q := by
  refine z_Ct.of (ls := [some (.ref a0), some (.ref a1), some (.int x2), none, none, none, none, none]) hst rfl (by show plainName yX13_rowsOf.cls = true; decide +kernel) (z_le rfl) rfl ?_
  show z_V l G m_X13_rowsOf (z_Fm G m_X13_rowsOf Q) 0 0 h 0 [some (.ref a0), some (.ref a1), some (.int x2), none, none, none, none, none] []
  refine z_iload_n (q := 1) (i := 2) (x := x2) dX13_rowsOf_0 rfl rfl rfl ?_
  refine z_bipush (q := 3) (v := 10) dX13_rowsOf_1 (by decide) rfl ?_
  refine z_icmp_le (q := 6) (tgt := 8) dX13_rowsOf_3 rfl rfl (fun hc => ?_) (fun hc => ?_)
  · have hf := hf.1 hc
    refine z_lconst (q := 9) (v := 1) dX13_rowsOf_8 (by decide) rfl ?_
    refine z_lstore_n (q := 10) (i := 3) (ls2 := [some (.ref a0), some (.ref a1), some (.int x2), some (.long 1), none, none, none, none]) (x := 1) dX13_rowsOf_9 rfl (z_lt rfl) rfl rfl ?_
    refine z_iconst (q := 11) (v := 0) dX13_rowsOf_10 rfl rfl ?_
    refine z_istore (q := 13) (i := 5) (ls2 := [some (.ref a0), some (.ref a1), some (.int x2), some (.long 1), none, some (.int 0), none, none]) (x := 0) dX13_rowsOf_11 (z_lt rfl) rfl rfl ?_
    refine z_prune [false, true, true, true, false, true, false, false] (ls2 := [none, some (.ref a1), some (.int x2), some (.long 1), none, some (.int 0), none, none]) rfl ?_
    exact hf
  · have hf := hf.2 hc
    refine z_iconst (q := 7) (v := (-1)) dX13_rowsOf_6 rfl rfl ?_
    exact z_iret dX13_rowsOf_7 rfl hf

theorem b_X13_rowsOf_13 {l : Launch} {G : z_G} {a1 : Nat} {x2 : Int32} {y3 : Int64} {x5 : Int32} {h : z_H} {Q : z_Q}  (hf : (x2 ≤ x5 → Q (some (.int (if (lg_cmp y3 20000) ≤ 0 then (Int64.toInt32 y3) else (-1)))) h) ∧ (¬ x2 ≤ x5 → z_V l G m_X13_rowsOf (z_Fm G m_X13_rowsOf Q) 0 0 h 25 [none, some (.ref a1), some (.int x2), some (.long y3), none, some (.int x5), some (.int 0), some (.int 0)] [])) : z_V l G m_X13_rowsOf (z_Fm G m_X13_rowsOf Q) 0 0 h 13 [none, some (.ref a1), some (.int x2), some (.long y3), none, some (.int x5), none, none] [] := by
  refine z_iload (q := 15) (i := 5) (x := x5) dX13_rowsOf_13 rfl rfl ?_
  refine z_iload_n (q := 16) (i := 2) (x := x2) dX13_rowsOf_15 rfl rfl rfl ?_
  refine z_icmp_ge (q := 19) (tgt := 77) dX13_rowsOf_16 rfl rfl (fun hc => ?_) (fun hc => ?_)
  · have hf := hf.1 hc
    refine z_lload_n (q := 78) (i := 3) (x := y3) dX13_rowsOf_77 rfl rfl rfl ?_
    refine z_ldc2 (q := 81) (v := 20000) dX13_rowsOf_78 q2202 rfl ?_
    refine z_lcmp (q := 82) dX13_rowsOf_81 rfl ?_
    have hk : z_V l G m_X13_rowsOf (z_Fm G m_X13_rowsOf Q) 0 0 h 91 [none, some (.ref a1), some (.int x2), some (.long y3), none, some (.int x5), none, none] [.int (if (lg_cmp y3 20000) ≤ 0 then (Int64.toInt32 y3) else (-1))] := by
      exact z_iret dX13_rowsOf_91 rfl hf
    refine z_if_le (q := 85) (tgt := 89) dX13_rowsOf_82 rfl rfl (fun hc => ?_) (fun hc => ?_)
    · have hk := (z_ite hk).1 hc
      refine z_lload_n (q := 90) (i := 3) (x := y3) dX13_rowsOf_89 rfl rfl rfl ?_
      refine z_l2i (q := 91) dX13_rowsOf_90 rfl ?_
      exact hk
    · have hk := (z_ite hk).2 hc
      refine z_iconst (q := 86) (v := (-1)) dX13_rowsOf_85 rfl rfl ?_
      refine z_goto (q := 91) dX13_rowsOf_86 rfl ?_
      exact hk
  · have hf := hf.2 hc
    refine z_iconst (q := 20) (v := 0) dX13_rowsOf_19 rfl rfl ?_
    refine z_istore (q := 22) (i := 6) (ls2 := [none, some (.ref a1), some (.int x2), some (.long y3), none, some (.int x5), some (.int 0), none]) (x := 0) dX13_rowsOf_20 (z_lt rfl) rfl rfl ?_
    refine z_iconst (q := 23) (v := 0) dX13_rowsOf_22 rfl rfl ?_
    refine z_istore (q := 25) (i := 7) (ls2 := [none, some (.ref a1), some (.int x2), some (.long y3), none, some (.int x5), some (.int 0), some (.int 0)]) (x := 0) dX13_rowsOf_23 (z_lt rfl) rfl rfl ?_
    exact hf

theorem b_X13_rowsOf_25 {l : Launch} {G : z_G} {a1 : Nat} {x2 : Int32} {y3 : Int64} {x5 : Int32} {x6 : Int32} {x7 : Int32} {h : z_H} {Q : z_Q}  (hf : (x5 < x7 → ¬ (Int32.toInt64 x6) = 0 ∧ ∀ v_2 : Int64, v_2 = ((y3 * (Int32.toInt64 (x5 + 1))) / (Int32.toInt64 x6)) → z_V l G m_X13_rowsOf (z_Fm G m_X13_rowsOf Q) 0 0 h 13 [none, some (.ref a1), some (.int x2), some (.long v_2), none, some (.int (x5 + 1)), none, none] []) ∧ (¬ x5 < x7 → ∃ n_4, h.T a1 = (1, n_4) ∧ vp_in x7 n_4 ∧ vp_in x5 n_4 ∧ ∀ v_8 : Int32, v_8 = (x6 + (if (h.I a1 (Int32.toNatClampNeg x7)) = (h.I a1 (Int32.toNatClampNeg x5)) then 1 else 0)) → z_V l G m_X13_rowsOf (z_Fm G m_X13_rowsOf Q) 0 0 h 25 [none, some (.ref a1), some (.int x2), some (.long y3), none, some (.int x5), some (.int v_8), some (.int (x7 + 1))] [])) : z_V l G m_X13_rowsOf (z_Fm G m_X13_rowsOf Q) 0 0 h 25 [none, some (.ref a1), some (.int x2), some (.long y3), none, some (.int x5), some (.int x6), some (.int x7)] [] := by
  refine z_iload (q := 27) (i := 7) (x := x7) dX13_rowsOf_25 rfl rfl ?_
  refine z_iload (q := 29) (i := 5) (x := x5) dX13_rowsOf_27 rfl rfl ?_
  refine z_icmp_gt (q := 32) (tgt := 59) dX13_rowsOf_29 rfl rfl (fun hc => ?_) (fun hc => ?_)
  · have hf := hf.1 hc
    refine z_lload_n (q := 60) (i := 3) (x := y3) dX13_rowsOf_59 rfl rfl rfl ?_
    refine z_iload (q := 62) (i := 5) (x := x5) dX13_rowsOf_60 rfl rfl ?_
    refine z_iconst (q := 63) (v := 1) dX13_rowsOf_62 rfl rfl ?_
    refine z_iadd (q := 64) dX13_rowsOf_63 rfl ?_
    refine z_i2l (q := 65) dX13_rowsOf_64 rfl ?_
    refine z_lmul (q := 66) dX13_rowsOf_65 rfl ?_
    refine z_iload (q := 68) (i := 6) (x := x6) dX13_rowsOf_66 rfl rfl ?_
    refine z_i2l (q := 69) dX13_rowsOf_68 rfl ?_
    obtain ⟨g_1, hf⟩ := hf
    refine z_ldiv (q := 70) dX13_rowsOf_69 g_1 rfl ?_
    refine z_nmL (fun v_2 hv_3 => ?_)
    have hf := hf v_2 hv_3
    refine z_lstore_n (q := 71) (i := 3) (ls2 := [none, some (.ref a1), some (.int x2), some (.long v_2), none, some (.int x5), some (.int x6), some (.int x7)]) (x := v_2) dX13_rowsOf_70 rfl (z_lt rfl) rfl rfl ?_
    refine z_iinc (q := 74) (i := 5) (x := x5) (v := (x5 + 1)) (ls2 := [none, some (.ref a1), some (.int x2), some (.long v_2), none, some (.int (x5 + 1)), some (.int x6), some (.int x7)]) dX13_rowsOf_71 rfl rfl (z_lt rfl) rfl rfl ?_
    refine z_goto (q := 13) dX13_rowsOf_74 rfl ?_
    refine z_prune [false, true, true, true, false, true, false, false] (ls2 := [none, some (.ref a1), some (.int x2), some (.long v_2), none, some (.int (x5 + 1)), none, none]) rfl ?_
    exact hf
  · have hf := hf.2 hc
    refine z_iload (q := 34) (i := 6) (x := x6) dX13_rowsOf_32 rfl rfl ?_
    refine z_aload_n (q := 35) (i := 1) (x := a1) dX13_rowsOf_34 rfl rfl rfl ?_
    refine z_iload (q := 37) (i := 7) (x := x7) dX13_rowsOf_35 rfl rfl ?_
    obtain ⟨n_4, g_5, hf⟩ := hf
    obtain ⟨g_6, hf⟩ := hf
    refine z_iald (q := 38) (n := n_4) g_5 g_6 dX13_rowsOf_37 rfl ?_
    refine z_aload_n (q := 39) (i := 1) (x := a1) dX13_rowsOf_38 rfl rfl rfl ?_
    refine z_iload (q := 41) (i := 5) (x := x5) dX13_rowsOf_39 rfl rfl ?_
    obtain ⟨g_7, hf⟩ := hf
    refine z_iald (q := 42) (n := n_4) g_5 g_7 dX13_rowsOf_41 rfl ?_
    have hk : z_V l G m_X13_rowsOf (z_Fm G m_X13_rowsOf Q) 0 0 h 50 [none, some (.ref a1), some (.int x2), some (.long y3), none, some (.int x5), some (.int x6), some (.int x7)] [.int (if (h.I a1 (Int32.toNatClampNeg x7)) = (h.I a1 (Int32.toNatClampNeg x5)) then 1 else 0), .int x6] := by
      refine z_iadd (q := 51) dX13_rowsOf_50 rfl ?_
      refine z_nmI (fun v_8 hv_9 => ?_)
      have hf := hf v_8 hv_9
      refine z_istore (q := 53) (i := 6) (ls2 := [none, some (.ref a1), some (.int x2), some (.long y3), none, some (.int x5), some (.int v_8), some (.int x7)]) (x := v_8) dX13_rowsOf_51 (z_lt rfl) rfl rfl ?_
      refine z_iinc (q := 56) (i := 7) (x := x7) (v := (x7 + 1)) (ls2 := [none, some (.ref a1), some (.int x2), some (.long y3), none, some (.int x5), some (.int v_8), some (.int (x7 + 1))]) dX13_rowsOf_53 rfl rfl (z_lt rfl) rfl rfl ?_
      refine z_goto (q := 25) dX13_rowsOf_56 rfl ?_
      exact hf
    refine z_icmp_ne (q := 45) (tgt := 49) dX13_rowsOf_42 rfl rfl (fun hc => ?_) (fun hc => ?_)
    · have hk := (z_ite hk).2 hc
      refine z_iconst (q := 50) (v := 0) dX13_rowsOf_49 rfl rfl ?_
      exact hk
    · have hk := (z_ite hk).1 hc
      refine z_iconst (q := 46) (v := 1) dX13_rowsOf_45 rfl rfl ?_
      refine z_goto (q := 50) dX13_rowsOf_46 rfl ?_
      exact hk

