/-! calls whose named method is abstract -/
set_option maxRecDepth 100000
def z_ilays (l : Launch) (G : z_G) (as : List Value) (h : z_H) (Q : z_Q) : Prop := ∃ (c : Nat) (N : z_M), ((c = 2 ∧ N = m_X4_lays) ∨ (c = 3 ∧ N = m_X5_lays) ∨ (c = 4 ∧ N = m_X6_lays) ∨ (c = 5 ∧ N = m_X7_lays) ∨ (c = 6 ∧ N = m_X8_lays)) ∧ (∃ (b : Nat) (rest : List Value), as = .ref b :: rest ∧ (h.T b).1 = 10 + c) ∧ z_Ct l G N as h Q
theorem z_ilays_call {l : Launch} {G : z_G} {M : z_M} {F : z_F} {rc rs pc q : Nat} {h : z_H} {ls : List (Option Value)} {st : List Value} {as : List Value} {b i : Nat} {st0 : List Value} {K : z_H → Prop} (hd : decode M.cc pc = .ok (.invokevirtual i, 3)) (hq : pc + 3 = q) (h1 : Cond.methodLink M.y.cls i ⟨"BeggarHeaps$Order", "lays", "([II[I[I)V"⟩ ∈ lw_all) (hC : z_ilays l G (.ref b :: as) h (z_Qv K)) (hlen : as.length = 4) (hs : st0 = as.reverse ++ .ref b :: st) (hr : 2 ≤ M.d) (hlo : 100 ≤ M.lo) (hW : (st.map fun v => v.category).sum ≤ 8) (kk : ∀ h1, K h1 → z_V l G M F rc rs h1 q ls st) : z_V l G M F rc rs h pc ls st0 := by
  obtain ⟨c, N, hN, ⟨b2, rest, e, hT⟩, hC⟩ := hC
  have hb : b2 = b := by injection e with e1 e2; injection e1 with e3; exact e3.symm
  have he : rest = as := by injection e with e1 e2; exact e2.symm
  subst hb; subst he
  have h0 : rest.length = rest.length := rfl
  rcases hN with ⟨rfl, rfl⟩ | ⟨rfl, rfl⟩ | ⟨rfl, rfl⟩ | ⟨rfl, rfl⟩ | ⟨rfl, rfl⟩
  · refine z_callU (N := (m_X4_lays)) (n := rest.length) (x := ⟨"BeggarHeaps$Order", "lays", "([II[I[I)V"⟩) hd hq h1 q1374 q1387 q1388 q125 q1389 (z_nwm q1373 rfl) ⟨by decide +kernel, by decide +kernel, ?_⟩ rfl (z_rcv_of 2 rfl hT rfl) hs ⟨by show 1 + 1 ≤ M.d; omega, by show 8 + (6 + 11) + 64 * (1) ≤ M.lo; omega⟩ hW (rc2 := rc) (rs2 := rs) rfl rfl hC ?_
    · exact by rw [hlen]; decide +kernel
    · intro v h1 hQ
      obtain ⟨rfl, hQ⟩ := hQ
      exact kk h1 hQ
  · refine z_callU (N := (m_X5_lays)) (n := rest.length) (x := ⟨"BeggarHeaps$Order", "lays", "([II[I[I)V"⟩) hd hq h1 q1374 q1375 q1376 q126 q1377 (z_nwm q1373 rfl) ⟨by decide +kernel, by decide +kernel, ?_⟩ rfl (z_rcv_of 3 rfl hT rfl) hs ⟨by show 1 + 1 ≤ M.d; omega, by show 8 + (6 + 11) + 64 * (1) ≤ M.lo; omega⟩ hW (rc2 := rc) (rs2 := rs) rfl rfl hC ?_
    · exact by rw [hlen]; decide +kernel
    · intro v h1 hQ
      obtain ⟨rfl, hQ⟩ := hQ
      exact kk h1 hQ
  · refine z_callU (N := (m_X6_lays)) (n := rest.length) (x := ⟨"BeggarHeaps$Order", "lays", "([II[I[I)V"⟩) hd hq h1 q1374 q1381 q1382 q127 q1383 (z_nwm q1373 rfl) ⟨by decide +kernel, by decide +kernel, ?_⟩ rfl (z_rcv_of 4 rfl hT rfl) hs ⟨by show 1 + 1 ≤ M.d; omega, by show 8 + (8 + 11) + 64 * (1) ≤ M.lo; omega⟩ hW (rc2 := rc) (rs2 := rs) rfl rfl hC ?_
    · exact by rw [hlen]; decide +kernel
    · intro v h1 hQ
      obtain ⟨rfl, hQ⟩ := hQ
      exact kk h1 hQ
  · refine z_callU (N := (m_X7_lays)) (n := rest.length) (x := ⟨"BeggarHeaps$Order", "lays", "([II[I[I)V"⟩) hd hq h1 q1374 q1384 q1385 q128 q1386 (z_nwm q1373 rfl) ⟨by decide +kernel, by decide +kernel, ?_⟩ rfl (z_rcv_of 5 rfl hT rfl) hs ⟨by show 1 + 1 ≤ M.d; omega, by show 8 + (7 + 11) + 64 * (1) ≤ M.lo; omega⟩ hW (rc2 := rc) (rs2 := rs) rfl rfl hC ?_
    · exact by rw [hlen]; decide +kernel
    · intro v h1 hQ
      obtain ⟨rfl, hQ⟩ := hQ
      exact kk h1 hQ
  · refine z_callU (N := (m_X8_lays)) (n := rest.length) (x := ⟨"BeggarHeaps$Order", "lays", "([II[I[I)V"⟩) hd hq h1 q1374 q1378 q1379 q129 q1380 (z_nwm q1373 rfl) ⟨by decide +kernel, by decide +kernel, ?_⟩ rfl (z_rcv_of 6 rfl hT rfl) hs ⟨by show 1 + 1 ≤ M.d; omega, by show 8 + (7 + 11) + 64 * (1) ≤ M.lo; omega⟩ hW (rc2 := rc) (rs2 := rs) rfl rfl hC ?_
    · exact by rw [hlen]; decide +kernel
    · intro v h1 hQ
      obtain ⟨rfl, hQ⟩ := hQ
      exact kk h1 hQ
def z_iworked (l : Launch) (G : z_G) (d : Nat) (as : List Value) (h : z_H) (Q : z_Q) : Prop := ∃ (c : Nat) (N : z_M), ((c = 13 ∧ N = m_X16_worked) ∨ (c = 14 ∧ N = m_X17_worked) ∨ (c = 15 ∧ N = m_X18_worked d) ∨ (c = 16 ∧ N = m_X19_worked d)) ∧ (∃ (b : Nat) (rest : List Value), as = .ref b :: rest ∧ (h.T b).1 = 10 + c) ∧ z_Ct l G N as h Q
theorem z_iworked_call {l : Launch} {G : z_G} {M : z_M} {F : z_F} {rc rs pc q : Nat} {h : z_H} {ls : List (Option Value)} {st : List Value} {d : Nat} {as : List Value} {b i : Nat} {st0 : List Value} {K : Int32 → z_H → Prop} (hd : decode M.cc pc = .ok (.invokevirtual i, 3)) (hq : pc + 3 = q) (h1 : Cond.methodLink M.y.cls i ⟨"BeggarHeaps$Expression", "worked", "([I)I"⟩ ∈ lw_all) (hC : z_iworked l G d (.ref b :: as) h (z_Qi K)) (hlen : as.length = 1) (hs : st0 = as.reverse ++ .ref b :: st) (hr : 3 + d ≤ M.d) (hlo : 64 * (3 + d) ≤ M.lo) (hW : (st.map fun v => v.category).sum ≤ 8) (kk : ∀ x h1, K x h1 → z_V l G M F rc rs h1 q ls (.int x :: st)) : z_V l G M F rc rs h pc ls st0 := by
  obtain ⟨c, N, hN, ⟨b2, rest, e, hT⟩, hC⟩ := hC
  have hb : b2 = b := by injection e with e1 e2; injection e1 with e3; exact e3.symm
  have he : rest = as := by injection e with e1 e2; exact e2.symm
  subst hb; subst he
  have h0 : rest.length = rest.length := rfl
  rcases hN with ⟨rfl, rfl⟩ | ⟨rfl, rfl⟩ | ⟨rfl, rfl⟩ | ⟨rfl, rfl⟩
  · refine z_callU (N := (m_X16_worked)) (n := rest.length) (x := ⟨"BeggarHeaps$Expression", "worked", "([I)I"⟩) hd hq h1 q1533 q1537 q1538 q149 q1539 (z_nwm q1532 rfl) ⟨by decide +kernel, by decide +kernel, ?_⟩ rfl (z_rcv_of 13 rfl hT rfl) hs ⟨by show 1 + 1 ≤ M.d; omega, by show 8 + (2 + 11) + 64 * (1) ≤ M.lo; omega⟩ hW (rc2 := rc) (rs2 := rs) rfl rfl hC ?_
    · exact by rw [hlen]; decide +kernel
    · intro v h1 hQ
      obtain ⟨x, rfl, hQ⟩ := hQ
      exact kk x h1 hQ
  · refine z_callU (N := (m_X17_worked)) (n := rest.length) (x := ⟨"BeggarHeaps$Expression", "worked", "([I)I"⟩) hd hq h1 q1533 q1534 q1535 q150 q1536 (z_nwm q1532 rfl) ⟨by decide +kernel, by decide +kernel, ?_⟩ rfl (z_rcv_of 14 rfl hT rfl) hs ⟨by show 1 + 1 ≤ M.d; omega, by show 8 + (2 + 11) + 64 * (1) ≤ M.lo; omega⟩ hW (rc2 := rc) (rs2 := rs) rfl rfl hC ?_
    · exact by rw [hlen]; decide +kernel
    · intro v h1 hQ
      obtain ⟨x, rfl, hQ⟩ := hQ
      exact kk x h1 hQ
  · refine z_callU (N := (m_X18_worked d)) (n := rest.length) (x := ⟨"BeggarHeaps$Expression", "worked", "([I)I"⟩) hd hq h1 q1533 q1540 q1541 q151 q1542 (z_nwm q1532 rfl) ⟨by decide +kernel, by decide +kernel, ?_⟩ rfl (z_rcv_of 15 rfl hT rfl) hs ⟨by show 2 + 1 * d + 1 ≤ M.d; omega, by show 8 + (2 + 11) + 64 * (2 + 1 * d) ≤ M.lo; omega⟩ hW (rc2 := rc) (rs2 := rs) rfl rfl hC ?_
    · exact by rw [hlen]; decide +kernel
    · intro v h1 hQ
      obtain ⟨x, rfl, hQ⟩ := hQ
      exact kk x h1 hQ
  · refine z_callU (N := (m_X19_worked d)) (n := rest.length) (x := ⟨"BeggarHeaps$Expression", "worked", "([I)I"⟩) hd hq h1 q1533 q1547 q1544 q152 q1545 (z_nwm q1532 rfl) ⟨by decide +kernel, by decide +kernel, ?_⟩ rfl (z_rcv_of 16 rfl hT rfl) hs ⟨by show 2 + 1 * d + 1 ≤ M.d; omega, by show 8 + (4 + 11) + 64 * (2 + 1 * d) ≤ M.lo; omega⟩ hW (rc2 := rc) (rs2 := rs) rfl rfl hC ?_
    · exact by rw [hlen]; decide +kernel
    · intro v h1 hQ
      obtain ⟨x, rfl, hQ⟩ := hQ
      exact kk x h1 hQ
