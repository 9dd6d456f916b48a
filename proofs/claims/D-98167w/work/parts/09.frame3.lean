/-! F3: contracts, returns, calls -/
set_option maxRecDepth 100000
def z_Q : Type := Option Value → z_H → Prop
def z_Pc (G : z_G) (as : List Value) (h : z_H) : Array Value → State → Prop := fun a U => a = as.toArray ∧ z_R G h U.heap ∧ z_K G U
def z_Qc (G : z_G) (Q : z_Q) : Array Value → State → Outcome → State → Prop := fun _ st o t => (∃ (v : Option Value) (h1 : z_H), o = .returned v ∧ Q v h1 ∧ z_R G h1 t.heap) ∧ va_F G.fr st t
def z_QX : Type := String → Nat → z_H → Prop
def z_Xc (G : z_G) (X : z_QX) : Addr → String → State → State → Prop := fun q E st t => (∃ h1 : z_H, X E q h1 ∧ z_R G h1 t.heap) ∧ va_F G.fr st t
/-- the contract: from the abstract heap h with these arguments the method returns, and Q says what it answers and the heap then -/
def z_Ct (l : Launch) (G : z_G) (M : z_M) (as : List Value) (h : z_H) (Q : z_Q) : Prop := Met l M.y (ws_ M.y M.cc M.nL M.rt) M.rm (z_Pc G as h) (z_Qc G Q) M.mc M.ms G.fr
/-- the same of a method that may throw: X says what it throws -/
def z_Cz (l : Launch) (G : z_G) (M : z_M) (as : List Value) (h : z_H) (Q : z_Q) (X : z_QX) : Prop := vx_Met l M.y (ws_ M.y M.cc M.nL M.rt) M.rm (z_Pc G as h) (z_Qc G Q) (z_Xc G X) M.mc M.ms G.fr
def z_Fm (G : z_G) (M : z_M) (Q : z_Q) : z_F := fun s args below => MQ below (z_Qc G Q) args s M.mc M.ms G.fr
def z_Fx (G : z_G) (M : z_M) (Q : z_Q) (X : z_QX) : z_F := fun s args below => vx_MQ below (z_Qc G Q) (z_Xc G X) args s M.mc M.ms G.fr
/-- what a call asks: a number, nothing, a cell, a long .. -/
def z_Qi (K : Int32 → z_H → Prop) : z_Q := fun v h => ∃ x, v = some (.int x) ∧ K x h
def z_Ql (K : Int64 → z_H → Prop) : z_Q := fun v h => ∃ x, v = some (.long x) ∧ K x h
def z_Qv (K : z_H → Prop) : z_Q := fun v h => v = none ∧ K h
def z_Qr (K : Nat → z_H → Prop) : z_Q := fun v h => ∃ x, v = some (.ref x) ∧ K x h
def z_Qq (K : Option Nat → z_H → Prop) : z_Q := fun v h => ∃ x, v = some (va_rf x) ∧ K x h
theorem z_K.same {G : z_G} {s U : State} (hv : s.vm = U.vm) (hh : U.heap = s.heap) (h : z_K G s) : z_K G U := by
  obtain ⟨h1, h2, h3, h4, h5, h6, h7, h8, h9, h10, h11⟩ := h
  have hvm : s.vm.Alike U.vm := by rw [hv]; exact Vm.Alike.refl _
  refine ⟨h1.moved hvm, fun w hw => ?_, fun C hC => (h3 C hC).moved hvm, by rw [hh]; exact h4, by rw [hh]; exact h5.moved hvm, by rw [hh]; exact h6.moved hvm, by rw [hh]; exact h7.moved hvm, by rw [hh]; exact h8.moved hvm, fun i q e => vk_R.same hv.symm (h9 i q e), by rw [hh]; exact h10.moved hvm, h11⟩
  have hw2 := (List.mem_filter.mp hw).2
  have h0 := h2 w hw
  unfold z_nwOk at hw2
  split at hw2
  · exact h0.same rfl hv
  · exact h0.same rfl hv
  · exact h0.same rfl hv
  · exact h0.same rfl hv
  · cases hw2
theorem z_blind (G : z_G) (as : List Value) (h : z_H) : FrameBlind (z_Pc G as h) := by
  intro a U g mk hq
  obtain ⟨q0, q1, q2⟩ := hq
  exact ⟨q0, q1, z_K.same (s := U) (U := U.calling g mk a) rfl rfl q2⟩
theorem z_Ct.mono {l : Launch} {G : z_G} {M : z_M} {as : List Value} {h : z_H} {Q Q2 : z_Q} (hM : z_Ct l G M as h Q) (hQ : ∀ v h1, Q v h1 → Q2 v h1) : z_Ct l G M as h Q2 := by
  intro p e ha hc hk s m args below hf hap hP hK
  obtain ⟨n, o, g1, g2, g3, g4, g5⟩ := hM p e ha hc hk s m args below hf hap hP hK
  obtain ⟨⟨v, h1, a1, a2, a3⟩, a4⟩ := g4
  exact ⟨n, o, g1, g2, g3, ⟨⟨v, h1, a1, hQ v h1 a2, a3⟩, a4⟩, g5⟩
section
variable {l : Launch} {G : z_G} {M : z_M} {F : z_F} {rc rs pc q : Nat} {h : z_H} {ls : List (Option Value)} {st : List Value}
theorem z_start {as : List Value} {p : Program} {e : Env} {s : State} {m : MethodId} {below : List Frame} {meth : Method} {c : Code} {F : z_F} (hz : (lg_sl as).length ≤ M.nL) (hl : z_al 0 ls = lv_args 0 as)
    (k : z_V l G M F M.mc M.ms h 0 ls []) (C : z_C l G M p s m as.toArray meth c) (R : z_R G h s.heap) : W p l e M.rm s m as.toArray below meth c s.heap [] 0 0 (F s as.toArray below) (entryFrame m as.toArray M.nL) := by
  have hv := lv_entry as (n := M.nL) hz
  rw [lg_entry_eq]
  refine k p e s m as.toArray below meth c s.heap [] 0 0 _ C R va_S.rf ⟨hv.1, hv.2.1, fun i v hi => ?_⟩ (by omega) (by omega)
  have h1 : (i, v) ∈ z_al 0 ls := (z_al_in ls 0 i).mpr ⟨i, by omega, hi⟩
  rw [hl] at h1
  exact hv.2.2 (i, v) h1
theorem z_Cz.of {as : List Value} {Q : z_Q} {X : z_QX} (hst : l.stackTraces = false) (het : M.et = []) (hy : plainName M.y.cls = true) (hz : (lg_sl as).length ≤ M.nL) (hl : z_al 0 ls = lv_args 0 as) (k : z_V l G M (z_Fx G M Q X) M.mc M.ms h 0 ls []) : z_Cz l G M as h Q X := by
  refine vx_ofW (cc := M.cc) (maxL := M.nL) (ret := M.rt) hy rfl ?_
  intro p e s m args below meth c s₁ B hml ht hv
  obtain ⟨rfl, hR, hK⟩ := hv
  have hts := atoms_spec (ws := ws_ M.y M.cc M.nL M.rt) B.pre
  have hts : ∀ w ∈ lw_all, w.before _ s = true := fun w h => hts w (List.mem_cons_of_mem _ h)
  exact z_start hz hl k ⟨B.exec, B.bytes, hml, B.returns, B.notSynchronized, findClass_of_methodNamed B.named, (name_of_methodNamed B.named B.method).1, hts, by rw [het]; exact List.eq_nil_iff_forall_not_mem.mpr ht, hK, hst⟩ hR
theorem z_V.x {Q : z_Q} {X : z_QX} (k : z_V l G M (z_Fm G M Q) rc rs h pc ls st) : z_V l G M (z_Fx G M Q X) rc rs h pc ls st := by
  intro p e s m args below meth cd H locs cells slots sl C R S L hc0 hs0
  exact vx_ret (k p e s m args below meth cd H locs cells slots sl C R S L hc0 hs0)
theorem z_Ct.ofx {as : List Value} {Q : z_Q} (hM : z_Cz l G M as h Q (fun _ _ _ => False)) : z_Ct l G M as h Q := by
  intro p e ha hc hk s m args below hf hap hP hK
  obtain ⟨n, o, g1, g2, g3, g4⟩ := hM p e ha hc hk s m args below hf hap hP hK
  rcases g4 with g4 | ⟨q, -, E, ce, L, ⟨⟨h1, g5, -⟩, -⟩, -⟩
  · exact ⟨n, o, g1, g2, g3, g4⟩
  · exact g5.elim
theorem z_Ct.of {as : List Value} {Q : z_Q} (hst : l.stackTraces = false) (het : M.et = []) (hy : plainName M.y.cls = true) (hz : (lg_sl as).length ≤ M.nL) (hl : z_al 0 ls = lv_args 0 as) (k : z_V l G M (z_Fm G M Q) M.mc M.ms h 0 ls []) : z_Ct l G M as h Q :=
  z_Ct.ofx (z_Cz.of hst het hy hz hl k.x)
-- returns
theorem z_iret {v : Int32} {Q : z_Q} (hd : decode M.cc pc = .ok (.ireturn, 1)) (hr : M.rt = some .int) (hQ : Q (some (.int v)) h) : z_V l G M (z_Fm G M Q) rc rs h pc ls [.int v] := by
  intro p e s m args below meth cd H locs cells slots sl C R S L hc0 hs0
  refine W.widen (Nat.le_trans (Nat.le_add_right _ _) hc0) (Nat.le_trans (Nat.le_add_right _ _) hs0) ?_
  exact W.iret C.1 C.2.1 (C.2.2.2.1.trans hr) (fun t ht hW => ⟨⟨_, h, rfl, hQ, by rw [ht]; exact R⟩, S.F ht⟩) S.2.2 hd C.2.2.2.2.1
theorem z_zret {v : Int32} {ty : FieldType} {Q : z_Q} (hd : decode M.cc pc = .ok (.ireturn, 1)) (hr : M.rt = some ty) (hn : narrow ty (.int v) = .int v) (hQ : Q (some (.int v)) h) : z_V l G M (z_Fm G M Q) rc rs h pc ls [.int v] := by
  intro p e s m args below meth cd H locs cells slots sl C R S L hc0 hs0
  refine W.widen (Nat.le_trans (Nat.le_add_right _ _) hc0) (Nat.le_trans (Nat.le_add_right _ _) hs0) ?_
  exact W.zret C.1 C.2.1 (C.2.2.2.1.trans hr) hn (fun t ht hW => ⟨⟨_, h, rfl, hQ, by rw [ht]; exact R⟩, S.F ht⟩) S.2.2 hd C.2.2.2.2.1
theorem z_lret {v : Int64} {Q : z_Q} (hd : decode M.cc pc = .ok (.lreturn, 1)) (hr : M.rt = some .long) (hQ : Q (some (.long v)) h) : z_V l G M (z_Fm G M Q) rc rs h pc ls [.long v] := by
  intro p e s m args below meth cd H locs cells slots sl C R S L hc0 hs0
  refine W.widen (Nat.le_trans (Nat.le_add_right _ _) hc0) (Nat.le_trans (Nat.le_add_right _ _) hs0) ?_
  exact W.lret C.1 C.2.1 (C.2.2.2.1.trans hr) (fun t ht hW => ⟨⟨_, h, rfl, hQ, by rw [ht]; exact R⟩, S.F ht⟩) S.2.2 hd C.2.2.2.2.1
theorem z_vret {Q : z_Q} (hd : decode M.cc pc = .ok (.return_, 1)) (hr : M.rt = none) (hQ : Q none h) : z_V l G M (z_Fm G M Q) rc rs h pc ls [] := by
  intro p e s m args below meth cd H locs cells slots sl C R S L hc0 hs0
  refine W.widen (Nat.le_trans (Nat.le_add_right _ _) hc0) (Nat.le_trans (Nat.le_add_right _ _) hs0) ?_
  exact W.vret C.1 C.2.1 (C.2.2.2.1.trans hr) (fun t ht hW => ⟨⟨_, h, rfl, hQ, by rw [ht]; exact R⟩, S.F ht⟩) S.2.2 hd C.2.2.2.2.1
theorem z_aret {r : Option Nat} {v : Value} {rt : FieldType} {Q : z_Q} (hv : va_rf r = v) (hd : decode M.cc pc = .ok (.areturn, 1)) (hr : M.rt = some rt) (hrt : (∃ n, rt = .object n) ∨ ∃ t, rt = .array t) (hQ : Q (some v) h) : z_V l G M (z_Fm G M Q) rc rs h pc ls [v] := by
  intro p e s m args below meth cd H locs cells slots sl C R S L hc0 hs0
  refine W.widen (Nat.le_trans (Nat.le_add_right _ _) hc0) (Nat.le_trans (Nat.le_add_right _ _) hs0) ?_
  refine W.aret C.1 C.2.1 (C.2.2.2.1.trans hr) hrt ?_ (fun t ht hW => ⟨⟨_, h, rfl, hQ, by rw [ht]; exact R⟩, S.F ht⟩) S.2.2 hd C.2.2.2.2.1
  rw [← hv]
  cases r with
  | none => exact Or.inl rfl
  | some x => exact Or.inr ⟨x, rfl⟩
-- calls
theorem z_fix {p : Program} {s : State} {m : MethodId} {args : Array Value} {meth : Method} {c : Code} (C : z_C l G M p s m args meth c) : CallFix p m c M.cc M.nL s args lw_all M.y.cls :=
  ⟨C.1, C.2.1, C.2.2.1, C.2.2.2.2.2.1, C.2.2.2.2.2.2.2.1⟩
theorem z_KU {p : Program} {s U : State} {m : MethodId} {args : Array Value} {meth : Method} {c : Code} {H : Heap} {locs : List Loc} (C : z_C l G M p s m args meth c) (S : va_S G.fr s.heap H locs) (hU : U.heap = H) (hW : s.WarmedH U.vm) : z_K G U :=
  C.2.2.2.2.2.2.2.2.2.1.moved hW (by rw [hU]; exact S.1) (fun q h1 h2 => by rw [hU]; exact S.2.1 q h1 h2)
/-- a receiver's class -/
def z_rcv (G : z_G) (h : z_H) (C : String) (b : Nat) : Prop := (∃ (c : Nat) (q : vw_C), z_CL[c]? = some q ∧ q.1 = C ∧ (h.T b).1 = 10 + c) ∨ (C = "java/lang/String" ∧ ∃ i, i < 12 ∧ b = G.sk i)
theorem z_recv {p : Program} {s : State} {m : MethodId} {args : Array Value} {meth : Method} {c : Code} {H : Heap} {locs : List Loc} {b : Nat} {CN : String} (C : z_C l G M p s m args meth c) (R : z_R G h H) (S : va_S G.fr s.heap H locs) (hr : z_rcv G h CN b) : ∃ cellB : Cell, H[b]? = some cellB ∧ cellB.vm.isStatics = false ∧ s.vm.findClass CN = some cellB.cls := by
  have K := C.2.2.2.2.2.2.2.2.2.1
  rcases hr with ⟨c0, ⟨C1, T, N⟩, hc, rfl, hT⟩ | ⟨rfl, i, hi, rfl⟩
  · obtain ⟨-, cell, q1, q2, q3, -⟩ := R.obj hc hT
    exact ⟨cell, q1, by rw [q3]; rfl, by rw [q2]; exact (K.1.1 c0 _ hc).2.1⟩
  · obtain ⟨cell, h1, h2, h3, h4⟩ := (K.2.2.2.2.2.2.2.1.1 i hi).1
    exact ⟨cell, by rw [S.2.1 _ (Array.getElem?_eq_some_iff.mp h1).1 h4]; exact h1, h2, h3⟩
theorem z_after {p : Program} {e : Env} {R0 : Room} {s : State} {m : MethodId} {args a : Array Value} {below : List Frame} {meth : Method} {c : Code} {H : Heap} {locs : List Loc} {cells slots mc ms : Nat} {sl : Array Slot} {st0 : List Value} {Q : z_Q} {E : State → Prop}
    (hr : va_Run p l e R0 s m args below meth c H locs cells slots mc ms (F0 m pc sl st0) st (z_Qc G Q a) G.fr) (S : va_S G.fr s.heap H locs)
    (kk : ∀ (v : Option Value) (h1 : z_H) (H1 : Heap) (locs1 : List Loc), Q v h1 → z_R G h1 H1 → va_S G.fr s.heap H1 locs1 → W p l e R0 s m args below meth c H1 locs1 (cells + mc) (slots + ms) E (F0 m (pc + 3) sl (v.toList ++ st))) : W p l e R0 s m args below meth c H locs cells slots E (F0 m pc sl st0) := by
  intro T hT X
  obtain ⟨v, st₀, t, T', L, h0, X', hL, e1, e2, ⟨⟨w, h1, hv, hp, hb⟩, hz, hk⟩, st⟩ := hr T hT X
  cases hv
  rw [h0] at hz hk
  obtain ⟨t2, a1, b1⟩ := kk v h1 T'.heap (locs ++ L) hp (by rw [e1]; exact hb)
    ⟨Nat.le_trans S.1 (by rw [e1]; exact hz), fun q h1 h2 => by rw [e1, hk q (Nat.lt_of_lt_of_le h1 S.1) h2]; exact S.2.1 q h1 h2, fun q hq => by
      rcases List.mem_append.mp hq with h | h
      · exact S.2.2 q h
      · exact hL q h⟩ T' rfl X'
  exact ⟨t2, st t2 a1, b1⟩
abbrev z_room (M N : z_M) : Prop := N.d + 1 ≤ M.d ∧ 8 + (N.nL + 11) + N.lo ≤ M.lo
abbrev z_nm (N : z_M) (n : Nat) : Prop := N.y.cls ≠ "java/lang/invoke/MethodHandle" ∧ N.y.cls ≠ "java/lang/invoke/VarHandle" ∧ (parseMethodDescriptor N.y.desc).map (fun d => d.parameters.length) = some n
theorem z_callV {N : z_M} {as : List Value} {b i n : Nat} {host : String} (hd : decode M.cc pc = .ok (.invokevirtual i, 3)) (hq : pc + 3 = q) (h1 : Cond.methodLink M.y.cls i N.y ∈ lw_all) (h2 : Cond.instanceMethod N.y ∈ lw_all) (h3 : Cond.selects N.y.cls N.y N.y ∈ lw_all) (h4 : Cond.initialized N.y.cls ∈ lw_all) (h5 : Cond.code N.y N.cc N.nL N.rt ∈ lw_all) (hm : z_nm N n) (hn0 : as.length = n) (hb : z_rcv G h N.y.cls b) {st0 : List Value} (hs0 : st0 = as.reverse ++ .ref b :: st) (hR : z_room M N) (hW : (st.map fun v => v.category).sum ≤ 8) {rc2 rs2 : Nat} (hrc : rc = rc2 + N.mc) (hrs : rs = rs2 + N.ms) {Q : z_Q} (hC : z_Ct l G N (.ref b :: as) h Q) (kk : ∀ v h1, Q v h1 → z_V l G M F rc2 rs2 h1 q ls (v.toList ++ st)) : z_V l G M F rc rs h pc ls st0 := by
  subst hq; subst hs0
  intro p e s m args below meth cd H locs cells slots sl C R S L hc0 hs0
  have hts := C.2.2.2.2.2.2.2.1
  exact z_after (va_runV (z_fix C) hC (cwV n hts (lw_V h1 h2 h3 h4 h5) rfl rfl rfl ⟨rfl, hm.1, hm.2.1, hm.2.2⟩ hR) ⟨z_blind G _ h, z_recv C R S hb, fun U hU hW => ⟨rfl, by rw [hU]; exact R, z_KU C S hU hW⟩⟩ rfl hn0 L.1 rfl (lv_room hW) hd ⟨by show cells + N.mc ≤ M.mc; omega, by show slots + N.ms ≤ M.ms; omega⟩) S (fun v h1 H1 locs1 hQ R1 S1 => kk v h1 hQ p e s m args below meth cd H1 locs1 _ _ sl C R1 S1 L (by omega) (by omega))
theorem z_callS {N : z_M} {as : List Value} {b i n : Nat} {host : String} (hd : decode M.cc pc = .ok (.invokestatic i, 3)) (hq : pc + 3 = q) (h1 : Cond.methodLink M.y.cls i N.y ∈ lw_all) (h2 : Cond.static N.y ∈ lw_all) (h3 : Cond.initialized N.y.cls ∈ lw_all) (h4 : Cond.code N.y N.cc N.nL N.rt ∈ lw_all) (hm : z_nm N n) (hn0 : as.length = n) {st0 : List Value} (hs0 : st0 = as.reverse ++ st) (hR : z_room M N) (hW : (st.map fun v => v.category).sum ≤ 8) {rc2 rs2 : Nat} (hrc : rc = rc2 + N.mc) (hrs : rs = rs2 + N.ms) {Q : z_Q} (hC : z_Ct l G N (as) h Q) (kk : ∀ v h1, Q v h1 → z_V l G M F rc2 rs2 h1 q ls (v.toList ++ st)) : z_V l G M F rc rs h pc ls st0 := by
  subst hq; subst hs0
  intro p e s m args below meth cd H locs cells slots sl C R S L hc0 hs0
  have hts := C.2.2.2.2.2.2.2.1
  exact z_after (va_runS (z_fix C) hC (va_cwS n hts (lw_S h1 h2 h3 h4) rfl rfl rfl hm hR) ⟨z_blind G _ h, fun U hU hW => ⟨rfl, by rw [hU]; exact R, z_KU C S hU hW⟩⟩ rfl hn0 L.1 rfl (lv_room hW) hd ⟨by show cells + N.mc ≤ M.mc; omega, by show slots + N.ms ≤ M.ms; omega⟩) S (fun v h1 H1 locs1 hQ R1 S1 => kk v h1 hQ p e s m args below meth cd H1 locs1 _ _ sl C R1 S1 L (by omega) (by omega))
theorem z_callI {N : z_M} {as : List Value} {b i n : Nat} {host : String} (hd : decode M.cc pc = .ok (.invokespecial i, 3)) (hq : pc + 3 = q) (h1 : Cond.methodLink M.y.cls i N.y ∈ lw_all) (h2 : Cond.instanceMethod N.y ∈ lw_all) (h3 : Cond.initialized N.y.cls ∈ lw_all) (h4 : Cond.code N.y N.cc N.nL N.rt ∈ lw_all) (hini : N.y.name = "<init>") (hrt : N.rt = none) (hm : z_nm N n) (hn0 : as.length = n) {st0 : List Value} (hs0 : st0 = as.reverse ++ .ref b :: st) (hR : z_room M N) (hW : (st.map fun v => v.category).sum ≤ 8) {rc2 rs2 : Nat} (hrc : rc = rc2 + N.mc) (hrs : rs = rs2 + N.ms) {Q : z_Q} (hC : z_Ct l G N (.ref b :: as) h Q) (kk : ∀ v h1, Q v h1 → z_V l G M F rc2 rs2 h1 q ls (v.toList ++ st)) : z_V l G M F rc rs h pc ls st0 := by
  subst hq; subst hs0
  intro p e s m args below meth cd H locs cells slots sl C R S L hc0 hs0
  have hts := C.2.2.2.2.2.2.2.1
  unfold z_Ct at hC
  rw [hrt] at hC h4
  exact z_after (va_runI (z_fix C) hC (cwI n hts (lw_meth h4) rfl rfl rfl (hts _ h3) (hts _ h1) (hts _ h2) hini hm hR) ⟨z_blind G _ h, fun U hU hW => ⟨rfl, by rw [hU]; exact R, z_KU C S hU hW⟩⟩ rfl hn0 L.1 rfl (lv_room hW) hd ⟨by show cells + N.mc ≤ M.mc; omega, by show slots + N.ms ≤ M.ms; omega⟩) S (fun v h1 H1 locs1 hQ R1 S1 => kk v h1 hQ p e s m args below meth cd H1 locs1 _ _ sl C R1 S1 L (by omega) (by omega))
theorem z_callIN {N : z_M} {as : List Value} {b i n : Nat} {host : String} (hd : decode M.cc pc = .ok (.invokespecial i, 3)) (hq : pc + 3 = q) (h1 : Cond.methodLinkNest M.y.cls i N.y host ∈ z_nw) (h2 : Cond.instanceMethod N.y ∈ lw_all) (h3 : Cond.initialized N.y.cls ∈ lw_all) (h4 : Cond.code N.y N.cc N.nL N.rt ∈ lw_all) (hini : N.y.name = "<init>") (hrt : N.rt = none) (hm : z_nm N n) (hn0 : as.length = n) {st0 : List Value} (hs0 : st0 = as.reverse ++ .ref b :: st) (hR : z_room M N) (hW : (st.map fun v => v.category).sum ≤ 8) {rc2 rs2 : Nat} (hrc : rc = rc2 + N.mc) (hrs : rs = rs2 + N.ms) {Q : z_Q} (hC : z_Ct l G N (.ref b :: as) h Q) (kk : ∀ v h1, Q v h1 → z_V l G M F rc2 rs2 h1 q ls (v.toList ++ st)) : z_V l G M F rc rs h pc ls st0 := by
  subst hq; subst hs0
  intro p e s m args below meth cd H locs cells slots sl C R S L hc0 hs0
  have hts := C.2.2.2.2.2.2.2.1
  unfold z_Ct at hC
  rw [hrt] at hC h4
  exact z_after (va_runIN (z_fix C) hC ⟨va_cnB n hts (lw_meth h4) rfl rfl rfl (C.2.2.2.2.2.2.2.2.2.1.2.1 _ h1) (hts _ h3) hm hR, hini, hts _ h2⟩ ⟨z_blind G _ h, fun U hU hW => ⟨rfl, by rw [hU]; exact R, z_KU C S hU hW⟩⟩ rfl hn0 L.1 rfl (lv_room hW) hd ⟨by show cells + N.mc ≤ M.mc; omega, by show slots + N.ms ≤ M.ms; omega⟩) S (fun v h1 H1 locs1 hQ R1 S1 => kk v h1 hQ p e s m args below meth cd H1 locs1 _ _ sl C R1 S1 L (by omega) (by omega))
theorem z_callVN {N : z_M} {as : List Value} {b i n : Nat} {host : String} (hd : decode M.cc pc = .ok (.invokevirtual i, 3)) (hq : pc + 3 = q) (h1 : Cond.methodLinkNest M.y.cls i N.y host ∈ z_nw) (h2 : Cond.instanceMethod N.y ∈ lw_all) (h3 : Cond.selects N.y.cls N.y N.y ∈ lw_all) (h4 : Cond.initialized N.y.cls ∈ lw_all) (h5 : Cond.code N.y N.cc N.nL N.rt ∈ lw_all) (hm : z_nm N n) (hn0 : as.length = n) (hb : z_rcv G h N.y.cls b) {st0 : List Value} (hs0 : st0 = as.reverse ++ .ref b :: st) (hR : z_room M N) (hW : (st.map fun v => v.category).sum ≤ 8) {rc2 rs2 : Nat} (hrc : rc = rc2 + N.mc) (hrs : rs = rs2 + N.ms) {Q : z_Q} (hC : z_Ct l G N (.ref b :: as) h Q) (kk : ∀ v h1, Q v h1 → z_V l G M F rc2 rs2 h1 q ls (v.toList ++ st)) : z_V l G M F rc rs h pc ls st0 := by
  subst hq; subst hs0
  intro p e s m args below meth cd H locs cells slots sl C R S L hc0 hs0
  have hts := C.2.2.2.2.2.2.2.1
  exact z_after (va_runVN (z_fix C) hC (⟨va_cnB n hts (lw_meth h5) rfl rfl rfl (C.2.2.2.2.2.2.2.2.2.1.2.1 _ h1) (hts _ h4) hm hR, hts _ h2, hts _ h3⟩) ⟨z_blind G _ h, z_recv C R S hb, fun U hU hW => ⟨rfl, by rw [hU]; exact R, z_KU C S hU hW⟩⟩ rfl hn0 L.1 rfl (lv_room hW) hd ⟨by show cells + N.mc ≤ M.mc; omega, by show slots + N.ms ≤ M.ms; omega⟩) S (fun v h1 H1 locs1 hQ R1 S1 => kk v h1 hQ p e s m args below meth cd H1 locs1 _ _ sl C R1 S1 L (by omega) (by omega))
theorem z_callSN {N : z_M} {as : List Value} {b i n : Nat} {host : String} (hd : decode M.cc pc = .ok (.invokestatic i, 3)) (hq : pc + 3 = q) (h1 : Cond.methodLinkNest M.y.cls i N.y host ∈ z_nw) (h2 : Cond.static N.y ∈ lw_all) (h4 : Cond.initialized N.y.cls ∈ lw_all) (h5 : Cond.code N.y N.cc N.nL N.rt ∈ lw_all) (hm : z_nm N n) (hn0 : as.length = n) {st0 : List Value} (hs0 : st0 = as.reverse ++ st) (hR : z_room M N) (hW : (st.map fun v => v.category).sum ≤ 8) {rc2 rs2 : Nat} (hrc : rc = rc2 + N.mc) (hrs : rs = rs2 + N.ms) {Q : z_Q} (hC : z_Ct l G N (as) h Q) (kk : ∀ v h1, Q v h1 → z_V l G M F rc2 rs2 h1 q ls (v.toList ++ st)) : z_V l G M F rc rs h pc ls st0 := by
  subst hq; subst hs0
  intro p e s m args below meth cd H locs cells slots sl C R S L hc0 hs0
  have hts := C.2.2.2.2.2.2.2.1
  exact z_after (va_runSN (z_fix C) hC (⟨va_cnB n hts (lw_meth h5) rfl rfl rfl (C.2.2.2.2.2.2.2.2.2.1.2.1 _ h1) (hts _ h4) hm hR, hts _ h2, trivial⟩) ⟨z_blind G _ h, fun U hU hW => ⟨rfl, by rw [hU]; exact R, z_KU C S hU hW⟩⟩ rfl hn0 L.1 rfl (lv_room hW) hd ⟨by show cells + N.mc ≤ M.mc; omega, by show slots + N.ms ≤ M.ms; omega⟩) S (fun v h1 H1 locs1 hQ R1 S1 => kk v h1 hQ p e s m args below meth cd H1 locs1 _ _ sl C R1 S1 L (by omega) (by omega))
theorem z_callU {N : z_M} {x : MethodName} {as : List Value} {b i n : Nat} (hd : decode M.cc pc = .ok (.invokevirtual i, 3)) (hq : pc + 3 = q) (h1 : Cond.methodLink M.y.cls i x ∈ lw_all) (h2 : Cond.sameMethod x.cls x.cls x.name x.desc ∈ lw_all) (h3 : Cond.selects N.y.cls x N.y ∈ lw_all) (h4 : Cond.instanceMethod N.y ∈ lw_all) (h5 : Cond.initialized N.y.cls ∈ lw_all) (h6 : Cond.code N.y N.cc N.nL N.rt ∈ lw_all) (h7 : Cond.declares x ∈ z_nw) (hm : x.cls ≠ "java/lang/invoke/MethodHandle" ∧ x.cls ≠ "java/lang/invoke/VarHandle" ∧ (parseMethodDescriptor x.desc).map (fun d => d.parameters.length) = some n) (hn0 : as.length = n) (hb : z_rcv G h N.y.cls b) {st0 : List Value} (hs0 : st0 = as.reverse ++ .ref b :: st) (hR : z_room M N) (hW : (st.map fun v => v.category).sum ≤ 8) {rc2 rs2 : Nat} (hrc : rc = rc2 + N.mc) (hrs : rs = rs2 + N.ms) {Q : z_Q} (hC : z_Ct l G N (.ref b :: as) h Q) (kk : ∀ v h1, Q v h1 → z_V l G M F rc2 rs2 h1 q ls (v.toList ++ st)) : z_V l G M F rc rs h pc ls st0 := by
  subst hq; subst hs0
  intro p e s m args below meth cd H locs cells slots sl C R S L hc0 hs0
  have hts := C.2.2.2.2.2.2.2.1
  have hG : GoodIn lw_all (va_wsU M.y.cls i N.y.cls x.cls x N.y (ws_ N.y N.cc N.nL N.rt)) := by
    refine lw_app ?_ (lw_meth h6)
    intro w hw
    simp only [List.mem_cons, List.not_mem_nil, or_false] at hw
    rcases hw with e | e | e | e | e
    · rw [e]; exact h1
    · rw [e]; exact h2
    · rw [e]; exact h3
    · rw [e]; exact h4
    · rw [e]; exact h5
  exact z_after (va_runU (z_fix C) hC (va_cwA n hts hG rfl rfl rfl (C.2.2.2.2.2.2.2.2.2.1.2.1 _ h7) hm hR) ⟨z_blind G _ h, z_recv C R S hb, fun U hU hW => ⟨rfl, by rw [hU]; exact R, z_KU C S hU hW⟩⟩ rfl hn0 L.1 rfl (lv_room hW) hd ⟨by show cells + N.mc ≤ M.mc; omega, by show slots + N.ms ≤ M.ms; omega⟩) S (fun v h1 H1 locs1 hQ R1 S1 => kk v h1 hQ p e s m args below meth cd H1 locs1 _ _ sl C R1 S1 L (by omega) (by omega))
def z_CtW (l : Launch) (G : z_G) (M : z_M) (hh : List (Nat × Nat × Nat × Nat)) (as : List Value) (h : z_H) (Q : z_Q) : Prop := Met l M.y (wsW_ M.y M.cc M.nL M.rt hh) M.rm (z_Pc G as h) (z_Qc G Q) M.mc M.ms G.fr
theorem z_CtW.of {hh : List (Nat × Nat × Nat × Nat)} {as : List Value} {Q : z_Q} (hst : l.stackTraces = false) (het : M.et = tableOf hh) (hy : plainName M.y.cls = true) (hz : (lg_sl as).length ≤ M.nL) (hl : z_al 0 ls = lv_args 0 as) (k : z_V l G M (z_Fm G M Q) M.mc M.ms h 0 ls []) : z_CtW l G M hh as h Q := by
  have hM : vx_Met l M.y (wsW_ M.y M.cc M.nL M.rt hh) M.rm (z_Pc G as h) (z_Qc G Q) (z_Xc G (fun _ _ _ => False)) M.mc M.ms G.fr := by
    refine vx_ofWH (cc := M.cc) (maxL := M.nL) (ret := M.rt) (hh := hh) hy rfl ?_
    intro p e s m args below meth c s₁ B hml hv
    obtain ⟨rfl, hR, hK⟩ := hv
    have hts := atoms_spec (ws := wsW_ M.y M.cc M.nL M.rt hh) B.pre
    have htb := vx_table B (hts _ List.mem_cons_self)
    have hts : ∀ w ∈ lw_all, w.before _ s = true := fun w h => hts w (List.mem_cons_of_mem _ h)
    exact z_start hz hl (k.x (X := fun _ _ _ => False)) ⟨B.exec, B.bytes, hml, B.returns, B.notSynchronized, findClass_of_methodNamed B.named, (name_of_methodNamed B.named B.method).1, hts, by rw [htb, het], hK, hst⟩ hR
  intro p e ha hc hk s m args below hf hap hP hK
  obtain ⟨n, o, g1, g2, g3, g4⟩ := hM p e ha hc hk s m args below hf hap hP hK
  rcases g4 with g4 | ⟨q, -, E, ce, L, ⟨⟨h1, g5, -⟩, -⟩, -⟩
  · exact ⟨n, o, g1, g2, g3, g4⟩
  · exact g5.elim
theorem z_callVW {N : z_M} {hh : List (Nat × Nat × Nat × Nat)} {as : List Value} {b i n : Nat} (hd : decode M.cc pc = .ok (.invokevirtual i, 3)) (hq : pc + 3 = q) (h1 : Cond.methodLink M.y.cls i N.y ∈ lw_all) (h2 : Cond.instanceMethod N.y ∈ lw_all) (h3 : Cond.selects N.y.cls N.y N.y ∈ lw_all) (h4 : Cond.initialized N.y.cls ∈ lw_all) (h5 : Cond.codeWith N.y N.cc N.nL N.rt hh ∈ lw_all) (hm : z_nm N n) (hn0 : as.length = n) (hb : z_rcv G h N.y.cls b) {st0 : List Value} (hs0 : st0 = as.reverse ++ .ref b :: st) (hR : z_room M N) (hW : (st.map fun v => v.category).sum ≤ 8) {rc2 rs2 : Nat} (hrc : rc = rc2 + N.mc) (hrs : rs = rs2 + N.ms) {Q : z_Q} (hC : z_CtW l G N hh (.ref b :: as) h Q) (kk : ∀ v h1, Q v h1 → z_V l G M F rc2 rs2 h1 q ls (v.toList ++ st)) : z_V l G M F rc rs h pc ls st0 := by
  subst hq; subst hs0
  intro p e s m args below meth cd H locs cells slots sl C R S L hc0 hs0
  have hts := C.2.2.2.2.2.2.2.1
  exact z_after (vx_runVW (z_fix C) hC (vx_cwVW n hts (lw_VW h1 h2 h3 h4 h5) rfl rfl rfl ⟨rfl, hm.1, hm.2.1, hm.2.2⟩ hR) ⟨z_blind G _ h, z_recv C R S hb, fun U hU hW => ⟨rfl, by rw [hU]; exact R, z_KU C S hU hW⟩⟩ rfl hn0 L.1 rfl (lv_room hW) hd ⟨by show cells + N.mc ≤ M.mc; omega, by show slots + N.ms ≤ M.ms; omega⟩) S (fun v h1 H1 locs1 hQ R1 S1 => kk v h1 hQ p e s m args below meth cd H1 locs1 _ _ sl C R1 S1 L (by omega) (by omega))
theorem z_callSW {N : z_M} {hh : List (Nat × Nat × Nat × Nat)} {as : List Value} {i n : Nat} (hd : decode M.cc pc = .ok (.invokestatic i, 3)) (hq : pc + 3 = q) (h1 : Cond.methodLink M.y.cls i N.y ∈ lw_all) (h2 : Cond.static N.y ∈ lw_all) (h3 : Cond.initialized N.y.cls ∈ lw_all) (h4 : Cond.codeWith N.y N.cc N.nL N.rt hh ∈ lw_all) (hm : z_nm N n) (hn0 : as.length = n) {st0 : List Value} (hs0 : st0 = as.reverse ++ st) (hR : z_room M N) (hW : (st.map fun v => v.category).sum ≤ 8) {rc2 rs2 : Nat} (hrc : rc = rc2 + N.mc) (hrs : rs = rs2 + N.ms) {Q : z_Q} (hC : z_CtW l G N hh (as) h Q) (kk : ∀ v h1, Q v h1 → z_V l G M F rc2 rs2 h1 q ls (v.toList ++ st)) : z_V l G M F rc rs h pc ls st0 := by
  subst hq; subst hs0
  intro p e s m args below meth cd H locs cells slots sl C R S L hc0 hs0
  have hts := C.2.2.2.2.2.2.2.1
  exact z_after (vx_runSW (z_fix C) hC (vx_cwSW n hts (lw_SW h1 h2 h3 h4) rfl rfl rfl hm hR) ⟨z_blind G _ h, fun U hU hW => ⟨rfl, by rw [hU]; exact R, z_KU C S hU hW⟩⟩ rfl hn0 L.1 rfl (lv_room hW) hd ⟨by show cells + N.mc ≤ M.mc; omega, by show slots + N.ms ≤ M.ms; omega⟩) S (fun v h1 H1 locs1 hQ R1 S1 => kk v h1 hQ p e s m args below meth cd H1 locs1 _ _ sl C R1 S1 L (by omega) (by omega))
theorem z_objInit {a i : Nat} (hd : decode M.cc pc = .ok (.invokespecial i, 3)) (hq : pc + 3 = q) (h1 : Cond.methodLink M.y.cls i Lib.objectInit ∈ lw_all) (h2 : Cond.instanceMethod Lib.objectInit ∈ lw_all) (h3 : Cond.code Lib.objectInit ⟨#[0xb1]⟩ 1 none ∈ lw_all) (hR : 1 ≤ M.d ∧ 20 ≤ M.lo) (hW : (st.map fun v => v.category).sum ≤ 8) (kk : z_V l G M F rc rs (h) q (ls) (st)) : z_V l G M F rc rs (h) pc (ls) (.ref a :: st) := by
  subst hq
  intro p e s m args below meth cd H locs cells slots sl C R S L hc0 hs0
  have hts := C.2.2.2.2.2.2.2.1
  refine W.objInit C.1 C.2.1 C.2.2.2.2.2.1 (hts _ h1) (hts _ h2) (hts _ h3) rfl (L.1.trans C.2.2.1.symm) rfl hd hR.1 ?_ (kk p e s m args below meth cd H locs cells slots sl C R S L hc0 hs0)
  have h9 : 2 * (F0 m pc sl st).monitorRoom + (st.map fun v => v.category).sum ≤ 8 := lv_room hW
  have h8 : (F0 m pc sl (.ref a :: st)).monitorRoom = (F0 m pc sl st).monitorRoom := rfl
  show 2 * (F0 m pc sl (.ref a :: st)).monitorRoom + (st.map fun v => v.category).sum + 12 ≤ M.lo
  omega
theorem z_cast {a i : Nat} {C0 nm : String} (hb : z_rcv G h C0 a) (hcl : C0 = nm ∨ Cond.castable C0 nm ∈ z_nw) (h1 : Cond.classLink M.y.cls i nm ∈ lw_all) (hd : decode M.cc pc = .ok (.checkcast i, 3)) (hq : pc + 3 = q) (kk : z_V l G M F rc rs (h) q (ls) (.ref a :: st)) : z_V l G M F rc rs (h) pc (ls) (.ref a :: st) := by
  subst hq
  intro p e s m args below meth cd H locs cells slots sl C R S L hc0 hs0
  have hts := C.2.2.2.2.2.2.2.1
  rcases hcl with rfl | hcl
  · exact va_castE C.1 C.2.1 C.2.2.2.2.2.1 (hts _ h1) (z_recv C R S hb) hd (kk p e s m args below meth cd H locs cells slots sl C R S L hc0 hs0)
  · exact va_castY C.1 C.2.1 C.2.2.2.2.2.1 (hts _ h1) (C.2.2.2.2.2.2.2.2.2.1.2.1 _ hcl) (z_recv C R S hb) hd (kk p e s m args below meth cd H locs cells slots sl C R S L hc0 hs0)
theorem z_castN {i : Nat} (hd : decode M.cc pc = .ok (.checkcast i, 3)) (hq : pc + 3 = q) (kk : z_V l G M F rc rs (h) q (ls) (.null :: st)) : z_V l G M F rc rs (h) pc (ls) (.null :: st) := by
  subst hq
  intro p e s m args below meth cd H locs cells slots sl C R S L hc0 hs0
  exact lv_castN C.1 C.2.1 hd (kk p e s m args below meth cd H locs cells slots sl C R S L hc0 hs0)
theorem z_strV {i j : Nat} (hj : j < 12) (hw : Cond.fieldLink M.y.cls i "java/lang/String" "value" "[B" ∈ lw_all) (hd : decode M.cc pc = .ok (.getfield i, 3)) (hq : pc + 3 = q) (kk : z_V l G M F rc rs (h) q (ls) (.ref (G.sv j) :: st)) : z_V l G M F rc rs (h) pc (ls) (.ref (G.sk j) :: st) := by
  subst hq
  intro p e s m args below meth cd H locs cells slots sl C R S L hc0 hs0
  exact vk_getf C.1 C.2.1 (C.2.2.2.2.2.2.2.2.2.1.2.2.2.2.2.2.2.1.1 j hj).2.2.1 S C.2.2.2.2.2.1 (C.2.2.2.2.2.2.2.1 _ hw) (fun _ h => h) hd (kk p e s m args below meth cd H locs cells slots sl C R S L hc0 hs0)
theorem z_strC {i j : Nat} (hj : j < 12) (hw : Cond.fieldLink M.y.cls i "java/lang/String" "coder" "B" ∈ lw_all) (hd : decode M.cc pc = .ok (.getfield i, 3)) (hq : pc + 3 = q) (kk : z_V l G M F rc rs (h) q (ls) (.int 0 :: st)) : z_V l G M F rc rs (h) pc (ls) (.ref (G.sk j) :: st) := by
  subst hq
  intro p e s m args below meth cd H locs cells slots sl C R S L hc0 hs0
  exact vk_getf C.1 C.2.1 (C.2.2.2.2.2.2.2.2.2.1.2.2.2.2.2.2.2.1.1 j hj).2.1 S C.2.2.2.2.2.1 (C.2.2.2.2.2.2.2.1 _ hw) (fun _ h => h) hd (kk p e s m args below meth cd H locs cells slots sl C R S L hc0 hs0)
theorem z_strB {j : Nat} {x : Int32} (hj : j < 12) (hin : vp_in x (z_len.getD j 0)) (hd : decode M.cc pc = .ok (.baload, 1)) (hq : pc + 1 = q) (kk : z_V l G M F rc rs (h) q (ls) (.int ((z_byt.getD j []).getD x.toNatClampNeg 0) :: st)) : z_V l G M F rc rs (h) pc (ls) (.int x :: .ref (G.sv j) :: st) := by
  subst hq
  intro p e s m args below meth cd H locs cells slots sl C R S L hc0 hs0
  exact va_tb C.1 C.2.1 (C.2.2.2.2.2.2.2.2.2.1.2.2.2.2.2.2.2.1.1 j hj).2.2.2 S hin rfl hd (kk p e s m args below meth cd H locs cells slots sl C R S L hc0 hs0)
theorem z_strL {j : Nat} {v : Int32} (hj : j < 12) (hv : Int32.ofNat (z_len.getD j 0) = v) (hd : decode M.cc pc = .ok (.arraylength, 1)) (hq : pc + 1 = q) (kk : z_V l G M F rc rs (h) q (ls) (.int v :: st)) : z_V l G M F rc rs (h) pc (ls) (.ref (G.sv j) :: st) := by
  subst hq
  intro p e s m args below meth cd H locs cells slots sl C R S L hc0 hs0
  exact va_tlen C.1 C.2.1 (C.2.2.2.2.2.2.2.2.2.1.2.2.2.2.2.2.2.1.1 j hj).2.2.2 S hv hd (kk p e s m args below meth cd H locs cells slots sl C R S L hc0 hs0)
theorem z_getC {i : Nat} {ref : String} (hw : Cond.fieldLink M.y.cls i "java/lang/String" "COMPACT_STRINGS" "Z" ∈ lw_all) (hd : decode M.cc pc = .ok (.getstatic i, 3)) (hq : pc + 3 = q) (kk : z_V l G M F rc rs (h) q (ls) (.int 1 :: st)) : z_V l G M F rc rs (h) pc (ls) (st) := by
  subst hq
  intro p e s m args below meth cd H locs cells slots sl C R S L hc0 hs0
  exact va_gets C.1 C.2.1 C.2.2.2.2.2.2.2.2.2.1.2.2.2.2.1 S C.2.2.2.2.2.1 (C.2.2.2.2.2.2.2.1 _ hw) (fun _ h => h) hd (kk p e s m args below meth cd H locs cells slots sl C R S L hc0 hs0)
theorem z_getU {i : Nat} (hw : Cond.fieldLink M.y.cls i "java/lang/Throwable" "UNASSIGNED_STACK" "[Ljava/lang/StackTraceElement;" ∈ lw_all) (hd : decode M.cc pc = .ok (.getstatic i, 3)) (hq : pc + 3 = q) (kk : ∀ r : Option Nat, z_V l G M F rc rs (h) q (ls) (va_rf r :: st)) : z_V l G M F rc rs (h) pc (ls) (st) := by
  subst hq
  intro p e s m args below meth cd H locs cells slots sl C R S L hc0 hs0
  rcases C.2.2.2.2.2.2.2.2.2.1.2.2.2.2.2.1.1 with hz | ⟨t, hz⟩
  · exact va_gets C.1 C.2.1 hz S C.2.2.2.2.2.1 (C.2.2.2.2.2.2.2.1 _ hw) (fun _ h => h) hd (kk none p e s m args below meth cd H locs cells slots sl C R S L hc0 hs0)
  · exact va_gets C.1 C.2.1 hz S C.2.2.2.2.2.1 (C.2.2.2.2.2.2.2.1 _ hw) (fun _ h => h) hd (kk (some t) p e s m args below meth cd H locs cells slots sl C R S L hc0 hs0)
theorem z_getS {i : Nat} (hw : Cond.fieldLink M.y.cls i "java/lang/Throwable" "SUPPRESSED_SENTINEL" "Ljava/util/List;" ∈ lw_all) (hd : decode M.cc pc = .ok (.getstatic i, 3)) (hq : pc + 3 = q) (kk : ∀ r : Option Nat, z_V l G M F rc rs (h) q (ls) (va_rf r :: st)) : z_V l G M F rc rs (h) pc (ls) (st) := by
  subst hq
  intro p e s m args below meth cd H locs cells slots sl C R S L hc0 hs0
  rcases C.2.2.2.2.2.2.2.2.2.1.2.2.2.2.2.2.1.1 with hz | ⟨t, hz⟩
  · exact va_gets C.1 C.2.1 hz S C.2.2.2.2.2.1 (C.2.2.2.2.2.2.2.1 _ hw) (fun _ h => h) hd (kk none p e s m args below meth cd H locs cells slots sl C R S L hc0 hs0)
  · exact va_gets C.1 C.2.1 hz S C.2.2.2.2.2.1 (C.2.2.2.2.2.2.2.1 _ hw) (fun _ h => h) hd (kk (some t) p e s m args below meth cd H locs cells slots sl C R S L hc0 hs0)
/-- thrown: the object q of class E, at the call or the athrow at pc -/
def z_Vx (l : Launch) (G : z_G) (M : z_M) (F : z_F) (rc rs : Nat) (h : z_H) (pc : Nat) (ls : List (Option Value)) (st : List Value) (E : String) (x : Nat) : Prop :=
  ∀ (p : Program) (e : Env) (s : State) (m : MethodId) (args : Array Value) (below : List Frame) (meth : Method) (c : Code) (H : Heap) (locs : List Loc) (cells slots : Nat) (sl : Array Slot),
    z_C l G M p s m args meth c → z_R G h H → va_S G.fr s.heap H locs → z_ls sl M.nL ls → cells + rc ≤ M.mc → slots + rs ≤ M.ms → (∃ ce : Cell, H[x]? = some ce ∧ ce.vm = .none ∧ s.vm.findClass E = some ce.cls) → vx_W p l e M.rm s m args below meth c H locs cells slots (F s args below) (F0 m pc sl st) x
theorem z_out {Q : z_Q} {X : z_QX} {E : String} {x : Nat} (het : M.et = []) (hX : X E x h) : z_Vx l G M (z_Fx G M Q X) rc rs h pc ls st E x := by
  intro p e s m args below meth cd H locs cells slots sl C R S L hc0 hs0 hce
  obtain ⟨ce, c1, c2, c3⟩ := hce
  refine vx_out (fun z hz => ?_) C.2.2.2.2.1 c1 c2 c3 (fun t ht hW => ⟨⟨h, hX, by rw [ht]; exact R⟩, S.F ht⟩) S.2.2 (by omega) (by omega)
  rw [C.2.2.2.2.2.2.2.2.1, het] at hz
  cases hz
theorem z_athrow {c N : Nat} {C0 : String} {T : u_T} {x : Nat} (hc : z_CL[c]? = some (C0, T, N)) (hT : (h.T x).1 = 10 + c) (hd : decode M.cc pc = .ok (.athrow, 1)) (kk : z_Vx l G M F rc rs h pc ls st C0 x) : z_V l G M F rc rs h pc ls (.ref x :: st) := by
  intro p e s m args below meth cd H locs cells slots sl C R S L hc0 hs0
  refine vx_athrow C.1 C.2.1 hd (kk p e s m args below meth cd H locs cells slots sl C R S L hc0 hs0 ?_)
  obtain ⟨-, cell, q1, q2, q3, -⟩ := R.obj hc hT
  exact ⟨cell, q1, q3, by rw [q2]; exact (C.2.2.2.2.2.2.2.2.2.1.1.1 c _ hc).2.1⟩
theorem z_afterx {p : Program} {e : Env} {R0 : Room} {s : State} {m : MethodId} {args a : Array Value} {below : List Frame} {meth : Method} {c : Code} {H : Heap} {locs : List Loc} {cells slots mc ms : Nat} {sl : Array Slot} {st0 : List Value} {Q : z_Q} {X : z_QX} {E : State → Prop}
    (hr : vx_Run p l e R0 s m args below meth c H locs cells slots mc ms (F0 m pc sl st0) st (z_Qc G Q a) (z_Xc G X) G.fr) (S : va_S G.fr s.heap H locs)
    (kk : ∀ (v : Option Value) (h1 : z_H) (H1 : Heap) (locs1 : List Loc), Q v h1 → z_R G h1 H1 → va_S G.fr s.heap H1 locs1 → W p l e R0 s m args below meth c H1 locs1 (cells + mc) (slots + ms) E (F0 m (pc + 3) sl (v.toList ++ st)))
    (kx : ∀ (C0 : String) (x : Nat) (h1 : z_H) (H1 : Heap) (locs1 : List Loc), X C0 x h1 → z_R G h1 H1 → va_S G.fr s.heap H1 locs1 → (∃ ce : Cell, H1[x]? = some ce ∧ ce.vm = .none ∧ s.vm.findClass C0 = some ce.cls) → vx_W p l e R0 s m args below meth c H1 locs1 (cells + mc) (slots + ms) E (F0 m pc sl st) x) : W p l e R0 s m args below meth c H locs cells slots E (F0 m pc sl st0) := by
  intro T hT Y
  rcases hr T hT Y with ⟨v, st₀, t, T', L, h0, X', hL, e1, e2, ⟨⟨w, h1, hv, hp, hb⟩, hz, hk⟩, st⟩ | ⟨x, st₀, t, T', L, C0, ce, h0, X', hL, e1, e2, ⟨⟨h1, hp, hb⟩, hz, hk⟩, c1, c2, c3, st⟩
  · cases hv
    rw [h0] at hz hk
    obtain ⟨t2, a1, b1⟩ := kk v h1 T'.heap (locs ++ L) hp (by rw [e1]; exact hb)
      ⟨Nat.le_trans S.1 (by rw [e1]; exact hz), fun q h1 h2 => by rw [e1, hk q (Nat.lt_of_lt_of_le h1 S.1) h2]; exact S.2.1 q h1 h2, fun q hq => by
        rcases List.mem_append.mp hq with h | h
        · exact S.2.2 q h
        · exact hL q h⟩ T' rfl X'
    exact ⟨t2, st t2 a1, b1⟩
  · rw [h0] at hz hk
    obtain ⟨t2, a1, b1⟩ := kx C0 x h1 T'.heap (locs ++ L) hp (by rw [e1]; exact hb)
      ⟨Nat.le_trans S.1 (by rw [e1]; exact hz), fun q h1 h2 => by rw [e1, hk q (Nat.lt_of_lt_of_le h1 S.1) h2]; exact S.2.1 q h1 h2, fun q hq => by
        rcases List.mem_append.mp hq with h | h
        · exact S.2.2 q h
        · exact hL q h⟩ ⟨ce, by rw [e1]; exact c1, c2, c3⟩ T' rfl X'
    exact ⟨t2, st.trans a1, b1⟩
theorem z_callVx {N : z_M} {as : List Value} {b i n : Nat} (hd : decode M.cc pc = .ok (.invokevirtual i, 3)) (hq : pc + 3 = q) (h1 : Cond.methodLink M.y.cls i N.y ∈ lw_all) (h2 : Cond.instanceMethod N.y ∈ lw_all) (h3 : Cond.selects N.y.cls N.y N.y ∈ lw_all) (h4 : Cond.initialized N.y.cls ∈ lw_all) (h5 : Cond.code N.y N.cc N.nL N.rt ∈ lw_all) (hm : z_nm N n) (hn0 : as.length = n) (hb : z_rcv G h N.y.cls b) {st0 : List Value} (hs0 : st0 = as.reverse ++ .ref b :: st) (hR : z_room M N) (hW : (st.map fun v => v.category).sum ≤ 8) {rc2 rs2 : Nat} (hrc : rc = rc2 + N.mc) (hrs : rs = rs2 + N.ms) {Q : z_Q} {X : z_QX} (hC : z_Cz l G N (.ref b :: as) h Q X) (kx : ∀ C0 x h1, X C0 x h1 → z_Vx l G M F rc2 rs2 h1 pc ls st C0 x) (kk : ∀ v h1, Q v h1 → z_V l G M F rc2 rs2 h1 q ls (v.toList ++ st)) : z_V l G M F rc rs h pc ls st0 := by
  subst hq; subst hs0
  intro p e s m args below meth cd H locs cells slots sl C R S L hc0 hs0
  have hts := C.2.2.2.2.2.2.2.1
  exact z_afterx (vx_runV (z_fix C) hC (cwV n hts (lw_V h1 h2 h3 h4 h5) rfl rfl rfl ⟨rfl, hm.1, hm.2.1, hm.2.2⟩ hR) ⟨z_blind G _ h, z_recv C R S hb, fun U hU hW => ⟨rfl, by rw [hU]; exact R, z_KU C S hU hW⟩⟩ rfl hn0 L.1 rfl (lv_room hW) hd ⟨by show cells + N.mc ≤ M.mc; omega, by show slots + N.ms ≤ M.ms; omega⟩) S (fun v h1 H1 locs1 hQ R1 S1 => kk v h1 hQ p e s m args below meth cd H1 locs1 _ _ sl C R1 S1 L (by omega) (by omega)) (fun C0 x h1 H1 locs1 hQ R1 S1 hce => kx C0 x h1 hQ p e s m args below meth cd H1 locs1 _ _ sl C R1 S1 L (by omega) (by omega) hce)
theorem z_callSx {N : z_M} {as : List Value} {i n : Nat} (hd : decode M.cc pc = .ok (.invokestatic i, 3)) (hq : pc + 3 = q) (h1 : Cond.methodLink M.y.cls i N.y ∈ lw_all) (h2 : Cond.static N.y ∈ lw_all) (h3 : Cond.initialized N.y.cls ∈ lw_all) (h4 : Cond.code N.y N.cc N.nL N.rt ∈ lw_all) (hm : z_nm N n) (hn0 : as.length = n) {st0 : List Value} (hs0 : st0 = as.reverse ++ st) (hR : z_room M N) (hW : (st.map fun v => v.category).sum ≤ 8) {rc2 rs2 : Nat} (hrc : rc = rc2 + N.mc) (hrs : rs = rs2 + N.ms) {Q : z_Q} {X : z_QX} (hC : z_Cz l G N (as) h Q X) (kx : ∀ C0 x h1, X C0 x h1 → z_Vx l G M F rc2 rs2 h1 pc ls st C0 x) (kk : ∀ v h1, Q v h1 → z_V l G M F rc2 rs2 h1 q ls (v.toList ++ st)) : z_V l G M F rc rs h pc ls st0 := by
  subst hq; subst hs0
  intro p e s m args below meth cd H locs cells slots sl C R S L hc0 hs0
  have hts := C.2.2.2.2.2.2.2.1
  exact z_afterx (vx_runS (z_fix C) hC (va_cwS n hts (lw_S h1 h2 h3 h4) rfl rfl rfl hm hR) ⟨z_blind G _ h, fun U hU hW => ⟨rfl, by rw [hU]; exact R, z_KU C S hU hW⟩⟩ rfl hn0 L.1 rfl (lv_room hW) hd ⟨by show cells + N.mc ≤ M.mc; omega, by show slots + N.ms ≤ M.ms; omega⟩) S (fun v h1 H1 locs1 hQ R1 S1 => kk v h1 hQ p e s m args below meth cd H1 locs1 _ _ sl C R1 S1 L (by omega) (by omega)) (fun C0 x h1 H1 locs1 hQ R1 S1 hce => kx C0 x h1 hQ p e s m args below meth cd H1 locs1 _ _ sl C R1 S1 L (by omega) (by omega) hce)
theorem z_catch {E name : String} {x hp ct a b : Nat} (het : M.et = tableOf [(a, b, hp, ct)]) (h1 : a ≤ pc) (h2 : pc < b) (h0 : ct ≠ 0) (hl : Cond.classLink M.y.cls ct name ∈ lw_all) (hcl : E = name ∨ Cond.castable E name ∈ z_nw) (hi : Cond.castable E name ∈ z_nw) (kk : z_V l G M F rc rs h hp ls [.ref x]) : z_Vx l G M F rc rs h pc ls st E x := by
  intro p e s m args below meth cd H locs cells slots sl C R S L hc0 hs0 hce
  obtain ⟨ce, c1, c2, c3⟩ := hce
  have hts := C.2.2.2.2.2.2.2.1
  have htb : cd.exceptionTable.toList = tableOf [(a, b, hp, ct)] := C.2.2.2.2.2.2.2.2.1.trans het
  exact vx_catch C.2.2.2.2.2.1 [] _ [] htb (fun z hz => by cases hz) (by simp [covers, h1, h2]) h0 (hts _ hl) ((C.2.2.2.2.2.2.2.2.2.1.2.1 _ hi).use rfl) c1 c2 c3 (kk p e s m args below meth cd H locs cells slots sl C R S L hc0 hs0)
end
