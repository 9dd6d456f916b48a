/-! F2: fields, arrays, new cells, calls, returns, contracts -/
set_option maxRecDepth 100000
theorem z_in : ∀ (c : Nat) (q : vw_C), z_CL[c]? = some q → ∀ w ∈ u_ws q.1 q.2.1 q.2.2, w ∈ lw_all := by
  intro c q h
  match c, h with
  | 0, h => cases h; exact in_X1
  | 1, h => cases h; exact in_X2
  | 2, h => cases h; exact fun w h => by cases h
  | 3, h => cases h; exact fun w h => by cases h
  | 4, h => cases h; exact fun w h => by cases h
  | 5, h => cases h; exact fun w h => by cases h
  | 6, h => cases h; exact fun w h => by cases h
  | 7, h => cases h; exact in_X9
  | 8, h => cases h; exact in_X10
  | 9, h => cases h; exact in_X11
  | 10, h => cases h; exact in_X12
  | 11, h => cases h; exact in_X13
  | 12, h => cases h; exact in_X14
  | 13, h => cases h; exact in_X16
  | 14, h => cases h; exact in_X17
  | 15, h => cases h; exact in_X18
  | 16, h => cases h; exact in_X19
  | 17, h => cases h; exact in_X20
  | 18, h => cases h; exact in_X21
  | 19, h => cases h; exact in_X22
  | 20, h => cases h; exact in_X23
  | 21, h => cases h; exact in_J2
  | 22, h => cases h; exact in_J3
  | 23, h => cases h; exact in_J13
  | c + 24, h => cases h
theorem z_tyok : ∀ c, c < 24 → (match z_CL[c]? with | some q => decide (∀ j, j < q.2.2 → parseFieldDescriptor (q.2.1 j).2.2.1 = some (z_FT c j)) && decide (∀ a, a < q.2.2 → ∀ b, b < q.2.2 → a ≠ b → (q.2.1 a).2.1 ≠ (q.2.1 b).2.1) && decide (∀ j, j < q.2.2 → z_FT c j ≠ .float ∧ z_FT c j ≠ .double) | none => true) = true := by decide +kernel
theorem z_tyof {c : Nat} {q : vw_C} (h : z_CL[c]? = some q) : (∀ j, j < q.2.2 → parseFieldDescriptor (q.2.1 j).2.2.1 = some (z_FT c j)) ∧ (∀ a, a < q.2.2 → ∀ b, b < q.2.2 → a ≠ b → (q.2.1 a).2.1 ≠ (q.2.1 b).2.1) ∧ ∀ j, j < q.2.2 → z_FT c j ≠ .float ∧ z_FT c j ≠ .double := by
  have hc : c < 24 := (List.getElem?_eq_some_iff.mp h).1
  have h1 := z_tyok c hc
  rw [h] at h1
  simp only [Bool.and_eq_true, decide_eq_true_eq] at h1
  exact ⟨h1.1.1, h1.1.2, h1.2⟩
theorem z_dv {t : FieldType} (h : t ≠ .float ∧ t ≠ .double) : defaultValue t = z_fv t 0 0 none := by
  cases t <;> first | rfl | exact absurd rfl h.1 | exact absurd rfl h.2
section
variable {l : Launch} {G : z_G} {M : z_M} {F : z_F} {rc rs pc q : Nat} {h : z_H} {ls : List (Option Value)} {st : List Value}
theorem z_R.obj {H : Heap} {a c N : Nat} {C : String} {T : u_T} (R : z_R G h H) (hc : z_CL[c]? = some (C, T, N)) (hT : (h.T a).1 = 10 + c) : G.bs ≤ a ∧ t_OB a (G.D.1 c) N (G.D.2 c) H (fun j => z_fv (z_FT c j) (h.I a j) (h.L a j) (h.P a j)) := by
  obtain ⟨h1, -, -, -, -, h4⟩ := R.2.2 a (by omega)
  obtain ⟨x, e, h5⟩ := h4 c hT
  cases Option.some.inj (hc.symm.trans e)
  exact ⟨h1, h5⟩
/-- one cell changed -/
theorem z_R.upd {H H1 : Heap} {h1 : z_H} {a : Nat} (R : z_R G h H) (ha : (h.T a).1 ≠ 0) (hz : H1.size = H.size) (hq : ∀ x, x ≠ a → H1[x]? = H[x]?) (eT : h1.T = h.T) (en : h1.n = h.n)
    (eI : ∀ x, x ≠ a → h1.I x = h.I x ∧ h1.L x = h.L x ∧ h1.P x = h.P x) (hcell : z_cell G (h.T a) (h1.I a) (h1.L a) (h1.P a) a H1) : z_R G h1 H1 := by
  obtain ⟨R1, R2, R3⟩ := R
  refine ⟨by rw [hz, en]; exact R1, by rw [en]; exact R2, fun x hx => ?_⟩
  rw [eT] at hx ⊢
  rw [en]
  obtain ⟨g1, g2, g3⟩ := R3 x hx
  refine ⟨g1, g2, ?_⟩
  by_cases e : x = a
  · subst e
    exact hcell
  · obtain ⟨e1, e2, e3⟩ := eI x e
    rw [e1, e2, e3]
    exact g3.kept (hq x e)
/-- one cell more -/
theorem z_R.new {H H1 : Heap} {t : Nat × Nat} (R : z_R G h H) (hz : H1.size = H.size + 1) (hq : ∀ x, x < H.size → H1[x]? = H[x]?) (hcell : z_cell G t (fun _ => 0) (fun _ => 0) (fun _ => none) h.n H1) : z_R G (h.nw t) H1 := by
  obtain ⟨R1, R2, R3⟩ := R
  have hn0 : (h.nw t).n = h.n + 1 := rfl
  refine ⟨by rw [hz, R1, hn0], by rw [hn0]; omega, fun x hx => ?_⟩
  rw [hn0]
  have eT : (h.nw t).T = z_up h.T h.n t := rfl
  have eI : (h.nw t).I = z_up h.I h.n (fun _ => 0) := rfl
  have eL : (h.nw t).L = z_up h.L h.n (fun _ => 0) := rfl
  have eP : (h.nw t).P = z_up h.P h.n (fun _ => none) := rfl
  rw [eT] at hx
  rw [eT, eI, eL, eP]
  by_cases e : x = h.n
  · subst e
    simp only [z_up_s]
    exact ⟨R2, by omega, hcell⟩
  · rw [z_up_n _ _ e] at hx
    rw [z_up_n _ _ e, z_up_n _ _ e, z_up_n _ _ e, z_up_n _ _ e]
    obtain ⟨g1, g2, g3⟩ := R3 x hx
    exact ⟨g1, by omega, g3.kept (hq x (by omega))⟩

theorem z_get (c k : Nat) {i N : Nat} {C : String} {T : u_T} {a : Nat} (hc : z_CL[c]? = some (C, T, N)) (hk : k < N) (hT : (h.T a).1 = 10 + c) (hw : Cond.fieldLink M.y.cls i (T k).1 (T k).2.1 (T k).2.2.1 ∈ lw_all) (hd : decode M.cc pc = .ok (.getfield i, 3)) (hq : pc + 3 = q) {v : Value} (hv : z_fv (z_FT c k) (h.I a k) (h.L a k) (h.P a k) = v) (kk : z_V l G M F rc rs (h) q (ls) (v :: st)) : z_V l G M F rc rs (h) pc (ls) (.ref a :: st) := by
  subst hq
  intro p e s m args below meth cd H locs cells slots sl C R S L hc0 hs0
  obtain ⟨-, cell, q1, q2, q3, q4⟩ := R.obj hc hT
  have K := C.2.2.2.2.2.2.2.2.2.1
  obtain ⟨hS, hfc, kC, hkC, hkind⟩ := K.1.1 c _ hc
  obtain ⟨cf, kf, fi, f, hi, hsl⟩ := hS k hk
  refine W.getf C.1 C.2.1 C.2.2.2.2.2.1 (C.2.2.2.2.2.2.2.1 _ hw) hi (u_facts hfc hkC (u_lays C.2.2.2.2.2.2.2.1 (z_in c _ hc) hk) hi).1 q1 (by rw [q3]; exact fun h => by cases h) (v := v) ?_ rfl rfl hd (kk p e s m args below meth cd H locs cells slots sl C R S L hc0 hs0)
  rw [hsl, q4 k hk, ← hv]
theorem z_getN (c k : Nat) {i N : Nat} {C : String} {T : u_T} {a : Nat} (hc : z_CL[c]? = some (C, T, N)) (hk : k < N) (hT : (h.T a).1 = 10 + c) {host : String} (hw : Cond.fieldLinkNest M.y.cls i (T k).1 (T k).2.1 (T k).2.2.1 host ∈ z_nw) (hd : decode M.cc pc = .ok (.getfield i, 3)) (hq : pc + 3 = q) {v : Value} (hv : z_fv (z_FT c k) (h.I a k) (h.L a k) (h.P a k) = v) (kk : z_V l G M F rc rs (h) q (ls) (v :: st)) : z_V l G M F rc rs (h) pc (ls) (.ref a :: st) := by
  subst hq
  intro p e s m args below meth cd H locs cells slots sl C R S L hc0 hs0
  obtain ⟨-, cell, q1, q2, q3, q4⟩ := R.obj hc hT
  have K := C.2.2.2.2.2.2.2.2.2.1
  obtain ⟨hS, hfc, kC, hkC, hkind⟩ := K.1.1 c _ hc
  obtain ⟨cf, kf, fi, f, hi, hsl⟩ := hS k hk
  refine va_Wgetf C.1 C.2.1 C.2.2.2.2.2.1 (va_Nw.use rfl (K.2.1 _ hw)) hi (u_facts hfc hkC (u_lays C.2.2.2.2.2.2.2.1 (z_in c _ hc) hk) hi).1 q1 (by rw [q3]; exact fun h => by cases h) (v := v) ?_ rfl rfl hd (kk p e s m args below meth cd H locs cells slots sl C R S L hc0 hs0)
  rw [hsl, q4 k hk, ← hv]
theorem z_putG (c k : Nat) {i N : Nat} {C : String} {T : u_T} {a : Nat} (hc : z_CL[c]? = some (C, T, N)) (hk : k < N) (hT : (h.T a).1 = 10 + c) (hw : Cond.fieldLink M.y.cls i (T k).1 (T k).2.1 (T k).2.2.1 ∈ lw_all) (hfin : (T k).2.2.2 = false) (hd : decode M.cc pc = .ok (.putfield i, 3)) (hq : pc + 3 = q) {v : Value} (hn : narrow (z_FT c k) v = v) (hfit : fits (z_FT c k) v = true) {h1 : z_H} (eT : h1.T = h.T) (en : h1.n = h.n) (eI : ∀ x, x ≠ a → h1.I x = h.I x ∧ h1.L x = h.L x ∧ h1.P x = h.P x) (eo : ∀ j, j ≠ k → h1.I a j = h.I a j ∧ h1.L a j = h.L a j ∧ h1.P a j = h.P a j) (ev : z_fv (z_FT c k) (h1.I a k) (h1.L a k) (h1.P a k) = v) (kk : z_V l G M F rc rs (h1) q (ls) (st)) : z_V l G M F rc rs (h) pc (ls) (v :: .ref a :: st) := by
  subst hq
  intro p e s m args below meth cd H locs cells slots sl C R S L hc0 hs0
  obtain ⟨hba, cell, q1, q2, q3, q4⟩ := R.obj hc hT
  have K := C.2.2.2.2.2.2.2.2.2.1
  have hts := C.2.2.2.2.2.2.2.1
  obtain ⟨ty1, ty2, -⟩ := z_tyof hc
  have hap := va_apart (own := M.y.cls) hts (z_in c _ hc) (z_FT c) ty1 ty2 K.1 hc
  obtain ⟨hS, hfc, kC, hkC, hkind⟩ := K.1.1 c _ hc
  obtain ⟨cf, kf, fi, f, hi, hsl⟩ := hS k hk
  have hlay := hts _ (z_in c _ hc _ (u_in_lay hk))
  unfold u_lay at hlay
  rw [if_neg (by rw [hfin]; decide)] at hlay
  have hst := (u_facts hfc hkC (u_lays hts (z_in c _ hc) hk) hi).1
  have h6 := u_store hfc hkC hkind hlay hi (ty1 k hk) hn hfit
  refine W.putK C.1 C.2.1 (f := f) ⟨C.2.2.2.2.2.1, hts _ hw, ⟨_, _, _, hi⟩, hst⟩ (by rw [q2]; exact h6) q1 q3 (by rw [hsl]; exact k2_hasslot (q4 k hk)) rfl rfl hd fun H' e1 e2 e3 => ?_
  rw [hsl] at e1 ⊢
  have hcell : z_cell G (h.T a) (h1.I a) (h1.L a) (h1.P a) a H' := by
    refine ⟨fun z => by omega, fun z => by omega, fun z => by omega, fun c2 z => ?_⟩
    have hcc : c2 = c := by omega
    subst hcc
    refine ⟨_, hc, t_OB.to (V := updV (fun j => z_fv (z_FT c2 j) (h.I a j) (h.L a j) (h.P a j)) k v) ⟨_, e1, q2, q3, t_set q4 hap hk v⟩ (fun j _ => ?_)⟩
    by_cases hj : j = k
    · subst hj
      simp only [updV, if_pos, ev]
    · obtain ⟨g1, g2, g3⟩ := eo j hj
      simp only [updV, if_neg hj, g1, g2, g3]
  exact kk p e s m args below meth cd H' _ cells slots sl C (R.upd (by omega) e2 e3 eT en eI hcell) (S.put e2 e3 hba) L hc0 hs0
theorem z_putGN (c k : Nat) {i N : Nat} {C : String} {T : u_T} {a : Nat} (hc : z_CL[c]? = some (C, T, N)) (hk : k < N) (hT : (h.T a).1 = 10 + c) {host : String} (hw : Cond.fieldLinkNest M.y.cls i (T k).1 (T k).2.1 (T k).2.2.1 host ∈ z_nw) (hfin : (T k).2.2.2 = false) (hd : decode M.cc pc = .ok (.putfield i, 3)) (hq : pc + 3 = q) {v : Value} (hn : narrow (z_FT c k) v = v) (hfit : fits (z_FT c k) v = true) {h1 : z_H} (eT : h1.T = h.T) (en : h1.n = h.n) (eI : ∀ x, x ≠ a → h1.I x = h.I x ∧ h1.L x = h.L x ∧ h1.P x = h.P x) (eo : ∀ j, j ≠ k → h1.I a j = h.I a j ∧ h1.L a j = h.L a j ∧ h1.P a j = h.P a j) (ev : z_fv (z_FT c k) (h1.I a k) (h1.L a k) (h1.P a k) = v) (kk : z_V l G M F rc rs (h1) q (ls) (st)) : z_V l G M F rc rs (h) pc (ls) (v :: .ref a :: st) := by
  subst hq
  intro p e s m args below meth cd H locs cells slots sl C R S L hc0 hs0
  obtain ⟨hba, cell, q1, q2, q3, q4⟩ := R.obj hc hT
  have K := C.2.2.2.2.2.2.2.2.2.1
  have hts := C.2.2.2.2.2.2.2.1
  obtain ⟨ty1, ty2, -⟩ := z_tyof hc
  have hap := va_apart (own := M.y.cls) hts (z_in c _ hc) (z_FT c) ty1 ty2 K.1 hc
  obtain ⟨hS, hfc, kC, hkC, hkind⟩ := K.1.1 c _ hc
  obtain ⟨cf, kf, fi, f, hi, hsl⟩ := hS k hk
  have hlay := hts _ (z_in c _ hc _ (u_in_lay hk))
  unfold u_lay at hlay
  rw [if_neg (by rw [hfin]; decide)] at hlay
  have hst := (u_facts hfc hkC (u_lays hts (z_in c _ hc) hk) hi).1
  have h6 := u_store hfc hkC hkind hlay hi (ty1 k hk) hn hfit
  refine va_WputK C.1 C.2.1 (f := f) C.2.2.2.2.2.1 (va_Nw.use rfl (K.2.1 _ hw)) hi hst (by rw [q2]; exact h6) q1 q3 (by rw [hsl]; exact k2_hasslot (q4 k hk)) rfl rfl hd fun H' e1 e2 e3 => ?_
  rw [hsl] at e1 ⊢
  have hcell : z_cell G (h.T a) (h1.I a) (h1.L a) (h1.P a) a H' := by
    refine ⟨fun z => by omega, fun z => by omega, fun z => by omega, fun c2 z => ?_⟩
    have hcc : c2 = c := by omega
    subst hcc
    refine ⟨_, hc, t_OB.to (V := updV (fun j => z_fv (z_FT c2 j) (h.I a j) (h.L a j) (h.P a j)) k v) ⟨_, e1, q2, q3, t_set q4 hap hk v⟩ (fun j _ => ?_)⟩
    by_cases hj : j = k
    · subst hj
      simp only [updV, if_pos, ev]
    · obtain ⟨g1, g2, g3⟩ := eo j hj
      simp only [updV, if_neg hj, g1, g2, g3]
  exact kk p e s m args below meth cd H' _ cells slots sl C (R.upd (by omega) e2 e3 eT en eI hcell) (S.put e2 e3 hba) L hc0 hs0
theorem z_putG_F (c k : Nat) {i N : Nat} {C : String} {T : u_T} {a : Nat} (hc : z_CL[c]? = some (C, T, N)) (hk : k < N) (hT : (h.T a).1 = 10 + c) (hw : Cond.fieldLink M.y.cls i (T k).1 (T k).2.1 (T k).2.2.1 ∈ lw_all) (hfin : (T k).2.2.2 = true) (hini : M.y.name = "<init>") (hown : (T k).1 = M.y.cls) (hd : decode M.cc pc = .ok (.putfield i, 3)) (hq : pc + 3 = q) {v : Value} (hn : narrow (z_FT c k) v = v) (hfit : fits (z_FT c k) v = true) {h1 : z_H} (eT : h1.T = h.T) (en : h1.n = h.n) (eI : ∀ x, x ≠ a → h1.I x = h.I x ∧ h1.L x = h.L x ∧ h1.P x = h.P x) (eo : ∀ j, j ≠ k → h1.I a j = h.I a j ∧ h1.L a j = h.L a j ∧ h1.P a j = h.P a j) (ev : z_fv (z_FT c k) (h1.I a k) (h1.L a k) (h1.P a k) = v) (kk : z_V l G M F rc rs (h1) q (ls) (st)) : z_V l G M F rc rs (h) pc (ls) (v :: .ref a :: st) := by
  subst hq
  intro p e s m args below meth cd H locs cells slots sl C R S L hc0 hs0
  obtain ⟨hba, cell, q1, q2, q3, q4⟩ := R.obj hc hT
  have K := C.2.2.2.2.2.2.2.2.2.1
  have hts := C.2.2.2.2.2.2.2.1
  obtain ⟨ty1, ty2, -⟩ := z_tyof hc
  have hap := va_apart (own := M.y.cls) hts (z_in c _ hc) (z_FT c) ty1 ty2 K.1 hc
  obtain ⟨hS, hfc, kC, hkC, hkind⟩ := K.1.1 c _ hc
  obtain ⟨cf, kf, fi, f, hi, hsl⟩ := hS k hk
  have hlay := hts _ (z_in c _ hc _ (u_in_lay hk))
  unfold u_lay at hlay
  rw [if_pos hfin] at hlay
  have hst := (u_facts hfc hkC (u_lays hts (z_in c _ hc) hk) hi).1
  have hcf : m.cls = cf := by
    obtain ⟨_, _, c', _, _, _, -, -, hf', -, -, -, hown2, -⟩ := Cond.laysFinal_spec hlay
    have e1 : c' = cf := by have := hi.symm.trans hf'; simp at this; exact this.1.symm
    rw [hown] at hown2
    rw [← e1]; exact Option.some.inj (C.2.2.2.2.2.1.symm.trans hown2)
  have h6 := u_fits hfc hkC hkind (Or.inr hlay) hi (ty1 k hk) hn hfit
  refine W.putFinK C.1 C.2.1 C.2.2.2.2.2.1 (hts _ hw) hi hst hcf (C.2.2.2.2.2.2.1.trans hini) (by rw [q2]; exact h6) q1 q3 (by rw [hsl]; exact k2_hasslot (q4 k hk)) rfl rfl hd fun H' e1 e2 e3 => ?_
  rw [hsl] at e1 ⊢
  have hcell : z_cell G (h.T a) (h1.I a) (h1.L a) (h1.P a) a H' := by
    refine ⟨fun z => by omega, fun z => by omega, fun z => by omega, fun c2 z => ?_⟩
    have hcc : c2 = c := by omega
    subst hcc
    refine ⟨_, hc, t_OB.to (V := updV (fun j => z_fv (z_FT c2 j) (h.I a j) (h.L a j) (h.P a j)) k v) ⟨_, e1, q2, q3, t_set q4 hap hk v⟩ (fun j _ => ?_)⟩
    by_cases hj : j = k
    · subst hj
      simp only [updV, if_pos, ev]
    · obtain ⟨g1, g2, g3⟩ := eo j hj
      simp only [updV, if_neg hj, g1, g2, g3]
  exact kk p e s m args below meth cd H' _ cells slots sl C (R.upd (by omega) e2 e3 eT en eI hcell) (S.put e2 e3 hba) L hc0 hs0
theorem z_putI {x : Int32} {v : Value} (c k : Nat) {i N : Nat} {C : String} {T : u_T} {a : Nat} (hc : z_CL[c]? = some (C, T, N)) (hk : k < N) (hT : (h.T a).1 = 10 + c) (hw : Cond.fieldLink M.y.cls i (T k).1 (T k).2.1 (T k).2.2.1 ∈ lw_all) (hfin : (T k).2.2.2 = false) (hd : decode M.cc pc = .ok (.putfield i, 3)) (hq : pc + 3 = q) (ev0 : .int x = v) (hn : narrow (z_FT c k) v = v) (hfit : fits (z_FT c k) v = true) (hf : ∀ i l r, z_fv (z_FT c k) i l r = .int i) (kk : z_V l G M F rc rs (h.sI a k x) q (ls) (st)) : z_V l G M F rc rs (h) pc (ls) (v :: .ref a :: st) := by
  refine z_putG c k hc hk hT hw hfin hd hq hn hfit (h1 := h.sI a k x) rfl rfl (fun b hb => ⟨z_up_n _ _ hb, rfl, rfl⟩) (fun j hj => ⟨(congrFun (z_up_s _ _ _) j).trans (z_up_n _ _ hj), rfl, rfl⟩) ?_ kk
  rw [hf, ← ev0]
  show Value.int (z_up h.I a (z_up (h.I a) k x) a k) = (.int x : Value)
  rw [z_up_s, z_up_s]
theorem z_putL {x : Int64} {v : Value} (c k : Nat) {i N : Nat} {C : String} {T : u_T} {a : Nat} (hc : z_CL[c]? = some (C, T, N)) (hk : k < N) (hT : (h.T a).1 = 10 + c) (hw : Cond.fieldLink M.y.cls i (T k).1 (T k).2.1 (T k).2.2.1 ∈ lw_all) (hfin : (T k).2.2.2 = false) (hd : decode M.cc pc = .ok (.putfield i, 3)) (hq : pc + 3 = q) (ev0 : .long x = v) (hn : narrow (z_FT c k) v = v) (hfit : fits (z_FT c k) v = true) (hf : ∀ i l r, z_fv (z_FT c k) i l r = .long l) (kk : z_V l G M F rc rs (h.sL a k x) q (ls) (st)) : z_V l G M F rc rs (h) pc (ls) (v :: .ref a :: st) := by
  refine z_putG c k hc hk hT hw hfin hd hq hn hfit (h1 := h.sL a k x) rfl rfl (fun b hb => ⟨rfl, z_up_n _ _ hb, rfl⟩) (fun j hj => ⟨rfl, (congrFun (z_up_s _ _ _) j).trans (z_up_n _ _ hj), rfl⟩) ?_ kk
  rw [hf, ← ev0]
  show Value.long (z_up h.L a (z_up (h.L a) k x) a k) = (.long x : Value)
  rw [z_up_s, z_up_s]
theorem z_putP {x : Option Nat} {v : Value} (c k : Nat) {i N : Nat} {C : String} {T : u_T} {a : Nat} (hc : z_CL[c]? = some (C, T, N)) (hk : k < N) (hT : (h.T a).1 = 10 + c) (hw : Cond.fieldLink M.y.cls i (T k).1 (T k).2.1 (T k).2.2.1 ∈ lw_all) (hfin : (T k).2.2.2 = false) (hd : decode M.cc pc = .ok (.putfield i, 3)) (hq : pc + 3 = q) (ev0 : va_rf x = v) (hn : narrow (z_FT c k) v = v) (hfit : fits (z_FT c k) v = true) (hf : ∀ i l r, z_fv (z_FT c k) i l r = va_rf r) (kk : z_V l G M F rc rs (h.sP a k x) q (ls) (st)) : z_V l G M F rc rs (h) pc (ls) (v :: .ref a :: st) := by
  refine z_putG c k hc hk hT hw hfin hd hq hn hfit (h1 := h.sP a k x) rfl rfl (fun b hb => ⟨rfl, rfl, z_up_n _ _ hb⟩) (fun j hj => ⟨rfl, rfl, (congrFun (z_up_s _ _ _) j).trans (z_up_n _ _ hj)⟩) ?_ kk
  rw [hf, ← ev0]
  show va_rf (z_up h.P a (z_up (h.P a) k x) a k) = (va_rf x : Value)
  rw [z_up_s, z_up_s]
theorem z_putIN {x : Int32} {v : Value} (c k : Nat) {i N : Nat} {C : String} {T : u_T} {a : Nat} (hc : z_CL[c]? = some (C, T, N)) (hk : k < N) (hT : (h.T a).1 = 10 + c) {host : String} (hw : Cond.fieldLinkNest M.y.cls i (T k).1 (T k).2.1 (T k).2.2.1 host ∈ z_nw) (hfin : (T k).2.2.2 = false) (hd : decode M.cc pc = .ok (.putfield i, 3)) (hq : pc + 3 = q) (ev0 : .int x = v) (hn : narrow (z_FT c k) v = v) (hfit : fits (z_FT c k) v = true) (hf : ∀ i l r, z_fv (z_FT c k) i l r = .int i) (kk : z_V l G M F rc rs (h.sI a k x) q (ls) (st)) : z_V l G M F rc rs (h) pc (ls) (v :: .ref a :: st) := by
  refine z_putGN c k hc hk hT hw hfin hd hq hn hfit (h1 := h.sI a k x) rfl rfl (fun b hb => ⟨z_up_n _ _ hb, rfl, rfl⟩) (fun j hj => ⟨(congrFun (z_up_s _ _ _) j).trans (z_up_n _ _ hj), rfl, rfl⟩) ?_ kk
  rw [hf, ← ev0]
  show Value.int (z_up h.I a (z_up (h.I a) k x) a k) = (.int x : Value)
  rw [z_up_s, z_up_s]
theorem z_putLN {x : Int64} {v : Value} (c k : Nat) {i N : Nat} {C : String} {T : u_T} {a : Nat} (hc : z_CL[c]? = some (C, T, N)) (hk : k < N) (hT : (h.T a).1 = 10 + c) {host : String} (hw : Cond.fieldLinkNest M.y.cls i (T k).1 (T k).2.1 (T k).2.2.1 host ∈ z_nw) (hfin : (T k).2.2.2 = false) (hd : decode M.cc pc = .ok (.putfield i, 3)) (hq : pc + 3 = q) (ev0 : .long x = v) (hn : narrow (z_FT c k) v = v) (hfit : fits (z_FT c k) v = true) (hf : ∀ i l r, z_fv (z_FT c k) i l r = .long l) (kk : z_V l G M F rc rs (h.sL a k x) q (ls) (st)) : z_V l G M F rc rs (h) pc (ls) (v :: .ref a :: st) := by
  refine z_putGN c k hc hk hT hw hfin hd hq hn hfit (h1 := h.sL a k x) rfl rfl (fun b hb => ⟨rfl, z_up_n _ _ hb, rfl⟩) (fun j hj => ⟨rfl, (congrFun (z_up_s _ _ _) j).trans (z_up_n _ _ hj), rfl⟩) ?_ kk
  rw [hf, ← ev0]
  show Value.long (z_up h.L a (z_up (h.L a) k x) a k) = (.long x : Value)
  rw [z_up_s, z_up_s]
theorem z_putPN {x : Option Nat} {v : Value} (c k : Nat) {i N : Nat} {C : String} {T : u_T} {a : Nat} (hc : z_CL[c]? = some (C, T, N)) (hk : k < N) (hT : (h.T a).1 = 10 + c) {host : String} (hw : Cond.fieldLinkNest M.y.cls i (T k).1 (T k).2.1 (T k).2.2.1 host ∈ z_nw) (hfin : (T k).2.2.2 = false) (hd : decode M.cc pc = .ok (.putfield i, 3)) (hq : pc + 3 = q) (ev0 : va_rf x = v) (hn : narrow (z_FT c k) v = v) (hfit : fits (z_FT c k) v = true) (hf : ∀ i l r, z_fv (z_FT c k) i l r = va_rf r) (kk : z_V l G M F rc rs (h.sP a k x) q (ls) (st)) : z_V l G M F rc rs (h) pc (ls) (v :: .ref a :: st) := by
  refine z_putGN c k hc hk hT hw hfin hd hq hn hfit (h1 := h.sP a k x) rfl rfl (fun b hb => ⟨rfl, rfl, z_up_n _ _ hb⟩) (fun j hj => ⟨rfl, rfl, (congrFun (z_up_s _ _ _) j).trans (z_up_n _ _ hj)⟩) ?_ kk
  rw [hf, ← ev0]
  show va_rf (z_up h.P a (z_up (h.P a) k x) a k) = (va_rf x : Value)
  rw [z_up_s, z_up_s]
theorem z_putI_F {x : Int32} {v : Value} (c k : Nat) {i N : Nat} {C : String} {T : u_T} {a : Nat} (hc : z_CL[c]? = some (C, T, N)) (hk : k < N) (hT : (h.T a).1 = 10 + c) (hw : Cond.fieldLink M.y.cls i (T k).1 (T k).2.1 (T k).2.2.1 ∈ lw_all) (hfin : (T k).2.2.2 = true) (hini : M.y.name = "<init>") (hown : (T k).1 = M.y.cls) (hd : decode M.cc pc = .ok (.putfield i, 3)) (hq : pc + 3 = q) (ev0 : .int x = v) (hn : narrow (z_FT c k) v = v) (hfit : fits (z_FT c k) v = true) (hf : ∀ i l r, z_fv (z_FT c k) i l r = .int i) (kk : z_V l G M F rc rs (h.sI a k x) q (ls) (st)) : z_V l G M F rc rs (h) pc (ls) (v :: .ref a :: st) := by
  refine z_putG_F c k hc hk hT hw hfin hini hown hd hq hn hfit (h1 := h.sI a k x) rfl rfl (fun b hb => ⟨z_up_n _ _ hb, rfl, rfl⟩) (fun j hj => ⟨(congrFun (z_up_s _ _ _) j).trans (z_up_n _ _ hj), rfl, rfl⟩) ?_ kk
  rw [hf, ← ev0]
  show Value.int (z_up h.I a (z_up (h.I a) k x) a k) = (.int x : Value)
  rw [z_up_s, z_up_s]
theorem z_putL_F {x : Int64} {v : Value} (c k : Nat) {i N : Nat} {C : String} {T : u_T} {a : Nat} (hc : z_CL[c]? = some (C, T, N)) (hk : k < N) (hT : (h.T a).1 = 10 + c) (hw : Cond.fieldLink M.y.cls i (T k).1 (T k).2.1 (T k).2.2.1 ∈ lw_all) (hfin : (T k).2.2.2 = true) (hini : M.y.name = "<init>") (hown : (T k).1 = M.y.cls) (hd : decode M.cc pc = .ok (.putfield i, 3)) (hq : pc + 3 = q) (ev0 : .long x = v) (hn : narrow (z_FT c k) v = v) (hfit : fits (z_FT c k) v = true) (hf : ∀ i l r, z_fv (z_FT c k) i l r = .long l) (kk : z_V l G M F rc rs (h.sL a k x) q (ls) (st)) : z_V l G M F rc rs (h) pc (ls) (v :: .ref a :: st) := by
  refine z_putG_F c k hc hk hT hw hfin hini hown hd hq hn hfit (h1 := h.sL a k x) rfl rfl (fun b hb => ⟨rfl, z_up_n _ _ hb, rfl⟩) (fun j hj => ⟨rfl, (congrFun (z_up_s _ _ _) j).trans (z_up_n _ _ hj), rfl⟩) ?_ kk
  rw [hf, ← ev0]
  show Value.long (z_up h.L a (z_up (h.L a) k x) a k) = (.long x : Value)
  rw [z_up_s, z_up_s]
theorem z_putP_F {x : Option Nat} {v : Value} (c k : Nat) {i N : Nat} {C : String} {T : u_T} {a : Nat} (hc : z_CL[c]? = some (C, T, N)) (hk : k < N) (hT : (h.T a).1 = 10 + c) (hw : Cond.fieldLink M.y.cls i (T k).1 (T k).2.1 (T k).2.2.1 ∈ lw_all) (hfin : (T k).2.2.2 = true) (hini : M.y.name = "<init>") (hown : (T k).1 = M.y.cls) (hd : decode M.cc pc = .ok (.putfield i, 3)) (hq : pc + 3 = q) (ev0 : va_rf x = v) (hn : narrow (z_FT c k) v = v) (hfit : fits (z_FT c k) v = true) (hf : ∀ i l r, z_fv (z_FT c k) i l r = va_rf r) (kk : z_V l G M F rc rs (h.sP a k x) q (ls) (st)) : z_V l G M F rc rs (h) pc (ls) (v :: .ref a :: st) := by
  refine z_putG_F c k hc hk hT hw hfin hini hown hd hq hn hfit (h1 := h.sP a k x) rfl rfl (fun b hb => ⟨rfl, rfl, z_up_n _ _ hb⟩) (fun j hj => ⟨rfl, rfl, (congrFun (z_up_s _ _ _) j).trans (z_up_n _ _ hj)⟩) ?_ kk
  rw [hf, ← ev0]
  show va_rf (z_up h.P a (z_up (h.P a) k x) a k) = (va_rf x : Value)
  rw [z_up_s, z_up_s]
theorem z_R.arrI {H : Heap} {a k n : Nat} (R : z_R G h H) (hk : k = 1 ∨ k = 2 ∨ k = 3) (hT : h.T a = (k, n)) : G.bs ≤ a ∧ H[a]? = some (arrV (G.ca k) n (fun j => .int (h.I a j))) := by
  obtain ⟨h1, -, h2, -⟩ := R.2.2 a (by rw [hT]; show k ≠ 0; omega)
  rw [hT] at h2
  exact ⟨h1, h2 hk⟩
theorem z_R.arrL {H : Heap} {a n : Nat} (R : z_R G h H) (hT : h.T a = (4, n)) : G.bs ≤ a ∧ H[a]? = some (arrV (G.ca 4) n (fun j => .long (h.L a j))) := by
  obtain ⟨h1, -, -, h2, -⟩ := R.2.2 a (by rw [hT]; show 4 ≠ 0; omega)
  rw [hT] at h2
  exact ⟨h1, h2 rfl⟩
theorem z_R.arrP {H : Heap} {a k n : Nat} (R : z_R G h H) (hk : 5 ≤ k ∧ k < 10) (hT : h.T a = (k, n)) : G.bs ≤ a ∧ H[a]? = some (arrV (G.ca k) n (fun j => va_rf (h.P a j))) := by
  obtain ⟨h1, -, -, -, h2, -⟩ := R.2.2 a (by rw [hT]; show k ≠ 0; omega)
  rw [hT] at h2
  exact ⟨h1, h2 hk⟩
theorem z_K.arr {s : State} (K : z_K G s) (k : Nat) (h1 : 1 ≤ k) (h2 : k < 10) : ArrOfT s (G.ca k) (z_AT k) ∧ va_RA s (G.ca k) (z_AT k) := by
  refine K.1.2 (k - 1) (G.ca k, z_AT k) ?_
  match k, h1, h2 with
  | 1, _, _ => rfl
  | 2, _, _ => rfl
  | 3, _, _ => rfl
  | 4, _, _ => rfl
  | 5, _, _ => rfl
  | 6, _, _ => rfl
  | 7, _, _ => rfl
  | 8, _, _ => rfl
  | 9, _, _ => rfl
  | k + 10, _, h2 => exact absurd h2 (by omega)
theorem z_arrUpd {H H1 : Heap} {a k n j : Nat} {x : Int32} (R : z_R G h H) (hk : k = 1 ∨ k = 2 ∨ k = 3) (hT : h.T a = (k, n)) (e : H1[a]? = some ((arrV (G.ca k) n (fun j => .int (h.I a j))).setSlot j (.int x))) (z : H1.size = H.size) (oq : ∀ q, q ≠ a → H1[q]? = H[q]?) : z_R G (h.sI a j x) H1 := by
  refine R.upd (a := a) (by rw [hT]; show k ≠ 0; omega) z oq rfl rfl (fun y hy => ⟨z_up_n _ _ hy, rfl, rfl⟩) ?_
  rw [hT]
  refine ⟨fun _ => ?_, fun q => ?_, fun q => ?_, fun c q => ?_⟩
  · rw [e, arrV_store]
    show some (arrV (G.ca k) n _) = some (arrV (G.ca k) n _)
    congr 2
    funext y
    show updV _ _ _ y = Value.int (z_up h.I a (z_up (h.I a) j x) a y)
    rw [z_up_s]
    by_cases hy : y = j
    · subst hy; simp [updV, z_up]
    · simp [updV, z_up, hy]
  · have q1 : k = 4 := q
    omega
  · have q1 : 5 ≤ k := q.1
    omega
  · have q1 : k = 10 + c := q
    omega
theorem z_arrUpdL {H H1 : Heap} {a n j : Nat} {x : Int64} (R : z_R G h H) (hT : h.T a = (4, n)) (e : H1[a]? = some ((arrV (G.ca 4) n (fun j => .long (h.L a j))).setSlot j (.long x))) (z : H1.size = H.size) (oq : ∀ q, q ≠ a → H1[q]? = H[q]?) : z_R G (h.sL a j x) H1 := by
  refine R.upd (a := a) (by rw [hT]; show 4 ≠ 0; omega) z oq rfl rfl (fun y hy => ⟨rfl, z_up_n _ _ hy, rfl⟩) ?_
  rw [hT]
  refine ⟨fun q => ?_, fun q => ?_, fun q => ?_, fun c q => ?_⟩
  · have q1 : 4 = 1 ∨ 4 = 2 ∨ 4 = 3 := q
    omega
  · rw [e, arrV_store]
    congr 2
    funext y
    show updV _ _ _ y = Value.long (z_up h.L a (z_up (h.L a) j x) a y)
    rw [z_up_s]
    by_cases hy : y = j
    · subst hy; simp [updV, z_up]
    · simp [updV, z_up, hy]
  · have q1 : 5 ≤ 4 := q.1
    omega
  · have q1 : 4 = 10 + c := q
    omega
theorem z_arrUpdP {H H1 : Heap} {a k n j : Nat} {x : Option Nat} (R : z_R G h H) (hk : 5 ≤ k ∧ k < 10) (hT : h.T a = (k, n)) (e : H1[a]? = some ((arrV (G.ca k) n (fun j => va_rf (h.P a j))).setSlot j (va_rf x))) (z : H1.size = H.size) (oq : ∀ q, q ≠ a → H1[q]? = H[q]?) : z_R G (h.sP a j x) H1 := by
  refine R.upd (a := a) (by rw [hT]; show k ≠ 0; omega) z oq rfl rfl (fun y hy => ⟨rfl, rfl, z_up_n _ _ hy⟩) ?_
  rw [hT]
  refine ⟨fun q => ?_, fun q => ?_, fun _ => ?_, fun c q => ?_⟩
  · have q1 : k = 1 ∨ k = 2 ∨ k = 3 := q
    omega
  · have q1 : k = 4 := q
    omega
  · rw [e, arrV_store]
    show some (arrV (G.ca k) n _) = some (arrV (G.ca k) n _)
    congr 2
    funext y
    show updV _ _ _ y = va_rf (z_up h.P a (z_up (h.P a) j x) a y)
    rw [z_up_s]
    by_cases hy : y = j
    · subst hy; simp [updV, z_up]
    · simp [updV, z_up, hy]
  · have q1 : k = 10 + c := q
    omega
theorem z_iald {a n : Nat} {i : Int32} (hT : h.T a = (1, n)) (hin : vp_in i n) (hd : decode M.cc pc = .ok (.iaload, 1)) (hq : pc + 1 = q) (kk : z_V l G M F rc rs (h) q (ls) (.int (h.I a i.toNatClampNeg) :: st)) : z_V l G M F rc rs (h) pc (ls) (.int i :: .ref a :: st) := by
  subst hq
  intro p e s m args below meth cd H locs cells slots sl C R S L hc0 hs0
  have hlt : i.toNatClampNeg < n := Nat.not_le.mp fun q => hin (Or.inr q)
  exact W.iald (v := .int (h.I a i.toNatClampNeg)) C.1 C.2.1 (R.arrI (k := 1) (by decide) hT).2 ((C.2.2.2.2.2.2.2.2.2.1.arr 1 (by decide) (by decide)).1 n (fun j => .int (h.I a j))) (fun q => by cases q) (by show ¬ (i < 0 ∨ (arrV _ _ _).slots.size ≤ _); rw [arrV_size]; exact hin) (by show (arrV _ _ _).slots[_]? = _; rw [arrV_read _ _ hlt]) rfl rfl hd (kk p e s m args below meth cd H locs cells slots sl C R S L hc0 hs0)
theorem z_bald {a n : Nat} {i : Int32} (hT : h.T a = (2, n)) (hin : vp_in i n) (hd : decode M.cc pc = .ok (.baload, 1)) (hq : pc + 1 = q) (kk : z_V l G M F rc rs (h) q (ls) (.int (h.I a i.toNatClampNeg) :: st)) : z_V l G M F rc rs (h) pc (ls) (.int i :: .ref a :: st) := by
  subst hq
  intro p e s m args below meth cd H locs cells slots sl C R S L hc0 hs0
  have hlt : i.toNatClampNeg < n := Nat.not_le.mp fun q => hin (Or.inr q)
  exact W.bald (v := .int (h.I a i.toNatClampNeg)) C.1 C.2.1 (R.arrI (k := 2) (by decide) hT).2 ((C.2.2.2.2.2.2.2.2.2.1.arr 2 (by decide) (by decide)).1 n (fun j => .int (h.I a j))) (fun q => by cases q) (by show ¬ (i < 0 ∨ (arrV _ _ _).slots.size ≤ _); rw [arrV_size]; exact hin) (by show (arrV _ _ _).slots[_]? = _; rw [arrV_read _ _ hlt]) rfl rfl hd (kk p e s m args below meth cd H locs cells slots sl C R S L hc0 hs0)
theorem z_zald {a n : Nat} {i : Int32} (hT : h.T a = (3, n)) (hin : vp_in i n) (hd : decode M.cc pc = .ok (.baload, 1)) (hq : pc + 1 = q) (kk : z_V l G M F rc rs (h) q (ls) (.int (h.I a i.toNatClampNeg) :: st)) : z_V l G M F rc rs (h) pc (ls) (.int i :: .ref a :: st) := by
  subst hq
  intro p e s m args below meth cd H locs cells slots sl C R S L hc0 hs0
  have hlt : i.toNatClampNeg < n := Nat.not_le.mp fun q => hin (Or.inr q)
  exact W.zald (v := .int (h.I a i.toNatClampNeg)) C.1 C.2.1 (R.arrI (k := 3) (by decide) hT).2 ((C.2.2.2.2.2.2.2.2.2.1.arr 3 (by decide) (by decide)).1 n (fun j => .int (h.I a j))) (fun q => by cases q) (by show ¬ (i < 0 ∨ (arrV _ _ _).slots.size ≤ _); rw [arrV_size]; exact hin) (by show (arrV _ _ _).slots[_]? = _; rw [arrV_read _ _ hlt]) rfl rfl hd (kk p e s m args below meth cd H locs cells slots sl C R S L hc0 hs0)
theorem z_lald {a n : Nat} {i : Int32} (hT : h.T a = (4, n)) (hin : vp_in i n) (hd : decode M.cc pc = .ok (.laload, 1)) (hq : pc + 1 = q) (kk : z_V l G M F rc rs (h) q (ls) (.long (h.L a i.toNatClampNeg) :: st)) : z_V l G M F rc rs (h) pc (ls) (.int i :: .ref a :: st) := by
  subst hq
  intro p e s m args below meth cd H locs cells slots sl C R S L hc0 hs0
  have hlt : i.toNatClampNeg < n := Nat.not_le.mp fun q => hin (Or.inr q)
  exact W.lald (v := .long (h.L a i.toNatClampNeg)) C.1 C.2.1 (R.arrL hT).2 ((C.2.2.2.2.2.2.2.2.2.1.arr 4 (by decide) (by decide)).1 n (fun j => .long (h.L a j))) (fun q => by cases q) (by show ¬ (i < 0 ∨ (arrV _ _ _).slots.size ≤ _); rw [arrV_size]; exact hin) (by show (arrV _ _ _).slots[_]? = _; rw [arrV_read _ _ hlt]) rfl rfl hd (kk p e s m args below meth cd H locs cells slots sl C R S L hc0 hs0)
theorem z_aald {a k n : Nat} {i : Int32} (hT : h.T a = (k, n)) (hk : 5 ≤ k ∧ k < 10) (hin : vp_in i n) (hd : decode M.cc pc = .ok (.aaload, 1)) (hq : pc + 1 = q) {v : Value} (hv : va_rf (h.P a i.toNatClampNeg) = v) (kk : z_V l G M F rc rs (h) q (ls) (v :: st)) : z_V l G M F rc rs (h) pc (ls) (.int i :: .ref a :: st) := by
  subst hq
  intro p e s m args below meth cd H locs cells slots sl C R S L hc0 hs0
  have hlt : i.toNatClampNeg < n := Nat.not_le.mp fun q => hin (Or.inr q)
  have hat : (z_AT k).isReference = true := by
    match k, hk with
    | 5, _ => rfl
    | 6, _ => rfl
    | 7, _ => rfl
    | 8, _ => rfl
    | 9, _ => rfl
  exact W.aald (v := v) (ty := z_AT k) C.1 C.2.1 (R.arrP hk hT).2 ((C.2.2.2.2.2.2.2.2.2.1.arr k (by omega) hk.2).1 n (fun j => va_rf (h.P a j))) hat (fun q => by cases q) (by show ¬ (i < 0 ∨ (arrV _ _ _).slots.size ≤ _); rw [arrV_size]; exact hin) (by show (arrV _ _ _).slots[_]? = _; rw [arrV_read _ _ hlt, hv]) rfl rfl hd (kk p e s m args below meth cd H locs cells slots sl C R S L hc0 hs0)
theorem z_iast {a n : Nat} {i x : Int32} (hT : h.T a = (1, n)) (hin : vp_in i n) (hd : decode M.cc pc = .ok (.iastore, 1)) (hq : pc + 1 = q) (kk : z_V l G M F rc rs (h.sI a i.toNatClampNeg x) q (ls) (st)) : z_V l G M F rc rs (h) pc (ls) (.int x :: .int i :: .ref a :: st) := by
  subst hq
  intro p e s m args below meth cd H locs cells slots sl C R S L hc0 hs0
  obtain ⟨hba, hcell⟩ := R.arrI (k := 1) (by decide) hT
  refine W.iast C.1 C.2.1 hcell ((C.2.2.2.2.2.2.2.2.2.1.arr 1 (by decide) (by decide)).1 n (fun j => .int (h.I a j))) (fun q => by cases q) (by show ¬ (i < 0 ∨ (arrV _ _ _).slots.size ≤ _); rw [arrV_size]; exact hin) rfl rfl hd fun H1 e1 z oq => ?_
  exact kk p e s m args below meth cd H1 _ cells slots sl C (z_arrUpd R (by decide) hT e1 z oq) (S.put z oq hba) L hc0 hs0
theorem z_bast {a n : Nat} {i x y : Int32} (hT : h.T a = (2, n)) (hin : vp_in i n) (hx : narrow .byte (.int x) = .int y) (hd : decode M.cc pc = .ok (.bastore, 1)) (hq : pc + 1 = q) (kk : z_V l G M F rc rs (h.sI a i.toNatClampNeg y) q (ls) (st)) : z_V l G M F rc rs (h) pc (ls) (.int x :: .int i :: .ref a :: st) := by
  subst hq
  intro p e s m args below meth cd H locs cells slots sl C R S L hc0 hs0
  obtain ⟨hba, hcell⟩ := R.arrI (k := 2) (by decide) hT
  refine W.bast C.1 C.2.1 hcell ((C.2.2.2.2.2.2.2.2.2.1.arr 2 (by decide) (by decide)).1 n (fun j => .int (h.I a j))) (fun q => by cases q) (by show ¬ (i < 0 ∨ (arrV _ _ _).slots.size ≤ _); rw [arrV_size]; exact hin) rfl rfl hd fun H1 e1 z oq => ?_
  rw [hx] at e1
  exact kk p e s m args below meth cd H1 _ cells slots sl C (z_arrUpd R (by decide) hT e1 z oq) (S.put z oq hba) L hc0 hs0
theorem z_zast {a n : Nat} {i x y : Int32} (hT : h.T a = (3, n)) (hin : vp_in i n) (hx : narrow .boolean (.int x) = .int y) (hd : decode M.cc pc = .ok (.bastore, 1)) (hq : pc + 1 = q) (kk : z_V l G M F rc rs (h.sI a i.toNatClampNeg y) q (ls) (st)) : z_V l G M F rc rs (h) pc (ls) (.int x :: .int i :: .ref a :: st) := by
  subst hq
  intro p e s m args below meth cd H locs cells slots sl C R S L hc0 hs0
  obtain ⟨hba, hcell⟩ := R.arrI (k := 3) (by decide) hT
  refine W.zast C.1 C.2.1 hcell ((C.2.2.2.2.2.2.2.2.2.1.arr 3 (by decide) (by decide)).1 n (fun j => .int (h.I a j))) (fun q => by cases q) (by show ¬ (i < 0 ∨ (arrV _ _ _).slots.size ≤ _); rw [arrV_size]; exact hin) rfl rfl hd fun H1 e1 z oq => ?_
  rw [hx] at e1
  exact kk p e s m args below meth cd H1 _ cells slots sl C (z_arrUpd R (by decide) hT e1 z oq) (S.put z oq hba) L hc0 hs0
theorem z_last {a n : Nat} {i : Int32} {x : Int64} (hT : h.T a = (4, n)) (hin : vp_in i n) (hd : decode M.cc pc = .ok (.lastore, 1)) (hq : pc + 1 = q) (kk : z_V l G M F rc rs (h.sL a i.toNatClampNeg x) q (ls) (st)) : z_V l G M F rc rs (h) pc (ls) (.long x :: .int i :: .ref a :: st) := by
  subst hq
  intro p e s m args below meth cd H locs cells slots sl C R S L hc0 hs0
  obtain ⟨hba, hcell⟩ := R.arrL hT
  refine W.last C.1 C.2.1 hcell ((C.2.2.2.2.2.2.2.2.2.1.arr 4 (by decide) (by decide)).1 n (fun j => .long (h.L a j))) (fun q => by cases q) (by show ¬ (i < 0 ∨ (arrV _ _ _).slots.size ≤ _); rw [arrV_size]; exact hin) rfl rfl hd fun H1 e1 z oq => ?_
  exact kk p e s m args below meth cd H1 _ cells slots sl C (z_arrUpdL R hT e1 z oq) (S.put z oq hba) L hc0 hs0
/-- an object of the class c may stand in an array of the kind k -/
def z_goes (c k : Nat) : Prop := ∃ r : vw_C, z_CL[c]? = some r ∧ ∃ C, z_AT k = .object C ∧ (r.1 = C ∨ Cond.castable r.1 C ∈ z_nw)
theorem z_aast {a k n b c : Nat} {i : Int32} (hT : h.T a = (k, n)) (hk : 5 ≤ k ∧ k < 10) (hb : (h.T b).1 = 10 + c) (hg : z_goes c k) (hin : vp_in i n) (hd : decode M.cc pc = .ok (.aastore, 1)) (hq : pc + 1 = q) (kk : z_V l G M F rc rs (h.sP a i.toNatClampNeg (some b)) q (ls) (st)) : z_V l G M F rc rs (h) pc (ls) (.ref b :: .int i :: .ref a :: st) := by
  subst hq
  intro p e s m args below meth cd H locs cells slots sl C R S L hc0 hs0
  have K := C.2.2.2.2.2.2.2.2.2.1
  have hlt : i.toNatClampNeg < n := Nat.not_le.mp fun q => hin (Or.inr q)
  have h0 : ¬ i < 0 := fun q => hin (Or.inl q)
  obtain ⟨⟨CN, T, N⟩, hc, CC, hC, hg⟩ := hg
  obtain ⟨-, cellV, g1, g2, g3, -⟩ := R.obj hc hb
  obtain ⟨hba, hcell⟩ := R.arrP hk hT
  have hRA := (K.arr k (by omega) hk.2).2
  rw [hC] at hRA
  obtain ⟨kA, comp, k1, k2, k3, -⟩ := hRA
  have hcls := (K.1.1 c _ hc).2
  have hasg : ∃ kcomp : Class, s.vm.classes[comp]? = some kcomp ∧ s.vm.assignable (G.D.1 c) comp = true := by
    rcases hg with hg | hg
    · subst hg
      have hcomp : comp = G.D.1 c := Option.some.inj (k3.symm.trans hcls.1)
      subst hcomp
      obtain ⟨kC, hkC, -⟩ := hcls.2
      exact ⟨kC, hkC, va_assign hcls⟩
    · obtain ⟨c3, c4, hc3, hc4, has⟩ := Cond.castable_spec (K.2.1 _ hg)
      have e3 : c3 = G.D.1 c := Option.some.inj (hc3.symm.trans hcls.1)
      have e4 : c4 = comp := Option.some.inj (hc4.symm.trans k3)
      subst e3; subst e4
      obtain ⟨k9, h9, -⟩ := Vm.findClass_spec hc4
      exact ⟨k9, h9, has⟩
  obtain ⟨kC, hkC, -⟩ := hcls.2
  obtain ⟨kcomp, hkcomp, hasg⟩ := hasg
  refine W.aast C.1 C.2.1 hcell (fun q h => by cases h) (fun h => by cases h) k1 k2 rfl hkcomp ⟨h0, by show _ < (arrV _ _ _).slots.size; rw [arrV_size]; exact hlt⟩ g1 (fun q h => by rw [g3] at h; cases h) (by rw [g2]; exact hkC) (by rw [g2]; exact hasg) rfl rfl hd fun H1 e1 z oq => ?_
  exact kk p e s m args below meth cd H1 _ cells slots sl C (z_arrUpdP (x := some b) R hk hT e1 z oq) (S.put z oq hba) L hc0 hs0
theorem z_aastN {a k n : Nat} {i : Int32} (hT : h.T a = (k, n)) (hk : 5 ≤ k ∧ k < 10) (hin : vp_in i n) (hd : decode M.cc pc = .ok (.aastore, 1)) (hq : pc + 1 = q) (kk : z_V l G M F rc rs (h.sP a i.toNatClampNeg none) q (ls) (st)) : z_V l G M F rc rs (h) pc (ls) (.null :: .int i :: .ref a :: st) := by
  subst hq
  intro p e s m args below meth cd H locs cells slots sl C R S L hc0 hs0
  obtain ⟨hba, hcell⟩ := R.arrP hk hT
  have hat : ∃ C0, z_AT k = .object C0 := by
    match k, hk with
    | 5, _ => exact ⟨_, rfl⟩
    | 6, _ => exact ⟨_, rfl⟩
    | 7, _ => exact ⟨_, rfl⟩
    | 8, _ => exact ⟨_, rfl⟩
    | 9, _ => exact ⟨_, rfl⟩
  obtain ⟨C0, hC0⟩ := hat
  refine va_WaastN (C := C0) C.1 C.2.1 hcell (by rw [← hC0]; exact (C.2.2.2.2.2.2.2.2.2.1.arr k (by omega) hk.2).1 n (fun j => va_rf (h.P a j))) (fun h => by cases h) (by show ¬ (i < 0 ∨ (arrV _ _ _).slots.size ≤ _); rw [arrV_size]; exact hin) rfl rfl hd fun H1 e1 z oq => ?_
  exact kk p e s m args below meth cd H1 _ cells slots sl C (z_arrUpdP (x := none) R hk hT e1 z oq) (S.put z oq hba) L hc0 hs0
theorem z_alen {a k n : Nat} {v : Int32} (hT : h.T a = (k, n)) (hk : 1 ≤ k ∧ k < 10) (hv : Int32.ofNat n = v) (hd : decode M.cc pc = .ok (.arraylength, 1)) (hq : pc + 1 = q) (kk : z_V l G M F rc rs (h) q (ls) (.int v :: st)) : z_V l G M F rc rs (h) pc (ls) (.ref a :: st) := by
  subst hq
  intro p e s m args below meth cd H locs cells slots sl C R S L hc0 hs0
  have hcell : ∃ f : Nat → Value, H[a]? = some (arrV (G.ca k) n f) := by
    by_cases h1 : k < 4
    · exact ⟨_, (R.arrI (k := k) (by omega) hT).2⟩
    · by_cases h2 : k = 4
      · subst h2; exact ⟨_, (R.arrL hT).2⟩
      · exact ⟨_, (R.arrP (k := k) ⟨by omega, hk.2⟩ hT).2⟩
  obtain ⟨f, hcell⟩ := hcell
  refine W.alen (n := v) C.1 C.2.1 hcell ((C.2.2.2.2.2.2.2.2.2.1.arr k hk.1 hk.2).1 n f) ?_ rfl rfl hd (kk p e s m args below meth cd H locs cells slots sl C R S L hc0 hs0)
  rw [arrV_size, ← hv]
theorem z_sld {i : Int32} (hin : vp_in i G.sn) (hd : decode M.cc pc = .ok (.iaload, 1)) (hq : pc + 1 = q) (kk : z_V l G M F rc rs (h) q (ls) (.int (G.sx i.toNatClampNeg) :: st)) : z_V l G M F rc rs (h) pc (ls) (.int i :: .ref G.sb :: st) := by
  subst hq
  intro p e s m args below meth cd H locs cells slots sl C R S L hc0 hs0
  obtain ⟨⟨scr, h1, h2, h3, h4, h5⟩, h6⟩ := C.2.2.2.2.2.2.2.2.2.1.2.2.2.2.2.2.2.2.2
  have hlt : i.toNatClampNeg < G.sn := Nat.not_le.mp fun q => hin (Or.inr q)
  refine W.iald (v := .int (G.sx i.toNatClampNeg)) C.1 C.2.1 (cell := scr) ?_ h2 h3 (by rw [h4]; exact hin) (h5 _ hlt) rfl rfl hd (kk p e s m args below meth cd H locs cells slots sl C R S L hc0 hs0)
  rw [S.2.1 _ (Array.getElem?_eq_some_iff.mp h1).1 (fun z => absurd h6 (Nat.not_lt.mpr z))]
  exact h1
theorem z_slen {v : Int32} (hv : Int32.ofNat G.sn = v) (hd : decode M.cc pc = .ok (.arraylength, 1)) (hq : pc + 1 = q) (kk : z_V l G M F rc rs (h) q (ls) (.int v :: st)) : z_V l G M F rc rs (h) pc (ls) (.ref G.sb :: st) := by
  subst hq
  intro p e s m args below meth cd H locs cells slots sl C R S L hc0 hs0
  obtain ⟨⟨scr, h1, h2, h3, h4, h5⟩, h6⟩ := C.2.2.2.2.2.2.2.2.2.1.2.2.2.2.2.2.2.2.2
  refine W.alen (n := v) C.1 C.2.1 (cell := scr) ?_ h2 ?_ rfl rfl hd (kk p e s m args below meth cd H locs cells slots sl C R S L hc0 hs0)
  · rw [S.2.1 _ (Array.getElem?_eq_some_iff.mp h1).1 (fun z => absurd h6 (Nat.not_lt.mpr z))]
    exact h1
  · rw [h4, ← hv]
theorem z_new (c : Nat) {i N : Nat} {C : String} {T : u_T} (hc : z_CL[c]? = some (C, T, N)) (h1 : Cond.classLink M.y.cls i C ∈ lw_all) (h2 : Cond.instantiable C N ∈ lw_all) (h3 : Cond.initialized C ∈ lw_all) (hd : decode M.cc pc = .ok (.new i, 3)) (hq : pc + 3 = q) {rc2 rs2 : Nat} (hrc : rc = rc2 + 1) (hrs : rs = rs2 + N) (kk : z_V l G M F rc2 rs2 (h.nw (10 + c, 0)) q (ls) (.ref h.n :: st)) : z_V l G M F rc rs (h) pc (ls) (st) := by
  subst hq
  intro p e s m args below meth cd H locs cells slots sl C R S L hc0 hs0
  have K := C.2.2.2.2.2.2.2.2.2.1
  have hts := C.2.2.2.2.2.2.2.1
  obtain ⟨ty1, -, ty3⟩ := z_tyof hc
  have hKn := K.1.1 c _ hc
  have en : H.size = h.n := R.1
  refine W.newcK C.1 C.2.1 C.2.2.2.2.2.1 (hts _ h1) (hts _ h2) (hts _ h3) rfl hd (by show cells + 1 ≤ M.mc; omega) (by show slots + N ≤ M.ms; omega) hKn.2.1 rfl fun H1 kC hkC e1 z1 o1 => ?_
  rw [en] at e1 o1 ⊢
  have hcell : z_cell G (10 + c, 0) (fun _ => 0) (fun _ => 0) (fun _ => none) h.n H1 := by
    refine ⟨fun z => ?_, fun z => ?_, fun z => ?_, fun c2 z => ?_⟩
    · have z1 : 10 + c = 1 ∨ 10 + c = 2 ∨ 10 + c = 3 := z
      omega
    · have z1 : 10 + c = 4 := z
      omega
    · have z1 : 10 + c < 10 := z.2
      omega
    · have z1 : 10 + c = 10 + c2 := z
      have hcc : c2 = c := by omega
      subst hcc
      exact ⟨_, hc, (u_born (z_FT c2) hts (z_in c2 _ hc) hKn hkC e1 ty1).to (fun j hj => z_dv (ty3 j hj))⟩
  exact kk p e s m args below meth cd H1 locs (cells + 1) (slots + N) sl C (R.new (by rw [z1, en]) (by rw [en]; exact o1) hcell) ⟨Nat.le_trans S.1 (by rw [z1, en]; omega), fun x g1 g2 => (o1 x (by have := S.1; omega)).trans (S.2.1 x g1 g2), S.2.2⟩ L (by omega) (by omega)
theorem z_newa (k : Nat) {n : Int32} {N : Nat} {atype : ArrayType} (hk : k < 5) (hk0 : 1 ≤ k) (hty : newarray.typeOf atype = z_AT k) (h1 : Cond.arrayClass (z_AT k) ∈ lw_all) (hn : ¬ n < 0) (hN : n.toNatClampNeg = N) (hb : N ≤ 60000000) (hd : decode M.cc pc = .ok (.newarray atype, 2)) (hq : pc + 2 = q) {rc2 rs2 : Nat} (hrc : rc = rc2 + 1) (hrs : rs = rs2 + N) (kk : z_V l G M F rc2 rs2 (h.nw (k, N)) q (ls) (.ref h.n :: st)) : z_V l G M F rc rs (h) pc (ls) (.int n :: st) := by
  subst hq
  intro p e s m args below meth cd H locs cells slots sl C R S L hc0 hs0
  have K := C.2.2.2.2.2.2.2.2.2.1
  have hts := C.2.2.2.2.2.2.2.1
  have en : H.size = h.n := R.1
  have hcb : N * componentBytes (newarray.typeOf atype) ≤ 536870912 := by
    rw [hty]
    match k, hk, hk0 with
    | 1, _, _ => show N * 4 ≤ _; omega
    | 2, _, _ => show N * 1 ≤ _; omega
    | 3, _, _ => show N * 1 ≤ _; omega
    | 4, _, _ => show N * 8 ≤ _; omega
  refine va_newaK C.1 C.2.1 (by rw [hty]; exact hts _ h1) rfl hd rfl hn hN hcb (by show cells + 1 ≤ M.mc; omega) (by show slots + N ≤ M.ms; omega) en fun H1 cA e1 z1 o1 hAr hNm => ?_
  have hca : cA = G.ca k := by
    have hRA := (K.arr k hk0 (by omega)).2
    rw [hty] at hNm
    match k, hk, hk0, hRA, hNm with
    | 1, _, _, hRA, hNm => exact Option.some.inj (hNm.symm.trans hRA)
    | 2, _, _, hRA, hNm => exact Option.some.inj (hNm.symm.trans hRA)
    | 3, _, _, hRA, hNm => exact Option.some.inj (hNm.symm.trans hRA)
    | 4, _, _, hRA, hNm => exact Option.some.inj (hNm.symm.trans hRA)
  subst hca
  have hcell : z_cell G (k, N) (fun _ => 0) (fun _ => 0) (fun _ => none) h.n H1 := by
    rw [hty] at e1
    match k, hk, hk0, e1 with
    | 1, _, _, e1 => exact ⟨fun _ => e1, fun z => (by cases z), fun z => absurd (show 5 ≤ 1 from z.1) (by decide), fun c z => absurd (show 1 = 10 + c from z) (by omega)⟩
    | 2, _, _, e1 => exact ⟨fun _ => e1, fun z => (by cases z), fun z => absurd (show 5 ≤ 2 from z.1) (by decide), fun c z => absurd (show 2 = 10 + c from z) (by omega)⟩
    | 3, _, _, e1 => exact ⟨fun _ => e1, fun z => (by cases z), fun z => absurd (show 5 ≤ 3 from z.1) (by decide), fun c z => absurd (show 3 = 10 + c from z) (by omega)⟩
    | 4, _, _, e1 => exact ⟨fun z => absurd (show 4 = 1 ∨ 4 = 2 ∨ 4 = 3 from z) (by decide), fun _ => e1, fun z => absurd (show 5 ≤ 4 from z.1) (by decide), fun c z => absurd (show 4 = 10 + c from z) (by omega)⟩
  exact kk p e s m args below meth cd H1 locs (cells + 1) (slots + N) sl C (R.new (by rw [z1, en]) (by rw [en]; exact o1) hcell) ⟨Nat.le_trans S.1 (by rw [z1, en]; omega), fun x g1 g2 => (o1 x (by have := S.1; omega)).trans (S.2.1 x g1 g2), S.2.2⟩ L (by omega) (by omega)
theorem z_newq (k : Nat) {i : Nat} {n : Int32} {N : Nat} {C : String} (hk : 5 ≤ k ∧ k < 10) (hty : z_AT k = .object C) (hC : C ∈ z_ao) (h1 : Cond.classLink M.y.cls i C ∈ lw_all) (hn : ¬ n < 0) (hN : n.toNatClampNeg = N) (hb : N ≤ 60000000) (hd : decode M.cc pc = .ok (.anewarray i, 3)) (hq : pc + 3 = q) {rc2 rs2 : Nat} (hrc : rc = rc2 + 1) (hrs : rs = rs2 + N) (kk : z_V l G M F rc2 rs2 (h.nw (k, N)) q (ls) (.ref h.n :: st)) : z_V l G M F rc rs (h) pc (ls) (.int n :: st) := by
  subst hq; subst hN
  intro p e s m args below meth cd H locs cells slots sl C R S L hc0 hs0
  have K := C.2.2.2.2.2.2.2.2.2.1
  have hts := C.2.2.2.2.2.2.2.1
  have en : H.size = h.n := R.1
  refine W.anew C.1 C.2.1 C.2.2.2.2.2.1 (hts _ h1) (va_AO.use (K.2.2.1 _ hC)) rfl hd rfl hn (by omega) (by show cells + 1 ≤ M.mc; omega) (by show slots + _ ≤ M.ms; omega) fun cA kA comp f1 f2 f3 f4 => ?_
  have hRA := (K.arr k (by omega) hk.2).2
  rw [hty] at hRA
  obtain ⟨kA2, comp2, g1, g2, g3, g4⟩ := hRA
  have hca : cA = G.ca k := Option.some.inj (f1.symm.trans g4)
  subst hca
  generalize hH1 : H.push ({ cls := G.ca k, slots := Array.replicate n.toNatClampNeg .null, vm := .none } : Cell) = H1
  have z1 : H1.size = H.size + 1 := by rw [← hH1, Array.size_push]
  have e1 : H1[h.n]? = some (arrV (G.ca k) n.toNatClampNeg (fun _ => .null)) := by rw [← hH1, ← en, Array.getElem?_push_size, ← arrV_new]
  have o1 : ∀ x, x < H.size → H1[x]? = H[x]? := fun x hx => by rw [← hH1, Array.getElem?_push, if_neg (Nat.ne_of_lt hx)]
  rw [en]
  have hcell : z_cell G (k, n.toNatClampNeg) (fun _ => 0) (fun _ => 0) (fun _ => none) h.n H1 :=
    ⟨fun z => absurd (show k = 1 ∨ k = 2 ∨ k = 3 from z) (by omega), fun z => absurd (show k = 4 from z) (by omega), fun _ => e1, fun c z => absurd (show k = 10 + c from z) (by omega)⟩
  exact kk p e s m args below meth cd H1 locs (cells + 1) (slots + _) sl C (R.new z1 o1 hcell) ⟨Nat.le_trans S.1 (by rw [z1]; omega), fun x g1 g2 => (o1 x (by have := S.1; omega)).trans (S.2.1 x g1 g2), S.2.2⟩ L (by omega) (by omega)
end
