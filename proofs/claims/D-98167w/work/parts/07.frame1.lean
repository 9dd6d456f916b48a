/-! F1: abstract heaps, the judgement z_V over them. z_H: int slots, long slots, reference slots, types, size. A type is (kind, length): 0 nothing, 1 int[], 2 byte[], 3 boolean[], 4 long[], 5 Object[], 6 Order[], 7 Game[], 8 Mark[], 9 Row[], 10 + c an object of the class c of z_CL -/
set_option maxRecDepth 100000
def z_up {α : Type} (f : Nat → α) (k : Nat) (v : α) : Nat → α := fun j => if j = k then v else f j
theorem z_up_s {α : Type} (f : Nat → α) (k : Nat) (v : α) : z_up f k v k = v := by simp [z_up]
theorem z_up_n {α : Type} (f : Nat → α) {k j : Nat} (v : α) (h : j ≠ k) : z_up f k v j = f j := by simp [z_up, h]
def z_H : Type := (Nat → Nat → Int32) × (Nat → Nat → Int64) × (Nat → Nat → Option Nat) × (Nat → Nat × Nat) × Nat
def z_H.I (h : z_H) : Nat → Nat → Int32 := h.1
def z_H.L (h : z_H) : Nat → Nat → Int64 := h.2.1
def z_H.P (h : z_H) : Nat → Nat → Option Nat := h.2.2.1
def z_H.T (h : z_H) : Nat → Nat × Nat := h.2.2.2.1
def z_H.n (h : z_H) : Nat := h.2.2.2.2
def z_H.sI (h : z_H) (a k : Nat) (v : Int32) : z_H := (z_up h.I a (z_up (h.I a) k v), h.L, h.P, h.T, h.n)
def z_H.sL (h : z_H) (a k : Nat) (v : Int64) : z_H := (h.I, z_up h.L a (z_up (h.L a) k v), h.P, h.T, h.n)
def z_H.sP (h : z_H) (a k : Nat) (v : Option Nat) : z_H := (h.I, h.L, z_up h.P a (z_up (h.P a) k v), h.T, h.n)
def z_H.nw (h : z_H) (t : Nat × Nat) : z_H := (z_up h.I h.n (fun _ => 0), z_up h.L h.n (fun _ => 0), z_up h.P h.n (fun _ => none), z_up h.T h.n t, h.n + 1)
def z_T0 : u_T := fun _ => ("", "", "", false)
def z_CL : List vw_C := [(RX1, TX1, 23), (RX2, TX2, 8), (RX4, z_T0, 0), (RX5, z_T0, 0), (RX6, z_T0, 0), (RX7, z_T0, 0), (RX8, z_T0, 0), (RX9, TX9, 12), (RX10, TX10, 7), (RX11, TX11, 24), (RX12, TX12, 2), (RX13, TX13, 56), (RX14, TX14, 7), (RX16, TX16, 1), (RX17, TX17, 1), (RX18, TX18, 1), (RX19, TX19, 3), (RX20, TX20, 3), (RX21, TX21, 4), (RX22, TX22, 3), (RX23, TX23, 4), (RJ2, TJ2, 3), (RJ3, TJ3, 4), (RJ13, TJ13, 4)]
def z_FT : Nat → Nat → FieldType := fun c => match c with
  | 0 => tyX1
  | 1 => tyX2
  | 7 => tyX9
  | 8 => tyX10
  | 9 => tyX11
  | 10 => tyX12
  | 11 => tyX13
  | 12 => tyX14
  | 13 => tyX16
  | 14 => tyX17
  | 15 => tyX18
  | 16 => tyX19
  | 17 => tyX20
  | 18 => tyX21
  | 19 => tyX22
  | 20 => tyX23
  | 21 => tyJ2
  | 22 => tyJ3
  | 23 => tyJ13
  | _ => fun _ => .int
def z_fv (t : FieldType) (i : Int32) (l : Int64) (r : Option Nat) : Value := match t with
  | .long => .long l
  | .object _ => va_rf r
  | .array _ => va_rf r
  | _ => .int i
def z_AT : Nat → FieldType := fun k => match k with
  | 1 => .int
  | 2 => .byte
  | 3 => .boolean
  | 4 => .long
  | 5 => .object "java/lang/Object"
  | 6 => .object "BeggarHeaps$Order"
  | 7 => .object "BeggarHeaps$Game"
  | 8 => .object "BeggarHeaps$Mark"
  | _ => .object "BeggarHeaps$Row"
/-- the unknowns of a run: classes and slots, array classes, the first new address, the Strings' cells (object, bytes), the script (address, length, ints) -/
def z_G : Type := va_G × (Nat → ClassId) × Nat × (Nat → Nat) × (Nat → Nat) × Nat × Nat × (Nat → Int32)
def z_G.D (G : z_G) : va_G := G.1
def z_G.ca (G : z_G) : Nat → ClassId := G.2.1
def z_G.bs (G : z_G) : Nat := G.2.2.1
def z_G.sk (G : z_G) : Nat → Nat := G.2.2.2.1
def z_G.sv (G : z_G) : Nat → Nat := G.2.2.2.2.1
def z_G.sb (G : z_G) : Nat := G.2.2.2.2.2.1
def z_G.sn (G : z_G) : Nat := G.2.2.2.2.2.2.1
def z_G.sx (G : z_G) : Nat → Int32 := G.2.2.2.2.2.2.2
def z_G.fr (G : z_G) : Nat → Prop := fun q => G.bs ≤ q
def z_TY (G : z_G) : List (ClassId × FieldType) := [(G.ca 1, z_AT 1), (G.ca 2, z_AT 2), (G.ca 3, z_AT 3), (G.ca 4, z_AT 4), (G.ca 5, z_AT 5), (G.ca 6, z_AT 6), (G.ca 7, z_AT 7), (G.ca 8, z_AT 8), (G.ca 9, z_AT 9)]
/-- what the cell of a type holds -/
def z_cell (G : z_G) (t : Nat × Nat) (i : Nat → Int32) (l : Nat → Int64) (r : Nat → Option Nat) (a : Nat) (H : Heap) : Prop :=
  (t.1 = 1 ∨ t.1 = 2 ∨ t.1 = 3 → H[a]? = some (arrV (G.ca t.1) t.2 (fun j => .int (i j)))) ∧
  (t.1 = 4 → H[a]? = some (arrV (G.ca 4) t.2 (fun j => .long (l j)))) ∧
  (5 ≤ t.1 ∧ t.1 < 10 → H[a]? = some (arrV (G.ca t.1) t.2 (fun j => va_rf (r j)))) ∧
  (∀ c, t.1 = 10 + c → ∃ q : vw_C, z_CL[c]? = some q ∧ t_OB a (G.D.1 c) q.2.2 (G.D.2 c) H (fun j => z_fv (z_FT c j) (i j) (l j) (r j)))
/-- the machine's heap holds the abstract one -/
def z_R (G : z_G) (h : z_H) (H : Heap) : Prop := H.size = h.n ∧ G.bs ≤ h.n ∧ ∀ a, (h.T a).1 ≠ 0 → G.bs ≤ a ∧ a < h.n ∧ z_cell G (h.T a) (h.I a) (h.L a) (h.P a) a H
theorem z_cell.kept {G : z_G} {t : Nat × Nat} {i : Nat → Int32} {l : Nat → Int64} {r : Nat → Option Nat} {a : Nat} {H H1 : Heap} (h : z_cell G t i l r a H) (e : H1[a]? = H[a]?) : z_cell G t i l r a H1 :=
  ⟨fun q => e.trans (h.1 q), fun q => e.trans (h.2.1 q), fun q => e.trans (h.2.2.1 q), fun c q => by obtain ⟨x, h1, h2⟩ := h.2.2.2 c q; exact ⟨x, h1, h2.kept e⟩⟩
/-- the words of the tables that don't ride in the lists -/
def z_nwOk (w : Cond) : Bool := match w with
  | .fieldLinkNest _ _ _ _ _ _ => true
  | .methodLinkNest _ _ _ _ => true
  | .castable _ _ => true
  | .declares _ => true
  | _ => false
theorem z_nw_moved {w : Cond} (hw : z_nwOk w = true) {s U : State} (hW : s.WarmedH U.vm) (h : va_Nw w s) : va_Nw w U := by
  unfold z_nwOk at hw
  split at hw
  · exact va_Nw.warmF hW h
  · exact va_Nw.warmM hW h
  · exact va_Nw.warmC hW h
  · exact va_Nw.warmD hW h
  · cases hw
def z_nw : List Cond := lw_tbl.filter z_nwOk
def z_ao : List String := ["java/lang/Object", "BeggarHeaps$Order", "BeggarHeaps$Game", "BeggarHeaps$Mark", "BeggarHeaps$Row"]
def z_st : List (Nat × String) := [(48, "()<=+-*,;"), (134, "lay first bet limit kind pack "), (147, "under about high low halves "), (152, "left right "), (243, "ahead more heaps turns "), (245, "not "), (227, "and or "), (83, "kind pays pack lay first bet limit under about high low halves left right nobody opening won not and or "), (168, "pays "), (191, "won "), (207, "opening "), (219, "left right nobody ")]
def z_len : List Nat := [9, 30, 28, 11, 23, 4, 7, 104, 5, 4, 8, 18]
def z_byt : List (List Int32) := [[40, 41, 60, 61, 43, 45, 42, 44, 59], [108, 97, 121, 32, 102, 105, 114, 115, 116, 32, 98, 101, 116, 32, 108, 105, 109, 105, 116, 32, 107, 105, 110, 100, 32, 112, 97, 99, 107, 32], [117, 110, 100, 101, 114, 32, 97, 98, 111, 117, 116, 32, 104, 105, 103, 104, 32, 108, 111, 119, 32, 104, 97, 108, 118, 101, 115, 32], [108, 101, 102, 116, 32, 114, 105, 103, 104, 116, 32], [97, 104, 101, 97, 100, 32, 109, 111, 114, 101, 32, 104, 101, 97, 112, 115, 32, 116, 117, 114, 110, 115, 32], [110, 111, 116, 32], [97, 110, 100, 32, 111, 114, 32], [107, 105, 110, 100, 32, 112, 97, 121, 115, 32, 112, 97, 99, 107, 32, 108, 97, 121, 32, 102, 105, 114, 115, 116, 32, 98, 101, 116, 32, 108, 105, 109, 105, 116, 32, 117, 110, 100, 101, 114, 32, 97, 98, 111, 117, 116, 32, 104, 105, 103, 104, 32, 108, 111, 119, 32, 104, 97, 108, 118, 101, 115, 32, 108, 101, 102, 116, 32, 114, 105, 103, 104, 116, 32, 110, 111, 98, 111, 100, 121, 32, 111, 112, 101, 110, 105, 110, 103, 32, 119, 111, 110, 32, 110, 111, 116, 32, 97, 110, 100, 32, 111, 114, 32], [112, 97, 121, 115, 32], [119, 111, 110, 32], [111, 112, 101, 110, 105, 110, 103, 32], [108, 101, 102, 116, 32, 114, 105, 103, 104, 116, 32, 110, 111, 98, 111, 100, 121, 32]]
/-- what the run knows of the machine's tables and of what was there before -/
def z_K (G : z_G) (s : State) : Prop := va_K G.D z_CL (z_TY G) s ∧ (∀ w ∈ z_nw, va_Nw w s) ∧ (∀ C ∈ z_ao, va_AO C s) ∧ G.bs ≤ s.heap.size ∧
  va_Z "java/lang/String" "COMPACT_STRINGS" "Z" (.int 1) G.fr s s.heap ∧
  vx_Zq Bundle.tN "UNASSIGNED_STACK" Bundle.steD G.fr s s.heap ∧ vx_Zq Bundle.tN "SUPPRESSED_SENTINEL" Bundle.listD G.fr s s.heap ∧
  vk_S 12 z_len z_byt G.sk G.sv G.fr s s.heap ∧ (∀ (i : Nat) (q : Nat × String), z_st[i]? = some q → vk_R "BeggarHeaps$Reader" q.1 q.2 (G.sk i) s) ∧
  (va_X G.sb G.sn G.sx s s.heap ∧ G.sb < G.bs)
theorem z_K.moved {G : z_G} {s U : State} (h : z_K G s) (hW : s.WarmedH U.vm) (hz : s.heap.size ≤ U.heap.size) (hq : ∀ q : Nat, q < s.heap.size → ¬ G.fr q → U.heap[q]? = s.heap[q]?) : z_K G U := by
  obtain ⟨h1, h2, h3, h4, h5, h6, h7, h8, h9, h10, h11⟩ := h
  have hvm := hW.alike
  exact ⟨h1.moved hvm, fun w hw => z_nw_moved (List.mem_filter.mp hw).2 hW (h2 w hw), fun C hC => (h3 C hC).moved hvm, Nat.le_trans h4 hz,
    (h5.moved hvm).kept hq, (h6.moved hvm).kept hq, (h7.moved hvm).kept hq, (h8.moved hvm).kept hq, fun i q e => (h9 i q e).warm hW, (h10.moved hvm).kept (hq _ (Nat.lt_of_lt_of_le h11 h4) (fun z => absurd h11 (Nat.not_lt.mpr z))), h11⟩
/-- a method: its name, code, locals, answer, room (frames, cells, slots, locals), handlers -/
def z_M : Type := MethodName × ByteArray × Nat × Option FieldType × (Nat × Nat × Nat × Nat) × List ExceptionTableEntry
def z_M.y (M : z_M) : MethodName := M.1
def z_M.cc (M : z_M) : ByteArray := M.2.1
def z_M.nL (M : z_M) : Nat := M.2.2.1
def z_M.rt (M : z_M) : Option FieldType := M.2.2.2.1
def z_M.d (M : z_M) : Nat := M.2.2.2.2.1.1
def z_M.mc (M : z_M) : Nat := M.2.2.2.2.1.2.1
def z_M.ms (M : z_M) : Nat := M.2.2.2.2.1.2.2.1
def z_M.lo (M : z_M) : Nat := M.2.2.2.2.1.2.2.2
def z_M.et (M : z_M) : List ExceptionTableEntry := M.2.2.2.2.2
def z_M.rm (M : z_M) : Room := { frames := M.d, cells := M.mc, slots := M.ms, locals := M.lo }
/-- the frame's fixed things -/
def z_C (l : Launch) (G : z_G) (M : z_M) (p : Program) (s : State) (m : MethodId) (args : Array Value) (meth : Method) (c : Code) : Prop :=
  p.tables.exec = Jvm.exec ∧ c.code = M.cc ∧ c.maxLocals = M.nL ∧ meth.sig.returnType = M.rt ∧ meth.locks = false ∧ s.vm.findClass M.y.cls = some m.cls ∧ meth.name = M.y.name ∧ (∀ w ∈ lw_all, w.before args s = true) ∧ c.exceptionTable.toList = M.et ∧ z_K G s ∧ l.stackTraces = false
def z_ls (sl : Array Slot) (n : Nat) (ls : List (Option Value)) : Prop := sl.size = n ∧ lv_wf sl ∧ ∀ (i : Nat) (v : Value), ls[i]? = some (some v) → sl[i]? = some (.val v)
def z_F : Type := State → Array Value → List Frame → State → Prop
/-- from here on the machine comes to F; rc cells and rs slots may still be made -/
def z_V (l : Launch) (G : z_G) (M : z_M) (F : z_F) (rc rs : Nat) (h : z_H) (pc : Nat) (ls : List (Option Value)) (st : List Value) : Prop :=
  ∀ (p : Program) (e : Env) (s : State) (m : MethodId) (args : Array Value) (below : List Frame) (meth : Method) (c : Code) (H : Heap) (locs : List Loc) (cells slots : Nat) (sl : Array Slot),
    z_C l G M p s m args meth c → z_R G h H → va_S G.fr s.heap H locs → z_ls sl M.nL ls → cells + rc ≤ M.mc → slots + rs ≤ M.ms → W p l e M.rm s m args below meth c H locs cells slots (F s args below) (F0 m pc sl st)
def z_al : Nat → List (Option Value) → List (Nat × Value)
  | _, [] => []
  | k, none :: t => z_al (k + 1) t
  | k, some v :: t => (k, v) :: z_al (k + 1) t
theorem z_al_in {v : Value} : ∀ (ls : List (Option Value)) (k i : Nat), (i, v) ∈ z_al k ls ↔ ∃ j, i = k + j ∧ ls[j]? = some (some v) := by
  intro ls
  induction ls with
  | nil => intro k i; simp [z_al]
  | cons a t ih =>
    intro k i
    cases a with
    | none =>
      rw [z_al, ih]
      constructor
      · rintro ⟨j, e, h⟩
        exact ⟨j + 1, by omega, by simpa using h⟩
      · rintro ⟨j, e, h⟩
        cases j with
        | zero => simp at h
        | succ j => exact ⟨j, by omega, by simpa using h⟩
    | some x =>
      rw [z_al, List.mem_cons, ih]
      constructor
      · rintro (e | ⟨j, e, h⟩)
        · cases e
          exact ⟨0, rfl, rfl⟩
        · exact ⟨j + 1, by omega, by simpa using h⟩
      · rintro ⟨j, e, h⟩
        cases j with
        | zero =>
          have h2 : x = v := by simpa using h
          rw [h2, e]
          exact Or.inl rfl
        | succ j => exact Or.inr ⟨j, by omega, by simpa using h⟩
theorem z_ls.has {sl : Array Slot} {n : Nat} {ls : List (Option Value)} (h : z_ls sl n ls) : lv_has sl n (z_al 0 ls) :=
  ⟨h.1, h.2.1, fun q hq => by obtain ⟨j, e, hj⟩ := (z_al_in (v := q.2) ls 0 q.1).mp hq; rw [e, Nat.zero_add]; exact h.2.2 j q.2 hj⟩
def z_kill (ls : List (Option Value)) (i : Nat) : List (Option Value) := match i with
  | 0 => ls
  | j + 1 => match ls[j]? with
    | some (some (.long _)) => ls.set j none
    | some (some (.double _)) => ls.set j none
    | _ => ls
def z_set (ls : List (Option Value)) (i : Nat) (v : Value) : List (Option Value) := (z_kill ls i).set i (some v)
def z_set2 (ls : List (Option Value)) (i : Nat) (v : Value) : List (Option Value) := ((z_kill ls i).set i (some v)).set (i + 1) none
theorem z_cat_iff (v : Value) : v.category = 2 ↔ (∃ x, v = .long x) ∨ ∃ x, v = .double x := by cases v <;> simp [Value.category]
theorem z_kill_at {ls : List (Option Value)} {i j : Nat} {v : Value} (h : (z_kill ls i)[j]? = some (some v)) : ls[j]? = some (some v) ∧ ¬ (j + 1 = i ∧ v.category = 2) := by
  unfold z_kill at h
  split at h
  · exact ⟨h, by omega⟩
  · rename_i k
    have key : ∀ w : Value, ls[k]? = some (some w) → (ls.set k none)[j]? = some (some v) → ls[j]? = some (some v) ∧ ¬ (j + 1 = k + 1 ∧ v.category = 2) := by
      intro w hw h
      by_cases e : j = k
      · subst e
        have hl : j < ls.length := (List.getElem?_eq_some_iff.mp hw).1
        simp [hl] at h
      · rw [List.getElem?_set_ne (fun q => e q.symm)] at h
        exact ⟨h, by omega⟩
    split at h
    · rename_i w e
      exact key _ e h
    · rename_i w e
      exact key _ e h
    · rename_i n1 n2
      refine ⟨h, fun ⟨e, hc⟩ => ?_⟩
      have e2 : j = k := by omega
      subst e2
      rcases (z_cat_iff v).mp hc with ⟨x, rfl⟩ | ⟨x, rfl⟩
      · exact n1 x h
      · exact n2 x h
theorem z_store1 {sl : Array Slot} {n i : Nat} {ls ls' : List (Option Value)} {v : Value} (e : z_set ls i v = ls') (h2 : lv_has sl n ((i, v) :: (z_al 0 ls).filter (fun q => !(q.1 == i) && !(q.1 + 1 == i && q.2.category == 2)))) : z_ls sl n ls' := by
  refine ⟨h2.1, h2.2.1, fun j w hj => ?_⟩
  rw [← e, z_set] at hj
  by_cases hji : j = i
  · subst hji
    have hl : j < (z_kill ls j).length := by
      have := (List.getElem?_eq_some_iff.mp hj).1
      simpa using this
    have hw : v = w := by simpa [hl] using hj
    rw [← hw]
    exact h2.2.2 (j, v) List.mem_cons_self
  · rw [List.getElem?_set_ne (fun q => hji q.symm)] at hj
    obtain ⟨g1, g2⟩ := z_kill_at hj
    refine h2.2.2 (j, w) (List.mem_cons_of_mem _ (List.mem_filter.mpr ⟨(z_al_in ls 0 j).mpr ⟨j, by omega, g1⟩, ?_⟩))
    simp only [Bool.and_eq_true, Bool.not_eq_true', beq_eq_false_iff_ne, ne_eq, Bool.and_eq_false_iff]
    refine ⟨hji, ?_⟩
    by_cases hc : j + 1 = i
    · exact Or.inr (fun q => g2 ⟨hc, q⟩)
    · exact Or.inl hc
theorem z_store2 {sl : Array Slot} {n i : Nat} {ls ls' : List (Option Value)} {v : Value} (e : z_set2 ls i v = ls') (h2 : lv_has sl n ((i, v) :: (z_al 0 ls).filter (fun q => !(q.1 == i) && (!(q.1 == i + 1) && !(q.1 + 1 == i && q.2.category == 2))))) : z_ls sl n ls' := by
  refine ⟨h2.1, h2.2.1, fun j w hj => ?_⟩
  rw [← e, z_set2] at hj
  by_cases hj1 : j = i + 1
  · subst hj1
    have hl : i + 1 < ((z_kill ls i).set i (some v)).length := by
      have := (List.getElem?_eq_some_iff.mp hj).1
      simpa using this
    rw [List.getElem?_set_self hl] at hj
    cases hj
  · rw [List.getElem?_set_ne (fun q => hj1 q.symm)] at hj
    by_cases hji : j = i
    · subst hji
      have hl : j < (z_kill ls j).length := by
        have := (List.getElem?_eq_some_iff.mp hj).1
        simpa using this
      have hw : v = w := by simpa [hl] using hj
      rw [← hw]
      exact h2.2.2 (j, v) List.mem_cons_self
    · rw [List.getElem?_set_ne (fun q => hji q.symm)] at hj
      obtain ⟨g1, g2⟩ := z_kill_at hj
      refine h2.2.2 (j, w) (List.mem_cons_of_mem _ (List.mem_filter.mpr ⟨(z_al_in ls 0 j).mpr ⟨j, by omega, g1⟩, ?_⟩))
      simp only [Bool.and_eq_true, Bool.not_eq_true', beq_eq_false_iff_ne, ne_eq, Bool.and_eq_false_iff]
      refine ⟨hji, hj1, ?_⟩
      by_cases hc : j + 1 = i
      · exact Or.inr (fun q => g2 ⟨hc, q⟩)
      · exact Or.inl hc
section
variable {l : Launch} {G : z_G} {M : z_M} {F : z_F} {rc rs pc q : Nat} {h : z_H} {ls : List (Option Value)} {st : List Value}
theorem z_iconst {n : Int} {v : Int32} (hd : decode M.cc pc = .ok (.iconst n, 1)) (hv : Int32.ofInt n = v) (hq : pc + 1 = q) (kk : z_V l G M F rc rs h q ls (.int v :: st)) : z_V l G M F rc rs h pc ls (st) := by
  subst hq
  intro p e s m args below meth c H locs cells slots sl C R S L hc hs
  exact lv_iconst C.1 C.2.1 hd hv (kk p e s m args below meth c H locs cells slots sl C R S L hc hs)
theorem z_bipush {n : Int} {v : Int32} (hd : decode M.cc pc = .ok (.bipush n, 2)) (hv : (Int8.ofInt n).toInt32 = v) (hq : pc + 2 = q) (kk : z_V l G M F rc rs h q ls (.int v :: st)) : z_V l G M F rc rs h pc ls (st) := by
  subst hq
  intro p e s m args below meth c H locs cells slots sl C R S L hc hs
  exact lv_bipush C.1 C.2.1 hd hv (kk p e s m args below meth c H locs cells slots sl C R S L hc hs)
theorem z_sipush {n : Int} {v : Int32} (hd : decode M.cc pc = .ok (.sipush n, 3)) (hv : (Int16.ofInt n).toInt32 = v) (hq : pc + 3 = q) (kk : z_V l G M F rc rs h q ls (.int v :: st)) : z_V l G M F rc rs h pc ls (st) := by
  subst hq
  intro p e s m args below meth c H locs cells slots sl C R S L hc hs
  exact lv_sipush C.1 C.2.1 hd hv (kk p e s m args below meth c H locs cells slots sl C R S L hc hs)
theorem z_lconst {n : Fin 2} {v : Int64} (hd : decode M.cc pc = .ok (.lconst n, 1)) (hv : Int64.ofNat (n : Nat) = v) (hq : pc + 1 = q) (kk : z_V l G M F rc rs h q ls (.long v :: st)) : z_V l G M F rc rs h pc ls (st) := by
  subst hq
  intro p e s m args below meth c H locs cells slots sl C R S L hc hs
  exact lv_lconst C.1 C.2.1 hd hv (kk p e s m args below meth c H locs cells slots sl C R S L hc hs)
theorem z_null (hd : decode M.cc pc = .ok (.aconst_null, 1)) (hq : pc + 1 = q) (kk : z_V l G M F rc rs h q ls (.null :: st)) : z_V l G M F rc rs h pc ls (st) := by
  subst hq
  intro p e s m args below meth c H locs cells slots sl C R S L hc hs
  exact lv_null C.1 C.2.1 hd (kk p e s m args below meth c H locs cells slots sl C R S L hc hs)
theorem z_ldc2 {i : Nat} {v : Int64} (hd : decode M.cc pc = .ok (.ldc2_w i, 3)) (hw : Cond.constantLong M.y.cls i v ∈ lw_all) (hq : pc + 3 = q) (kk : z_V l G M F rc rs h q ls (.long v :: st)) : z_V l G M F rc rs h pc ls (st) := by
  subst hq
  intro p e s m args below meth c H locs cells slots sl C R S L hc hs
  exact lv_ldc2 C.1 C.2.1 C.2.2.2.2.2.1 (C.2.2.2.2.2.2.2.1 _ hw) hd (kk p e s m args below meth c H locs cells slots sl C R S L hc hs)
theorem z_ldc {i : Nat} {v : Int32} (hd : decode M.cc pc = .ok (.ldc i, 2)) (hw : Cond.constant M.y.cls i v ∈ lw_all) (hq : pc + 2 = q) (kk : z_V l G M F rc rs h q ls (.int v :: st)) : z_V l G M F rc rs h pc ls (st) := by
  subst hq
  intro p e s m args below meth c H locs cells slots sl C R S L hc hs
  exact lv_ldc C.1 C.2.1 C.2.2.2.2.2.1 (C.2.2.2.2.2.2.2.1 _ hw) hd (kk p e s m args below meth c H locs cells slots sl C R S L hc hs)
theorem z_ldcS {i j : Nat} {tx : String} (hd : decode M.cc pc = .ok (.ldc i, 2)) (hy : M.y.cls = "BeggarHeaps$Reader") (hw : z_st[j]? = some (i, tx)) (hq : pc + 2 = q) (kk : z_V l G M F rc rs h q ls (.ref (G.sk j) :: st)) : z_V l G M F rc rs h pc ls (st) := by
  subst hq
  intro p e s m args below meth c H locs cells slots sl C R S L hc hs
  exact va_ldcS C.1 C.2.1 (hy ▸ C.2.2.2.2.2.1) (C.2.2.2.2.2.2.2.2.2.1.2.2.2.2.2.2.2.2.1 j _ hw) hd (kk p e s m args below meth c H locs cells slots sl C R S L hc hs)
theorem z_iload_n {k : Fin 4} {i : Nat} {x : Int32} (hd : decode M.cc pc = .ok (.iload_n k, 1)) (hi : (k : Nat) = i) (hv : ls[i]? = some (some (.int x))) (hq : pc + 1 = q) (kk : z_V l G M F rc rs h q ls (.int x :: st)) : z_V l G M F rc rs h pc ls (st) := by
  subst hq
  intro p e s m args below meth c H locs cells slots sl C R S L hc hs
  exact lv_iload_n C.1 C.2.1 hd hi (L.2.2 _ _ hv) (kk p e s m args below meth c H locs cells slots sl C R S L hc hs)
theorem z_iload {i : Nat} {x : Int32} (hd : decode M.cc pc = .ok (.iload i, 2)) (hv : ls[i]? = some (some (.int x))) (hq : pc + 2 = q) (kk : z_V l G M F rc rs h q ls (.int x :: st)) : z_V l G M F rc rs h pc ls (st) := by
  subst hq
  intro p e s m args below meth c H locs cells slots sl C R S L hc hs
  exact lv_iload C.1 C.2.1 hd (L.2.2 _ _ hv) (kk p e s m args below meth c H locs cells slots sl C R S L hc hs)
theorem z_lload_n {k : Fin 4} {i : Nat} {x : Int64} (hd : decode M.cc pc = .ok (.lload_n k, 1)) (hi : (k : Nat) = i) (hv : ls[i]? = some (some (.long x))) (hq : pc + 1 = q) (kk : z_V l G M F rc rs h q ls (.long x :: st)) : z_V l G M F rc rs h pc ls (st) := by
  subst hq
  intro p e s m args below meth c H locs cells slots sl C R S L hc hs
  exact lv_lload_n C.1 C.2.1 hd hi (L.2.2 _ _ hv) (kk p e s m args below meth c H locs cells slots sl C R S L hc hs)
theorem z_lload {i : Nat} {x : Int64} (hd : decode M.cc pc = .ok (.lload i, 2)) (hv : ls[i]? = some (some (.long x))) (hq : pc + 2 = q) (kk : z_V l G M F rc rs h q ls (.long x :: st)) : z_V l G M F rc rs h pc ls (st) := by
  subst hq
  intro p e s m args below meth c H locs cells slots sl C R S L hc hs
  exact lv_lload C.1 C.2.1 hd (L.2.2 _ _ hv) (kk p e s m args below meth c H locs cells slots sl C R S L hc hs)
theorem z_aload_n {k : Fin 4} {i : Nat} {x : Nat} (hd : decode M.cc pc = .ok (.aload_n k, 1)) (hi : (k : Nat) = i) (hv : ls[i]? = some (some (.ref x))) (hq : pc + 1 = q) (kk : z_V l G M F rc rs h q ls (.ref x :: st)) : z_V l G M F rc rs h pc ls (st) := by
  subst hq
  intro p e s m args below meth c H locs cells slots sl C R S L hc hs
  exact lv_aload_n C.1 C.2.1 hd hi (L.2.2 _ _ hv) (kk p e s m args below meth c H locs cells slots sl C R S L hc hs)
theorem z_aload {i : Nat} {x : Nat} (hd : decode M.cc pc = .ok (.aload i, 2)) (hv : ls[i]? = some (some (.ref x))) (hq : pc + 2 = q) (kk : z_V l G M F rc rs h q ls (.ref x :: st)) : z_V l G M F rc rs h pc ls (st) := by
  subst hq
  intro p e s m args below meth c H locs cells slots sl C R S L hc hs
  exact lv_aload C.1 C.2.1 hd (L.2.2 _ _ hv) (kk p e s m args below meth c H locs cells slots sl C R S L hc hs)
theorem z_aload_nN {k : Fin 4} {i : Nat} (hd : decode M.cc pc = .ok (.aload_n k, 1)) (hi : (k : Nat) = i) (hv : ls[i]? = some (some .null)) (hq : pc + 1 = q) (kk : z_V l G M F rc rs h q ls (.null :: st)) : z_V l G M F rc rs h pc ls (st) := by
  subst hq
  intro p e s m args below meth c H locs cells slots sl C R S L hc hs
  exact lv_aload_nN C.1 C.2.1 hd hi (L.2.2 _ _ hv) (kk p e s m args below meth c H locs cells slots sl C R S L hc hs)
theorem z_aloadN {i : Nat} (hd : decode M.cc pc = .ok (.aload i, 2)) (hv : ls[i]? = some (some .null)) (hq : pc + 2 = q) (kk : z_V l G M F rc rs h q ls (.null :: st)) : z_V l G M F rc rs h pc ls (st) := by
  subst hq
  intro p e s m args below meth c H locs cells slots sl C R S L hc hs
  exact lv_aloadN C.1 C.2.1 hd (L.2.2 _ _ hv) (kk p e s m args below meth c H locs cells slots sl C R S L hc hs)
theorem z_istore_n {k : Fin 4} {i : Nat} {ls2 : List (Option Value)} {x : Int32} (hd : decode M.cc pc = .ok (.istore_n k, 1)) (hi : (k : Nat) = i) (hn : i < M.nL) (hl : z_set ls i (.int x) = ls2) (hq : pc + 1 = q) (kk : z_V l G M F rc rs h q ls2 (st)) : z_V l G M F rc rs h pc ls (.int x :: st) := by
  subst hq
  intro p e s m args below meth c H locs cells slots sl C R S L hc hs
  exact lv_istore_n C.1 C.2.1 hd hi L.has hn rfl (fun sl2 h2 => kk p e s m args below meth c H locs cells slots sl2 C R S (z_store1 hl h2) hc hs)
theorem z_istore {i : Nat} {ls2 : List (Option Value)} {x : Int32} (hd : decode M.cc pc = .ok (.istore i, 2)) (hn : i < M.nL) (hl : z_set ls i (.int x) = ls2) (hq : pc + 2 = q) (kk : z_V l G M F rc rs h q ls2 (st)) : z_V l G M F rc rs h pc ls (.int x :: st) := by
  subst hq
  intro p e s m args below meth c H locs cells slots sl C R S L hc hs
  exact lv_istore C.1 C.2.1 hd L.has hn rfl (fun sl2 h2 => kk p e s m args below meth c H locs cells slots sl2 C R S (z_store1 hl h2) hc hs)
theorem z_lstore_n {k : Fin 4} {i : Nat} {ls2 : List (Option Value)} {x : Int64} (hd : decode M.cc pc = .ok (.lstore_n k, 1)) (hi : (k : Nat) = i) (hn : i + 1 < M.nL) (hl : z_set2 ls i (.long x) = ls2) (hq : pc + 1 = q) (kk : z_V l G M F rc rs h q ls2 (st)) : z_V l G M F rc rs h pc ls (.long x :: st) := by
  subst hq
  intro p e s m args below meth c H locs cells slots sl C R S L hc hs
  exact lv_lstore_n C.1 C.2.1 hd hi L.has hn rfl (fun sl2 h2 => kk p e s m args below meth c H locs cells slots sl2 C R S (z_store2 hl h2) hc hs)
theorem z_lstore {i : Nat} {ls2 : List (Option Value)} {x : Int64} (hd : decode M.cc pc = .ok (.lstore i, 2)) (hn : i + 1 < M.nL) (hl : z_set2 ls i (.long x) = ls2) (hq : pc + 2 = q) (kk : z_V l G M F rc rs h q ls2 (st)) : z_V l G M F rc rs h pc ls (.long x :: st) := by
  subst hq
  intro p e s m args below meth c H locs cells slots sl C R S L hc hs
  exact lv_lstore C.1 C.2.1 hd L.has hn rfl (fun sl2 h2 => kk p e s m args below meth c H locs cells slots sl2 C R S (z_store2 hl h2) hc hs)
theorem z_astore_n {k : Fin 4} {i : Nat} {ls2 : List (Option Value)} {x : Nat} (hd : decode M.cc pc = .ok (.astore_n k, 1)) (hi : (k : Nat) = i) (hn : i < M.nL) (hl : z_set ls i (.ref x) = ls2) (hq : pc + 1 = q) (kk : z_V l G M F rc rs h q ls2 (st)) : z_V l G M F rc rs h pc ls (.ref x :: st) := by
  subst hq
  intro p e s m args below meth c H locs cells slots sl C R S L hc hs
  exact lv_astore_n C.1 C.2.1 hd hi L.has hn rfl (fun sl2 h2 => kk p e s m args below meth c H locs cells slots sl2 C R S (z_store1 hl h2) hc hs)
theorem z_astore {i : Nat} {ls2 : List (Option Value)} {x : Nat} (hd : decode M.cc pc = .ok (.astore i, 2)) (hn : i < M.nL) (hl : z_set ls i (.ref x) = ls2) (hq : pc + 2 = q) (kk : z_V l G M F rc rs h q ls2 (st)) : z_V l G M F rc rs h pc ls (.ref x :: st) := by
  subst hq
  intro p e s m args below meth c H locs cells slots sl C R S L hc hs
  exact lv_astore C.1 C.2.1 hd L.has hn rfl (fun sl2 h2 => kk p e s m args below meth c H locs cells slots sl2 C R S (z_store1 hl h2) hc hs)
theorem z_astore_nN {k : Fin 4} {i : Nat} {ls2 : List (Option Value)} (hd : decode M.cc pc = .ok (.astore_n k, 1)) (hi : (k : Nat) = i) (hn : i < M.nL) (hl : z_set ls i .null = ls2) (hq : pc + 1 = q) (kk : z_V l G M F rc rs h q ls2 (st)) : z_V l G M F rc rs h pc ls (.null :: st) := by
  subst hq
  intro p e s m args below meth c H locs cells slots sl C R S L hc hs
  exact lv_astore_nN C.1 C.2.1 hd hi L.has hn rfl (fun sl2 h2 => kk p e s m args below meth c H locs cells slots sl2 C R S (z_store1 hl h2) hc hs)
theorem z_astoreN {i : Nat} {ls2 : List (Option Value)} (hd : decode M.cc pc = .ok (.astore i, 2)) (hn : i < M.nL) (hl : z_set ls i .null = ls2) (hq : pc + 2 = q) (kk : z_V l G M F rc rs h q ls2 (st)) : z_V l G M F rc rs h pc ls (.null :: st) := by
  subst hq
  intro p e s m args below meth c H locs cells slots sl C R S L hc hs
  exact lv_astoreN C.1 C.2.1 hd L.has hn rfl (fun sl2 h2 => kk p e s m args below meth c H locs cells slots sl2 C R S (z_store1 hl h2) hc hs)
theorem z_al_at {v : Value} {i : Nat} (h : ls[i]? = some (some v)) : ∃ k : Nat, (z_al 0 ls)[k]? = some (i, v) := List.getElem?_of_mem ((z_al_in ls 0 i).mpr ⟨i, by omega, h⟩)
theorem z_iinc {i : Nat} {n : Int} {x v : Int32} {ls2 : List (Option Value)} (hd : decode M.cc pc = .ok (.iinc i n, 3)) (hx : ls[i]? = some (some (.int x))) (hv : x + Int32.ofInt n = v) (hn : i < M.nL) (hl : z_set ls i (.int v) = ls2) (hq : pc + 3 = q) (kk : z_V l G M F rc rs h q ls2 (st)) : z_V l G M F rc rs h pc ls (st) := by
  subst hq
  intro p e s m args below meth c H locs cells slots sl C R S L hc hs
  obtain ⟨k, hk⟩ := z_al_at hx
  exact lv_iinc C.1 C.2.1 hd L.has hk hv hn rfl (fun sl2 h2 => kk p e s m args below meth c H locs cells slots sl2 C R S (z_store1 hl h2) hc hs)
theorem z_iadd {x y : Int32} (hd : decode M.cc pc = .ok (.iadd, 1)) (hq : pc + 1 = q) (kk : z_V l G M F rc rs h q ls (.int (x + y) :: st)) : z_V l G M F rc rs h pc ls (.int y :: .int x :: st) := by
  subst hq
  intro p e s m args below meth c H locs cells slots sl C R S L hc hs
  exact lv_iadd C.1 C.2.1 hd (kk p e s m args below meth c H locs cells slots sl C R S L hc hs)
theorem z_isub {x y : Int32} (hd : decode M.cc pc = .ok (.isub, 1)) (hq : pc + 1 = q) (kk : z_V l G M F rc rs h q ls (.int (x - y) :: st)) : z_V l G M F rc rs h pc ls (.int y :: .int x :: st) := by
  subst hq
  intro p e s m args below meth c H locs cells slots sl C R S L hc hs
  exact lv_isub C.1 C.2.1 hd (kk p e s m args below meth c H locs cells slots sl C R S L hc hs)
theorem z_imul {x y : Int32} (hd : decode M.cc pc = .ok (.imul, 1)) (hq : pc + 1 = q) (kk : z_V l G M F rc rs h q ls (.int (x * y) :: st)) : z_V l G M F rc rs h pc ls (.int y :: .int x :: st) := by
  subst hq
  intro p e s m args below meth c H locs cells slots sl C R S L hc hs
  exact lv_imul C.1 C.2.1 hd (kk p e s m args below meth c H locs cells slots sl C R S L hc hs)
theorem z_iand {x y : Int32} (hd : decode M.cc pc = .ok (.iand, 1)) (hq : pc + 1 = q) (kk : z_V l G M F rc rs h q ls (.int (x &&& y) :: st)) : z_V l G M F rc rs h pc ls (.int y :: .int x :: st) := by
  subst hq
  intro p e s m args below meth c H locs cells slots sl C R S L hc hs
  exact lv_iand C.1 C.2.1 hd (kk p e s m args below meth c H locs cells slots sl C R S L hc hs)
theorem z_ior {x y : Int32} (hd : decode M.cc pc = .ok (.ior, 1)) (hq : pc + 1 = q) (kk : z_V l G M F rc rs h q ls (.int (x ||| y) :: st)) : z_V l G M F rc rs h pc ls (.int y :: .int x :: st) := by
  subst hq
  intro p e s m args below meth c H locs cells slots sl C R S L hc hs
  exact lv_ior C.1 C.2.1 hd (kk p e s m args below meth c H locs cells slots sl C R S L hc hs)
theorem z_ishl {x y : Int32} (hd : decode M.cc pc = .ok (.ishl, 1)) (hq : pc + 1 = q) (kk : z_V l G M F rc rs h q ls (.int (x <<< (y &&& 31)) :: st)) : z_V l G M F rc rs h pc ls (.int y :: .int x :: st) := by
  subst hq
  intro p e s m args below meth c H locs cells slots sl C R S L hc hs
  exact lv_ishl C.1 C.2.1 hd (kk p e s m args below meth c H locs cells slots sl C R S L hc hs)
theorem z_ishr {x y : Int32} (hd : decode M.cc pc = .ok (.ishr, 1)) (hq : pc + 1 = q) (kk : z_V l G M F rc rs h q ls (.int (x >>> (y &&& 31)) :: st)) : z_V l G M F rc rs h pc ls (.int y :: .int x :: st) := by
  subst hq
  intro p e s m args below meth c H locs cells slots sl C R S L hc hs
  exact lv_ishr C.1 C.2.1 hd (kk p e s m args below meth c H locs cells slots sl C R S L hc hs)
theorem z_ladd {x y : Int64} (hd : decode M.cc pc = .ok (.ladd, 1)) (hq : pc + 1 = q) (kk : z_V l G M F rc rs h q ls (.long (x + y) :: st)) : z_V l G M F rc rs h pc ls (.long y :: .long x :: st) := by
  subst hq
  intro p e s m args below meth c H locs cells slots sl C R S L hc hs
  exact lv_ladd C.1 C.2.1 hd (kk p e s m args below meth c H locs cells slots sl C R S L hc hs)
theorem z_lsub {x y : Int64} (hd : decode M.cc pc = .ok (.lsub, 1)) (hq : pc + 1 = q) (kk : z_V l G M F rc rs h q ls (.long (x - y) :: st)) : z_V l G M F rc rs h pc ls (.long y :: .long x :: st) := by
  subst hq
  intro p e s m args below meth c H locs cells slots sl C R S L hc hs
  exact lv_lsub C.1 C.2.1 hd (kk p e s m args below meth c H locs cells slots sl C R S L hc hs)
theorem z_lmul {x y : Int64} (hd : decode M.cc pc = .ok (.lmul, 1)) (hq : pc + 1 = q) (kk : z_V l G M F rc rs h q ls (.long (x * y) :: st)) : z_V l G M F rc rs h pc ls (.long y :: .long x :: st) := by
  subst hq
  intro p e s m args below meth c H locs cells slots sl C R S L hc hs
  exact lv_lmul C.1 C.2.1 hd (kk p e s m args below meth c H locs cells slots sl C R S L hc hs)
theorem z_land {x y : Int64} (hd : decode M.cc pc = .ok (.land, 1)) (hq : pc + 1 = q) (kk : z_V l G M F rc rs h q ls (.long (x &&& y) :: st)) : z_V l G M F rc rs h pc ls (.long y :: .long x :: st) := by
  subst hq
  intro p e s m args below meth c H locs cells slots sl C R S L hc hs
  exact lv_land C.1 C.2.1 hd (kk p e s m args below meth c H locs cells slots sl C R S L hc hs)
theorem z_lor {x y : Int64} (hd : decode M.cc pc = .ok (.lor, 1)) (hq : pc + 1 = q) (kk : z_V l G M F rc rs h q ls (.long (x ||| y) :: st)) : z_V l G M F rc rs h pc ls (.long y :: .long x :: st) := by
  subst hq
  intro p e s m args below meth c H locs cells slots sl C R S L hc hs
  exact lv_lor C.1 C.2.1 hd (kk p e s m args below meth c H locs cells slots sl C R S L hc hs)
theorem z_idiv {x y : Int32} (hd : decode M.cc pc = .ok (.idiv, 1)) (hy : ¬ y = 0) (hq : pc + 1 = q) (kk : z_V l G M F rc rs h q ls (.int (x / y) :: st)) : z_V l G M F rc rs h pc ls (.int y :: .int x :: st) := by
  subst hq
  intro p e s m args below meth c H locs cells slots sl C R S L hc hs
  exact lv_idiv C.1 C.2.1 hd hy (kk p e s m args below meth c H locs cells slots sl C R S L hc hs)
theorem z_irem {x y : Int32} (hd : decode M.cc pc = .ok (.irem, 1)) (hy : ¬ y = 0) (hq : pc + 1 = q) (kk : z_V l G M F rc rs h q ls (.int (x - x / y * y) :: st)) : z_V l G M F rc rs h pc ls (.int y :: .int x :: st) := by
  subst hq
  intro p e s m args below meth c H locs cells slots sl C R S L hc hs
  exact lv_irem C.1 C.2.1 hd hy (kk p e s m args below meth c H locs cells slots sl C R S L hc hs)
theorem z_ldiv {x y : Int64} (hd : decode M.cc pc = .ok (.ldiv, 1)) (hy : ¬ y = 0) (hq : pc + 1 = q) (kk : z_V l G M F rc rs h q ls (.long (x / y) :: st)) : z_V l G M F rc rs h pc ls (.long y :: .long x :: st) := by
  subst hq
  intro p e s m args below meth c H locs cells slots sl C R S L hc hs
  exact lv_ldiv C.1 C.2.1 hd hy (kk p e s m args below meth c H locs cells slots sl C R S L hc hs)
theorem z_lrem {x y : Int64} (hd : decode M.cc pc = .ok (.lrem, 1)) (hy : ¬ y = 0) (hq : pc + 1 = q) (kk : z_V l G M F rc rs h q ls (.long (x - x / y * y) :: st)) : z_V l G M F rc rs h pc ls (.long y :: .long x :: st) := by
  subst hq
  intro p e s m args below meth c H locs cells slots sl C R S L hc hs
  exact lv_lrem C.1 C.2.1 hd hy (kk p e s m args below meth c H locs cells slots sl C R S L hc hs)
theorem z_ineg {x : Int32} (hd : decode M.cc pc = .ok (.ineg, 1)) (hq : pc + 1 = q) (kk : z_V l G M F rc rs h q ls (.int (-x) :: st)) : z_V l G M F rc rs h pc ls (.int x :: st) := by
  subst hq
  intro p e s m args below meth c H locs cells slots sl C R S L hc hs
  exact lv_ineg C.1 C.2.1 hd (kk p e s m args below meth c H locs cells slots sl C R S L hc hs)
theorem z_lshl {x : Int64} {y : Int32} (hd : decode M.cc pc = .ok (.lshl, 1)) (hq : pc + 1 = q) (kk : z_V l G M F rc rs h q ls (.long (x <<< (y.toInt64 &&& 63)) :: st)) : z_V l G M F rc rs h pc ls (.int y :: .long x :: st) := by
  subst hq
  intro p e s m args below meth c H locs cells slots sl C R S L hc hs
  exact lv_lshl C.1 C.2.1 hd rfl (kk p e s m args below meth c H locs cells slots sl C R S L hc hs)
theorem z_lshr {x : Int64} {y : Int32} (hd : decode M.cc pc = .ok (.lshr, 1)) (hq : pc + 1 = q) (kk : z_V l G M F rc rs h q ls (.long (x >>> (y.toInt64 &&& 63)) :: st)) : z_V l G M F rc rs h pc ls (.int y :: .long x :: st) := by
  subst hq
  intro p e s m args below meth c H locs cells slots sl C R S L hc hs
  exact lv_lshr C.1 C.2.1 hd rfl (kk p e s m args below meth c H locs cells slots sl C R S L hc hs)
theorem z_i2l {x : Int32} (hd : decode M.cc pc = .ok (.i2l, 1)) (hq : pc + 1 = q) (kk : z_V l G M F rc rs h q ls (.long x.toInt64 :: st)) : z_V l G M F rc rs h pc ls (.int x :: st) := by
  subst hq
  intro p e s m args below meth c H locs cells slots sl C R S L hc hs
  exact lv_i2l C.1 C.2.1 hd rfl (kk p e s m args below meth c H locs cells slots sl C R S L hc hs)
theorem z_l2i {x : Int64} (hd : decode M.cc pc = .ok (.l2i, 1)) (hq : pc + 1 = q) (kk : z_V l G M F rc rs h q ls (.int x.toInt32 :: st)) : z_V l G M F rc rs h pc ls (.long x :: st) := by
  subst hq
  intro p e s m args below meth c H locs cells slots sl C R S L hc hs
  exact lv_l2i C.1 C.2.1 hd rfl (kk p e s m args below meth c H locs cells slots sl C R S L hc hs)
theorem z_i2b {x : Int32} (hd : decode M.cc pc = .ok (.i2b, 1)) (hq : pc + 1 = q) (kk : z_V l G M F rc rs h q ls (.int x.toInt8.toInt32 :: st)) : z_V l G M F rc rs h pc ls (.int x :: st) := by
  subst hq
  intro p e s m args below meth c H locs cells slots sl C R S L hc hs
  exact lv_i2b C.1 C.2.1 hd rfl (kk p e s m args below meth c H locs cells slots sl C R S L hc hs)
theorem z_i2c {x : Int32} (hd : decode M.cc pc = .ok (.i2c, 1)) (hq : pc + 1 = q) (kk : z_V l G M F rc rs h q ls (.int (x.toUInt32 % 65536).toInt32 :: st)) : z_V l G M F rc rs h pc ls (.int x :: st) := by
  subst hq
  intro p e s m args below meth c H locs cells slots sl C R S L hc hs
  exact lv_i2c C.1 C.2.1 hd rfl (kk p e s m args below meth c H locs cells slots sl C R S L hc hs)
theorem z_lcmp {x y : Int64} (hd : decode M.cc pc = .ok (.lcmp, 1)) (hq : pc + 1 = q) (kk : z_V l G M F rc rs h q ls (.int (lg_cmp x y) :: st)) : z_V l G M F rc rs h pc ls (.long y :: .long x :: st) := by
  subst hq
  intro p e s m args below meth c H locs cells slots sl C R S L hc hs
  exact W.lcmp C.1 C.2.1 hd (kk p e s m args below meth c H locs cells slots sl C R S L hc hs)
theorem z_pop {a : Value} (hd : decode M.cc pc = .ok (.pop, 1)) (ha : a.category = 1) (hq : pc + 1 = q) (kk : z_V l G M F rc rs h q ls (st)) : z_V l G M F rc rs h pc ls (a :: st) := by
  subst hq
  intro p e s m args below meth c H locs cells slots sl C R S L hc hs
  exact lv_pop C.1 C.2.1 hd ha (kk p e s m args below meth c H locs cells slots sl C R S L hc hs)
theorem z_dup {a : Value} (hd : decode M.cc pc = .ok (.dup, 1)) (ha : a.category = 1) (hq : pc + 1 = q) (kk : z_V l G M F rc rs h q ls (a :: a :: st)) : z_V l G M F rc rs h pc ls (a :: st) := by
  subst hq
  intro p e s m args below meth c H locs cells slots sl C R S L hc hs
  exact lv_dup C.1 C.2.1 hd ha (kk p e s m args below meth c H locs cells slots sl C R S L hc hs)
theorem z_dup_x1 {a b : Value} (hd : decode M.cc pc = .ok (.dup_x1, 1)) (ha : a.category = 1) (hb : b.category = 1) (hq : pc + 1 = q) (kk : z_V l G M F rc rs h q ls (a :: b :: a :: st)) : z_V l G M F rc rs h pc ls (a :: b :: st) := by
  subst hq
  intro p e s m args below meth c H locs cells slots sl C R S L hc hs
  exact lv_dup_x1 C.1 C.2.1 hd ha hb (kk p e s m args below meth c H locs cells slots sl C R S L hc hs)
theorem z_dup_x2 {a b d : Value} (hd : decode M.cc pc = .ok (.dup_x2, 1)) (ha : a.category = 1) (hb : b.category = 1) (hv : d.category = 1) (hq : pc + 1 = q) (kk : z_V l G M F rc rs h q ls (a :: b :: d :: a :: st)) : z_V l G M F rc rs h pc ls (a :: b :: d :: st) := by
  subst hq
  intro p e s m args below meth c H locs cells slots sl C R S L hc hs
  exact lv_dup_x2 C.1 C.2.1 hd ha hb hv (kk p e s m args below meth c H locs cells slots sl C R S L hc hs)
theorem z_dup2 {a b : Value} (hd : decode M.cc pc = .ok (.dup2, 1)) (ha : a.category = 1) (hb : b.category = 1) (hq : pc + 1 = q) (kk : z_V l G M F rc rs h q ls (a :: b :: a :: b :: st)) : z_V l G M F rc rs h pc ls (a :: b :: st) := by
  subst hq
  intro p e s m args below meth c H locs cells slots sl C R S L hc hs
  exact lv_dup2_11 C.1 C.2.1 hd ha hb (kk p e s m args below meth c H locs cells slots sl C R S L hc hs)
theorem z_if_eq {x : Int32} {off : Int} {tgt : Nat} (hd : decode M.cc pc = .ok (.ifCond .eq off, 3)) (ht : (pc : Int) + off = (tgt : Int)) (hq : pc + 3 = q) (kt : x = 0 → z_V l G M F rc rs h tgt ls (st)) (kf : ¬ x = 0 → z_V l G M F rc rs h q ls (st)) : z_V l G M F rc rs h pc ls (.int x :: st) := by
  subst hq
  intro p e s m args below meth c H locs cells slots sl C R S L hc hs
  exact lv_if_eq C.1 C.2.1 hd ht (fun z => kt z p e s m args below meth c H locs cells slots sl C R S L hc hs) (fun z => kf z p e s m args below meth c H locs cells slots sl C R S L hc hs)
theorem z_if_lt {x : Int32} {off : Int} {tgt : Nat} (hd : decode M.cc pc = .ok (.ifCond .lt off, 3)) (ht : (pc : Int) + off = (tgt : Int)) (hq : pc + 3 = q) (kt : x < 0 → z_V l G M F rc rs h tgt ls (st)) (kf : ¬ x < 0 → z_V l G M F rc rs h q ls (st)) : z_V l G M F rc rs h pc ls (.int x :: st) := by
  subst hq
  intro p e s m args below meth c H locs cells slots sl C R S L hc hs
  exact lv_if_lt C.1 C.2.1 hd ht (fun z => kt z p e s m args below meth c H locs cells slots sl C R S L hc hs) (fun z => kf z p e s m args below meth c H locs cells slots sl C R S L hc hs)
theorem z_if_ge {x : Int32} {off : Int} {tgt : Nat} (hd : decode M.cc pc = .ok (.ifCond .ge off, 3)) (ht : (pc : Int) + off = (tgt : Int)) (hq : pc + 3 = q) (kt : 0 ≤ x → z_V l G M F rc rs h tgt ls (st)) (kf : ¬ 0 ≤ x → z_V l G M F rc rs h q ls (st)) : z_V l G M F rc rs h pc ls (.int x :: st) := by
  subst hq
  intro p e s m args below meth c H locs cells slots sl C R S L hc hs
  exact lv_if_ge C.1 C.2.1 hd ht (fun z => kt z p e s m args below meth c H locs cells slots sl C R S L hc hs) (fun z => kf z p e s m args below meth c H locs cells slots sl C R S L hc hs)
theorem z_if_gt {x : Int32} {off : Int} {tgt : Nat} (hd : decode M.cc pc = .ok (.ifCond .gt off, 3)) (ht : (pc : Int) + off = (tgt : Int)) (hq : pc + 3 = q) (kt : 0 < x → z_V l G M F rc rs h tgt ls (st)) (kf : ¬ 0 < x → z_V l G M F rc rs h q ls (st)) : z_V l G M F rc rs h pc ls (.int x :: st) := by
  subst hq
  intro p e s m args below meth c H locs cells slots sl C R S L hc hs
  exact lv_if_gt C.1 C.2.1 hd ht (fun z => kt z p e s m args below meth c H locs cells slots sl C R S L hc hs) (fun z => kf z p e s m args below meth c H locs cells slots sl C R S L hc hs)
theorem z_if_le {x : Int32} {off : Int} {tgt : Nat} (hd : decode M.cc pc = .ok (.ifCond .le off, 3)) (ht : (pc : Int) + off = (tgt : Int)) (hq : pc + 3 = q) (kt : x ≤ 0 → z_V l G M F rc rs h tgt ls (st)) (kf : ¬ x ≤ 0 → z_V l G M F rc rs h q ls (st)) : z_V l G M F rc rs h pc ls (.int x :: st) := by
  subst hq
  intro p e s m args below meth c H locs cells slots sl C R S L hc hs
  exact lv_if_le C.1 C.2.1 hd ht (fun z => kt z p e s m args below meth c H locs cells slots sl C R S L hc hs) (fun z => kf z p e s m args below meth c H locs cells slots sl C R S L hc hs)
theorem z_if_ne {x : Int32} {off : Int} {tgt : Nat} (hd : decode M.cc pc = .ok (.ifCond .ne off, 3)) (ht : (pc : Int) + off = (tgt : Int)) (hq : pc + 3 = q) (kt : ¬ x = 0 → z_V l G M F rc rs h tgt ls (st)) (kf : x = 0 → z_V l G M F rc rs h q ls (st)) : z_V l G M F rc rs h pc ls (.int x :: st) := by
  subst hq
  intro p e s m args below meth c H locs cells slots sl C R S L hc hs
  exact lv_if_ne C.1 C.2.1 hd ht (fun z => kt z p e s m args below meth c H locs cells slots sl C R S L hc hs) (fun z => kf z p e s m args below meth c H locs cells slots sl C R S L hc hs)
theorem z_icmp_eq {x y : Int32} {off : Int} {tgt : Nat} (hd : decode M.cc pc = .ok (.if_icmp .eq off, 3)) (ht : (pc : Int) + off = (tgt : Int)) (hq : pc + 3 = q) (kt : x = y → z_V l G M F rc rs h tgt ls (st)) (kf : ¬ x = y → z_V l G M F rc rs h q ls (st)) : z_V l G M F rc rs h pc ls (.int y :: .int x :: st) := by
  subst hq
  intro p e s m args below meth c H locs cells slots sl C R S L hc hs
  exact lv_icmp_eq C.1 C.2.1 hd ht (fun z => kt z p e s m args below meth c H locs cells slots sl C R S L hc hs) (fun z => kf z p e s m args below meth c H locs cells slots sl C R S L hc hs)
theorem z_icmp_lt {x y : Int32} {off : Int} {tgt : Nat} (hd : decode M.cc pc = .ok (.if_icmp .lt off, 3)) (ht : (pc : Int) + off = (tgt : Int)) (hq : pc + 3 = q) (kt : x < y → z_V l G M F rc rs h tgt ls (st)) (kf : ¬ x < y → z_V l G M F rc rs h q ls (st)) : z_V l G M F rc rs h pc ls (.int y :: .int x :: st) := by
  subst hq
  intro p e s m args below meth c H locs cells slots sl C R S L hc hs
  exact lv_icmp_lt C.1 C.2.1 hd ht (fun z => kt z p e s m args below meth c H locs cells slots sl C R S L hc hs) (fun z => kf z p e s m args below meth c H locs cells slots sl C R S L hc hs)
theorem z_icmp_ge {x y : Int32} {off : Int} {tgt : Nat} (hd : decode M.cc pc = .ok (.if_icmp .ge off, 3)) (ht : (pc : Int) + off = (tgt : Int)) (hq : pc + 3 = q) (kt : y ≤ x → z_V l G M F rc rs h tgt ls (st)) (kf : ¬ y ≤ x → z_V l G M F rc rs h q ls (st)) : z_V l G M F rc rs h pc ls (.int y :: .int x :: st) := by
  subst hq
  intro p e s m args below meth c H locs cells slots sl C R S L hc hs
  exact lv_icmp_ge C.1 C.2.1 hd ht (fun z => kt z p e s m args below meth c H locs cells slots sl C R S L hc hs) (fun z => kf z p e s m args below meth c H locs cells slots sl C R S L hc hs)
theorem z_icmp_gt {x y : Int32} {off : Int} {tgt : Nat} (hd : decode M.cc pc = .ok (.if_icmp .gt off, 3)) (ht : (pc : Int) + off = (tgt : Int)) (hq : pc + 3 = q) (kt : y < x → z_V l G M F rc rs h tgt ls (st)) (kf : ¬ y < x → z_V l G M F rc rs h q ls (st)) : z_V l G M F rc rs h pc ls (.int y :: .int x :: st) := by
  subst hq
  intro p e s m args below meth c H locs cells slots sl C R S L hc hs
  exact lv_icmp_gt C.1 C.2.1 hd ht (fun z => kt z p e s m args below meth c H locs cells slots sl C R S L hc hs) (fun z => kf z p e s m args below meth c H locs cells slots sl C R S L hc hs)
theorem z_icmp_le {x y : Int32} {off : Int} {tgt : Nat} (hd : decode M.cc pc = .ok (.if_icmp .le off, 3)) (ht : (pc : Int) + off = (tgt : Int)) (hq : pc + 3 = q) (kt : x ≤ y → z_V l G M F rc rs h tgt ls (st)) (kf : ¬ x ≤ y → z_V l G M F rc rs h q ls (st)) : z_V l G M F rc rs h pc ls (.int y :: .int x :: st) := by
  subst hq
  intro p e s m args below meth c H locs cells slots sl C R S L hc hs
  exact lv_icmp_le C.1 C.2.1 hd ht (fun z => kt z p e s m args below meth c H locs cells slots sl C R S L hc hs) (fun z => kf z p e s m args below meth c H locs cells slots sl C R S L hc hs)
theorem z_icmp_ne {x y : Int32} {off : Int} {tgt : Nat} (hd : decode M.cc pc = .ok (.if_icmp .ne off, 3)) (ht : (pc : Int) + off = (tgt : Int)) (hq : pc + 3 = q) (kt : ¬ x = y → z_V l G M F rc rs h tgt ls (st)) (kf : x = y → z_V l G M F rc rs h q ls (st)) : z_V l G M F rc rs h pc ls (.int y :: .int x :: st) := by
  subst hq
  intro p e s m args below meth c H locs cells slots sl C R S L hc hs
  exact lv_icmp_ne C.1 C.2.1 hd ht (fun z => kt z p e s m args below meth c H locs cells slots sl C R S L hc hs) (fun z => kf z p e s m args below meth c H locs cells slots sl C R S L hc hs)
theorem z_goto {off : Int} (hd : decode M.cc pc = .ok (.goto off, 3)) (ht : (pc : Int) + off = (q : Int)) (kk : z_V l G M F rc rs h q ls (st)) : z_V l G M F rc rs h pc ls (st) := by
  intro p e s m args below meth c H locs cells slots sl C R S L hc hs
  exact lv_goto C.1 C.2.1 hd ht (kk p e s m args below meth c H locs cells slots sl C R S L hc hs)
theorem z_ifnull {a : Nat} {off : Int} (hd : decode M.cc pc = .ok (.ifnull off, 3)) (hq : pc + 3 = q) (kk : z_V l G M F rc rs h q ls (st)) : z_V l G M F rc rs h pc ls (.ref a :: st) := by
  subst hq
  intro p e s m args below meth c H locs cells slots sl C R S L hc hs
  exact lv_ifnull C.1 C.2.1 hd (kk p e s m args below meth c H locs cells slots sl C R S L hc hs)
theorem z_ifnullN {off : Int} (hd : decode M.cc pc = .ok (.ifnull off, 3)) (ht : (pc : Int) + off = (q : Int)) (kk : z_V l G M F rc rs h q ls (st)) : z_V l G M F rc rs h pc ls (.null :: st) := by
  intro p e s m args below meth c H locs cells slots sl C R S L hc hs
  exact lv_ifnullN C.1 C.2.1 hd ht (kk p e s m args below meth c H locs cells slots sl C R S L hc hs)
theorem z_ifnonnull {a : Nat} {off : Int} (hd : decode M.cc pc = .ok (.ifnonnull off, 3)) (ht : (pc : Int) + off = (q : Int)) (kk : z_V l G M F rc rs h q ls (st)) : z_V l G M F rc rs h pc ls (.ref a :: st) := by
  intro p e s m args below meth c H locs cells slots sl C R S L hc hs
  exact lv_ifnonnull C.1 C.2.1 hd ht (kk p e s m args below meth c H locs cells slots sl C R S L hc hs)
theorem z_ifnonnullN {off : Int} (hd : decode M.cc pc = .ok (.ifnonnull off, 3)) (hq : pc + 3 = q) (kk : z_V l G M F rc rs h q ls (st)) : z_V l G M F rc rs h pc ls (.null :: st) := by
  subst hq
  intro p e s m args below meth c H locs cells slots sl C R S L hc hs
  exact lv_ifnonnullN C.1 C.2.1 hd (kk p e s m args below meth c H locs cells slots sl C R S L hc hs)
theorem z_tableOut {dflt lo hi : Int} {offs : Array Int} {len : Nat} {x : Int32} (hd : decode M.cc pc = .ok (.tableswitch dflt lo hi offs, len)) (hx : x.toInt < lo ∨ hi < x.toInt) (ht : (pc : Int) + dflt = (q : Int)) (kk : z_V l G M F rc rs h q ls (st)) : z_V l G M F rc rs h pc ls (.int x :: st) := by
  intro p e s m args below meth c H locs cells slots sl C R S L hc hs
  exact lv_tableOut C.1 C.2.1 hd hx ht (kk p e s m args below meth c H locs cells slots sl C R S L hc hs)
theorem z_tableIn {dflt lo hi : Int} {offs : Array Int} {len : Nat} {x : Int32} {off : Int} (hd : decode M.cc pc = .ok (.tableswitch dflt lo hi offs, len)) (h1 : ¬ x.toInt < lo) (h2 : ¬ hi < x.toInt) (ho : offs[(x.toInt - lo).toNat]? = some off) (ht : (pc : Int) + off = (q : Int)) (kk : z_V l G M F rc rs h q ls (st)) : z_V l G M F rc rs h pc ls (.int x :: st) := by
  intro p e s m args below meth c H locs cells slots sl C R S L hc hs
  exact lv_tableIn C.1 C.2.1 hd h1 h2 ho ht (kk p e s m args below meth c H locs cells slots sl C R S L hc hs)
theorem z_lookup {dflt : Int} {ps : Array (Int × Int)} {len : Nat} {x : Int32} {off : Int} (hd : decode M.cc pc = .ok (.lookupswitch dflt ps, len)) (hp : (ps.toList.zip (ps.toList.drop 1)).all (fun (a, next) => a.1 < next.1) = true) (ho : Op.lookupswitch.offset ps.toList dflt x.toInt = off) (ht : (pc : Int) + off = (q : Int)) (kk : z_V l G M F rc rs h q ls (st)) : z_V l G M F rc rs h pc ls (.int x :: st) := by
  intro p e s m args below meth c H locs cells slots sl C R S L hc hs
  exact lv_lookup C.1 C.2.1 hd hp ho ht (kk p e s m args below meth c H locs cells slots sl C R S L hc hs)
end
