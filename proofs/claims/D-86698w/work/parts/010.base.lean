set_option maxRecDepth 100000
/-! THE LAYER: an abstract heap, a judgement of a method's body at a pc, a contract -/
abbrev rb_E : Type := (Nat × vp_A) ⊕ (Nat × List Value)
abbrev rb_H : Type := Nat × (Nat → Option rb_E)
def rb_ve (dA : Nat → ClassId) (e : rb_E) : va_E := match e with
  | .inl q => .inl (dA q.1, q.2)
  | .inr o => .inr o
/-- an array of ints, of longs, of booleans, of references (of the kind t); an object of the class ci -/
abbrev rb_I (n : Nat) (f : Nat → Int32) : rb_E := .inl (0, n, .inl f)
abbrev rb_L (n : Nat) (f : Nat → Int64) : rb_E := .inl (1, n, .inr (.inl f))
abbrev rb_Z (n : Nat) (f : Nat → Int32) : rb_E := .inl (2, n, .inl f)
abbrev rb_R (t n : Nat) (f : Nat → Option Nat) : rb_E := .inl (t, n, .inr (.inr (.inr (.inr f))))
abbrev rb_O (ci : Nat) (fs : List Value) : rb_E := .inr (ci, fs)
/-- the heap M with the cell e at a -/
def rb_up (M : rb_H) (a : Nat) (e : rb_E) : rb_H := (M.1, va_up M.2 a (some e))
/-- the heap M with a new cell e -/
def rb_nw (M : rb_H) (e : rb_E) : rb_H := (M.1 + 1, va_up M.2 M.1 (some e))
/-- a run: launch, start, the script's cell, numbers of classes and of slots, classes of arrays -/
abbrev rb_G : Type := Launch × State × Nat × va_G × (Nat → ClassId)
/-- a method: its class, code, locals, answer, name, handlers -/
abbrev rb_M : Type := String × ByteArray × Nat × Option FieldType × String × List (Nat × Nat × Nat × Nat)
/-- what stays in a body: the run, its room, its end, cells and slots -/
abbrev rb_K : Type := rb_G × Room × (Outcome → rb_H → Prop) × Nat × Nat
/-- the classes by their numbers (7: ArrayList) -/
def rb_cl : List vw_C := [(RX0, TX0, 36), (RX1, TX1, 10), (RX2, TX2, 7), (RX3, TX3, 8), (RX4, TX4, 73), (RX5, TX5, 9), (RX6, TX6, 5), (RJ4, TJ4, 3), (RX8, TX8, 4), (RX9, TX9, 4), (RX10, TX10, 4), (RX11, TX11, 5), (RX12, TX12, 4), (RX13, TX13, 5), (RX14, TX14, 5), (RX15, TX15, 5), (RX16, TX16, 4), (RX17, TX17, 4), (RX18, TX18, 5), (RX19, TX19, 4), (RX20, TX20, 4), (RX21, TX21, 4), (RX22, TX22, 4), (RX23, TX23, 5), (RX24, TX24, 6), (RX25, TX25, 5), (RX26, TX26, 4), (RX27, TX27, 5), (RX28, TX28, 4), (RX29, TX29, 3)]
def rb_ty (ci : Nat) : Nat → FieldType := match ci with
  | 0 => tyX0 | 1 => tyX1 | 2 => tyX2 | 3 => tyX3 | 4 => tyX4 | 5 => tyX5 | 6 => tyX6 | 7 => tyJ4 | 8 => tyX8 | 9 => tyX9 | 10 => tyX10 | 11 => tyX11 | 12 => tyX12 | 13 => tyX13 | 14 => tyX14 | 15 => tyX15 | 16 => tyX16 | 17 => tyX17 | 18 => tyX18 | 19 => tyX19 | 20 => tyX20 | 21 => tyX21 | 22 => tyX22 | 23 => tyX23 | 24 => tyX24 | 25 => tyX25 | 26 => tyX26 | 27 => tyX27 | 28 => tyX28 | _ => tyX29
theorem rb_cl_lt {ci : Nat} {q : vw_C} (h : rb_cl[ci]? = some q) : ci < 30 := (List.getElem?_eq_some_iff.mp h).1
theorem rb_all30 {P : Nat → Prop} (h0 : P 0) (h1 : P 1) (h2 : P 2) (h3 : P 3) (h4 : P 4) (h5 : P 5) (h6 : P 6) (h7 : P 7) (h8 : P 8) (h9 : P 9) (h10 : P 10) (h11 : P 11) (h12 : P 12) (h13 : P 13) (h14 : P 14) (h15 : P 15) (h16 : P 16) (h17 : P 17) (h18 : P 18) (h19 : P 19) (h20 : P 20) (h21 : P 21) (h22 : P 22) (h23 : P 23) (h24 : P 24) (h25 : P 25) (h26 : P 26) (h27 : P 27) (h28 : P 28) (h29 : P 29) : ∀ ci, ci < 30 → P ci := by
  intro ci h
  match ci, h with
  | 0, _ => exact h0 | 1, _ => exact h1 | 2, _ => exact h2 | 3, _ => exact h3 | 4, _ => exact h4 | 5, _ => exact h5 | 6, _ => exact h6 | 7, _ => exact h7 | 8, _ => exact h8 | 9, _ => exact h9
  | 10, _ => exact h10 | 11, _ => exact h11 | 12, _ => exact h12 | 13, _ => exact h13 | 14, _ => exact h14 | 15, _ => exact h15 | 16, _ => exact h16 | 17, _ => exact h17 | 18, _ => exact h18 | 19, _ => exact h19
  | 20, _ => exact h20 | 21, _ => exact h21 | 22, _ => exact h22 | 23, _ => exact h23 | 24, _ => exact h24 | 25, _ => exact h25 | 26, _ => exact h26 | 27, _ => exact h27 | 28, _ => exact h28 | 29, _ => exact h29
  | k + 30, h => exact absurd h (by omega)
theorem rb_cl_in : ∀ ci, ci < 30 → ∀ q : vw_C, rb_cl[ci]? = some q → ∀ w ∈ u_ws q.1 q.2.1 q.2.2, w ∈ lw_all := by
  refine rb_all30 ?_ ?_ ?_ ?_ ?_ ?_ ?_ ?_ ?_ ?_ ?_ ?_ ?_ ?_ ?_ ?_ ?_ ?_ ?_ ?_ ?_ ?_ ?_ ?_ ?_ ?_ ?_ ?_ ?_ ?_
  all_goals (intro q h; cases h)
  · exact in_X0
  · exact in_X1
  · exact in_X2
  · exact in_X3
  · exact in_X4
  · exact in_X5
  · exact in_X6
  · exact in_J4
  · exact in_X8
  · exact in_X9
  · exact in_X10
  · exact in_X11
  · exact in_X12
  · exact in_X13
  · exact in_X14
  · exact in_X15
  · exact in_X16
  · exact in_X17
  · exact in_X18
  · exact in_X19
  · exact in_X20
  · exact in_X21
  · exact in_X22
  · exact in_X23
  · exact in_X24
  · exact in_X25
  · exact in_X26
  · exact in_X27
  · exact in_X28
  · exact in_X29
theorem rb_cl_ty : ∀ ci, ci < 30 → ∀ q : vw_C, rb_cl[ci]? = some q → ∀ k, k < q.2.2 → parseFieldDescriptor (q.2.1 k).2.2.1 = some (rb_ty ci k) := by
  refine rb_all30 ?_ ?_ ?_ ?_ ?_ ?_ ?_ ?_ ?_ ?_ ?_ ?_ ?_ ?_ ?_ ?_ ?_ ?_ ?_ ?_ ?_ ?_ ?_ ?_ ?_ ?_ ?_ ?_ ?_ ?_
  all_goals (intro q h; cases h)
  · exact tyX0_ok
  · exact tyX1_ok
  · exact tyX2_ok
  · exact tyX3_ok
  · exact tyX4_ok
  · exact tyX5_ok
  · exact tyX6_ok
  · exact tyJ4_ok
  · exact tyX8_ok
  · exact tyX9_ok
  · exact tyX10_ok
  · exact tyX11_ok
  · exact tyX12_ok
  · exact tyX13_ok
  · exact tyX14_ok
  · exact tyX15_ok
  · exact tyX16_ok
  · exact tyX17_ok
  · exact tyX18_ok
  · exact tyX19_ok
  · exact tyX20_ok
  · exact tyX21_ok
  · exact tyX22_ok
  · exact tyX23_ok
  · exact tyX24_ok
  · exact tyX25_ok
  · exact tyX26_ok
  · exact tyX27_ok
  · exact tyX28_ok
  · exact tyX29_ok
/-- two fields of one class differ in their name or in who declares them -/
theorem rb_cl_nm : ∀ ci, ci < 30 → ∀ q : vw_C, rb_cl[ci]? = some q → ∀ a, a < q.2.2 → ∀ b, b < q.2.2 → a ≠ b → (q.2.1 a).1 ≠ (q.2.1 b).1 ∨ (q.2.1 a).2.1 ≠ (q.2.1 b).2.1 := by
  refine rb_all30 ?_ ?_ ?_ ?_ ?_ ?_ ?_ ?_ ?_ ?_ ?_ ?_ ?_ ?_ ?_ ?_ ?_ ?_ ?_ ?_ ?_ ?_ ?_ ?_ ?_ ?_ ?_ ?_ ?_ ?_
  all_goals (intro q h; cases h)
  all_goals (show ∀ a, a < _ → ∀ b, b < _ → a ≠ b → _)
  all_goals decide +kernel
/-- the array classes by their numbers -/
def rb_tys (dA : Nat → ClassId) : List (ClassId × FieldType) := [(dA 0, .int), (dA 1, .long), (dA 2, .boolean), (dA 3, .object "java/lang/Object"), (dA 4, .object "RoleLoom$Body"), (dA 5, .object "RoleLoom$Frame"), (dA 6, .object "RoleLoom$Thing")]
/-- what holds all through a run -/
def rb_GW (g : rb_G) : Prop :=
  (∀ w ∈ lw_tbl, w.before #[Value.ref g.2.2.1] g.2.1 = true) ∧ va_K g.2.2.2.1 rb_cl (rb_tys g.2.2.2.2) g.2.1 ∧
  (∀ (ci : Nat) (q : vw_C), rb_cl[ci]? = some q → ∀ x y, x < q.2.2 → y < q.2.2 → x ≠ y → g.2.2.2.1.2 ci x ≠ g.2.2.2.1.2 ci y) ∧
  (Jvm.Cond.and given_1 narrow_1).before #[Value.ref g.2.2.1] g.2.1 = true ∧ g.1.flags = flags0
/-- the heap H is as M says -/
def rb_Hp (g : rb_G) (M : rb_H) (H : Heap) : Prop :=
  H.size = M.1 ∧ g.2.1.heap.size ≤ M.1 ∧ (∀ a : Nat, a < g.2.1.heap.size → H[a]? = g.2.1.heap[a]?) ∧ ∀ (a : Nat) (e : rb_E), M.2 a = some e → g.2.1.heap.size ≤ a ∧ va_at g.2.2.2.1 rb_cl (a, rb_ve g.2.2.2.2 e) H
def rb_ls (lsA : Array Slot) (nL : Nat) (ls : List (Option Value)) : Prop := lsA.size = nL ∧ lv_wf lsA ∧ ∀ (i : Nat) (v : Value), ls[i]? = some (some v) → lsA[i]? = some (.val v)
def rb_Cx (g : rb_G) (μ : rb_M) (p : Program) (s : State) (m : MethodId) (meth : Method) (c : Code) : Prop :=
  p.tables.exec = Jvm.exec ∧ c.code = μ.2.1 ∧ c.maxLocals = μ.2.2.1 ∧ meth.sig.returnType = μ.2.2.2.1 ∧ s.vm.findClass μ.1 = some m.cls ∧ meth.locks = false ∧ meth.name = μ.2.2.2.2.1 ∧ c.exceptionTable.toList.map (fun h => (h.startPc, h.endPc, h.handlerPc, h.catchType)) = μ.2.2.2.2.2 ∧ g.2.1.WarmedH s.vm
/-- the end of a body -/
def rb_Q (κ : rb_K) (s : State) (below : List Frame) : State → Prop := fun t => ∃ o, t.status = .running ∧ Ended t below o ∧ (∃ M', κ.2.2.1 o M' ∧ rb_Hp κ.1 M' t.heap) ∧ s.WarmedH t.vm ∧ ∃ L, s.sameButNew ({ t with vm := s.vm } : State) L κ.2.2.2.1 κ.2.2.2.2 ∧ ∀ q ∈ L, κ.1.2.1.heap.size ≤ q.base
/-- THE JUDGEMENT: the body of μ, at pc with heap M, locals ls, operands st, n cells and slots made, comes to its end -/
def rb_Bd (κ : rb_K) (μ : rb_M) (n : Nat × Nat) (M : rb_H) (pc : Nat) (ls : List (Option Value)) (st : List Value) : Prop :=
  rb_GW κ.1 → ∀ (p : Program) (e : Env) (s : State) (m : MethodId) (args : Array Value) (below : List Frame) (meth : Method) (c : Code), rb_Cx κ.1 μ p s m meth c →
    ∀ (H : Heap) (locs : List Loc) (lsA : Array Slot), rb_Hp κ.1 M H → (∀ q ∈ locs, κ.1.2.1.heap.size ≤ q.base) → rb_ls lsA μ.2.2.1 ls →
      W p κ.1.1 e κ.2.1 s m args below meth c H locs n.1 n.2 (rb_Q κ s below) (F0 m pc lsA st)
def rb_rm (d : Nat) (n : Nat × Nat) : Room := { frames := d, cells := n.1, slots := n.2, locals := 40 * d }
/-- THE CONTRACT of y (its code word cw), at depth d, with at most n cells and slots: from the heap M with the arguments as it ends with an outcome and a heap of which Post holds -/
def rb_Ct (g : rb_G) (y : MethodName) (cw : Cond) (d : Nat) (n : Nat × Nat) (as : List Value) (M : rb_H) (Post : Outcome → rb_H → Prop) : Prop :=
  rb_GW g → MetFree g.1 y (headSpec [cw] (rb_rm d n)) (fun a U => a = as.toArray ∧ g.2.1.WarmedH U.vm ∧ rb_Hp g M U.heap) (fun _ _ _ _ _ => True)
    (fun _ st o t => (∃ M', Post o M' ∧ rb_Hp g M' t.heap) ∧ st.WarmedH t.vm ∧ ∃ L, st.sameButNew ({ t with vm := st.vm } : State) L n.1 n.2 ∧ ∀ q ∈ L, g.2.1.heap.size ≤ q.base)
/-! words at a point of a run -/
theorem rb_word {g : rb_G} {s : State} (hg : rb_GW g) (hW : g.2.1.WarmedH s.vm) {w : Cond} (h : w ∈ lw_all) {args : Array Value} : w.before args s = true :=
  word_at hW (good_of_word (List.mem_filter.mp h).2) (hg.1 w (lw_all_tbl h))
theorem rb_KK {g : rb_G} {s : State} (hg : rb_GW g) (hW : g.2.1.WarmedH s.vm) : va_K g.2.2.2.1 rb_cl (rb_tys g.2.2.2.2) s := va_K.moved hW.alike hg.2.1
theorem rb_flat {g : rb_G} (hg : rb_GW g) {w : Cond} (h : w ∈ flatC (Jvm.Cond.and given_1 narrow_1)) : w.before #[Value.ref g.2.2.1] g.2.1 = true := flat_of_before _ hg.2.2.2.1 _ h
