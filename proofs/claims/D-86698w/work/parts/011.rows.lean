set_option maxRecDepth 100000
section RB1
variable {κ : rb_K} {μ : rb_M} {n : Nat × Nat} {M : rb_H} {pc : Nat} {ls : List (Option Value)} {st : List Value}
theorem rb_iconst {j : Int} {v : Int32} (hv : Int32.ofInt j = v) (d : decode μ.2.1 pc = .ok (.iconst j, 1)) (k : rb_Bd κ μ n M (pc + 1) ls (.int v :: st)) : rb_Bd κ μ n M pc ls st := by
  intro hg p e s m args below meth c hC H locs lsA hH hL hl
  exact lv_iconst hC.1 hC.2.1 d hv (k hg p e s m args below meth c hC H locs lsA hH hL hl)
theorem rb_bipush {j : Int} {v : Int32} (hv : (Int8.ofInt j).toInt32 = v) (d : decode μ.2.1 pc = .ok (.bipush j, 2)) (k : rb_Bd κ μ n M (pc + 2) ls (.int v :: st)) : rb_Bd κ μ n M pc ls st := by
  intro hg p e s m args below meth c hC H locs lsA hH hL hl
  exact lv_bipush hC.1 hC.2.1 d hv (k hg p e s m args below meth c hC H locs lsA hH hL hl)
theorem rb_sipush {j : Int} {v : Int32} (hv : (Int16.ofInt j).toInt32 = v) (d : decode μ.2.1 pc = .ok (.sipush j, 3)) (k : rb_Bd κ μ n M (pc + 3) ls (.int v :: st)) : rb_Bd κ μ n M pc ls st := by
  intro hg p e s m args below meth c hC H locs lsA hH hL hl
  exact lv_sipush hC.1 hC.2.1 d hv (k hg p e s m args below meth c hC H locs lsA hH hL hl)
theorem rb_lconst {j : Fin 2} {v : Int64} (hv : Int64.ofNat (j : Nat) = v) (d : decode μ.2.1 pc = .ok (.lconst j, 1)) (k : rb_Bd κ μ n M (pc + 1) ls (.long v :: st)) : rb_Bd κ μ n M pc ls st := by
  intro hg p e s m args below meth c hC H locs lsA hH hL hl
  exact lv_lconst hC.1 hC.2.1 d hv (k hg p e s m args below meth c hC H locs lsA hH hL hl)
theorem rb_null (d : decode μ.2.1 pc = .ok (.aconst_null, 1)) (k : rb_Bd κ μ n M (pc + 1) ls (.null :: st)) : rb_Bd κ μ n M pc ls st := by
  intro hg p e s m args below meth c hC H locs lsA hH hL hl
  exact lv_null hC.1 hC.2.1 d (k hg p e s m args below meth c hC H locs lsA hH hL hl)
theorem rb_iload_n {j : Fin 4} (i : Nat) {x : Int32} (hi : (j : Nat) = i) (h : ls[i]? = some (some (.int x))) (d : decode μ.2.1 pc = .ok (.iload_n j, 1)) (k : rb_Bd κ μ n M (pc + 1) ls (.int x :: st)) : rb_Bd κ μ n M pc ls st := by
  intro hg p e s m args below meth c hC H locs lsA hH hL hl
  exact lv_iload_n hC.1 hC.2.1 d hi (hl.2.2 i _ h) (k hg p e s m args below meth c hC H locs lsA hH hL hl)
theorem rb_iload {i : Nat} {x : Int32} (h : ls[i]? = some (some (.int x))) (d : decode μ.2.1 pc = .ok (.iload i, 2)) (k : rb_Bd κ μ n M (pc + 2) ls (.int x :: st)) : rb_Bd κ μ n M pc ls st := by
  intro hg p e s m args below meth c hC H locs lsA hH hL hl
  exact lv_iload hC.1 hC.2.1 d (hl.2.2 i _ h) (k hg p e s m args below meth c hC H locs lsA hH hL hl)
theorem rb_lload_n {j : Fin 4} (i : Nat) {x : Int64} (hi : (j : Nat) = i) (h : ls[i]? = some (some (.long x))) (d : decode μ.2.1 pc = .ok (.lload_n j, 1)) (k : rb_Bd κ μ n M (pc + 1) ls (.long x :: st)) : rb_Bd κ μ n M pc ls st := by
  intro hg p e s m args below meth c hC H locs lsA hH hL hl
  exact lv_lload_n hC.1 hC.2.1 d hi (hl.2.2 i _ h) (k hg p e s m args below meth c hC H locs lsA hH hL hl)
theorem rb_lload {i : Nat} {x : Int64} (h : ls[i]? = some (some (.long x))) (d : decode μ.2.1 pc = .ok (.lload i, 2)) (k : rb_Bd κ μ n M (pc + 2) ls (.long x :: st)) : rb_Bd κ μ n M pc ls st := by
  intro hg p e s m args below meth c hC H locs lsA hH hL hl
  exact lv_lload hC.1 hC.2.1 d (hl.2.2 i _ h) (k hg p e s m args below meth c hC H locs lsA hH hL hl)
/-- a reference or null -/
def rb_isR (v : Value) : Prop := v = .null ∨ ∃ a, v = .ref a
theorem rb_isR_ref (a : Nat) : rb_isR (.ref a) := Or.inr ⟨a, rfl⟩
theorem rb_isR_null : rb_isR .null := Or.inl rfl
theorem rb_isR_rf (r : Option Nat) : rb_isR (va_rf r) := by cases r <;> simp [rb_isR, va_rf]
theorem rb_aload_n {j : Fin 4} (i : Nat) {v : Value} (hi : (j : Nat) = i) (h : ls[i]? = some (some v)) (hv : rb_isR v) (d : decode μ.2.1 pc = .ok (.aload_n j, 1)) (k : rb_Bd κ μ n M (pc + 1) ls (v :: st)) : rb_Bd κ μ n M pc ls st := by
  intro hg p e s m args below meth c hC H locs lsA hH hL hl
  rcases hv with rfl | ⟨a, rfl⟩
  · exact lv_aload_nN hC.1 hC.2.1 d hi (hl.2.2 i _ h) (k hg p e s m args below meth c hC H locs lsA hH hL hl)
  · exact lv_aload_n hC.1 hC.2.1 d hi (hl.2.2 i _ h) (k hg p e s m args below meth c hC H locs lsA hH hL hl)
theorem rb_aload {i : Nat} {v : Value} (h : ls[i]? = some (some v)) (hv : rb_isR v) (d : decode μ.2.1 pc = .ok (.aload i, 2)) (k : rb_Bd κ μ n M (pc + 2) ls (v :: st)) : rb_Bd κ μ n M pc ls st := by
  intro hg p e s m args below meth c hC H locs lsA hH hL hl
  rcases hv with rfl | ⟨a, rfl⟩
  · exact lv_aloadN hC.1 hC.2.1 d (hl.2.2 i _ h) (k hg p e s m args below meth c hC H locs lsA hH hL hl)
  · exact lv_aload hC.1 hC.2.1 d (hl.2.2 i _ h) (k hg p e s m args below meth c hC H locs lsA hH hL hl)
/-- the locals as the kit lists them -/
def rb_al (ls : List (Option Value)) : List (Nat × Value) := ls.zipIdx.filterMap fun q => q.1.map fun v => (q.2, v)
theorem rb_al_mem {ls : List (Option Value)} {i : Nat} {v : Value} : (i, v) ∈ rb_al ls ↔ ls[i]? = some (some v) := by
  unfold rb_al
  rw [List.mem_filterMap]
  constructor
  · rintro ⟨⟨x, j⟩, h1, h2⟩
    rw [List.mem_zipIdx_iff_getElem?] at h1
    cases x with
    | none => cases h2
    | some w => cases h2; exact h1
  · intro h
    exact ⟨(some v, i), List.mem_zipIdx_iff_getElem?.mpr h, rfl⟩
theorem rb_ls.has {lsA : Array Slot} {nL : Nat} {ls : List (Option Value)} (h : rb_ls lsA nL ls) : lv_has lsA nL (rb_al ls) := ⟨h.1, h.2.1, fun q hq => h.2.2 q.1 q.2 (rb_al_mem.mp hq)⟩
/-- storing at i does not cut a long in two -/
def rb_o1 (ls : List (Option Value)) (i : Nat) : Bool := match i with
  | 0 => true
  | j + 1 => match ls[j]? with
    | some (some w) => !(w.category == 2)
    | _ => true
theorem rb_o1_no {ls : List (Option Value)} {i j : Nat} {w : Value} (h : rb_o1 ls i = true) (hj : ls[j]? = some (some w)) : (j + 1 == i && w.category == 2) = false := by
  by_cases e : j + 1 = i
  · subst e
    simp only [rb_o1, hj] at h
    simpa using h
  · simp [e]
theorem rb_ls.store1 {lsA : Array Slot} {nL i : Nat} {ls : List (Option Value)} {v : Value} (ho : rb_o1 ls i = true) (h : lv_has lsA nL ((i, v) :: (rb_al ls).filter (fun q => !(q.1 == i) && !(q.1 + 1 == i && q.2.category == 2)))) : rb_ls lsA nL (ls.set i (some v)) := by
  refine ⟨h.1, h.2.1, fun j w hj => ?_⟩
  by_cases e : j = i
  · subst e
    have hlt : j < ls.length := by
      have := (List.getElem?_eq_some_iff.mp hj).1
      simpa using this
    rw [List.getElem?_set_self hlt] at hj
    cases hj
    exact h.2.2 _ List.mem_cons_self
  · rw [List.getElem?_set_ne (Ne.symm e)] at hj
    refine h.2.2 (j, w) (List.mem_cons_of_mem _ (List.mem_filter.mpr ⟨rb_al_mem.mpr hj, ?_⟩))
    simp only [rb_o1_no ho hj, Bool.not_false, Bool.and_true]
    simpa using e
theorem rb_ls.store2 {lsA : Array Slot} {nL i : Nat} {ls : List (Option Value)} {v : Value} (ho : rb_o1 ls i = true) (h : lv_has lsA nL ((i, v) :: (rb_al ls).filter (fun q => !(q.1 == i) && (!(q.1 == i + 1) && !(q.1 + 1 == i && q.2.category == 2))))) : rb_ls lsA nL ((ls.set i (some v)).set (i + 1) none) := by
  refine ⟨h.1, h.2.1, fun j w hj => ?_⟩
  by_cases e1 : j = i + 1
  · subst e1
    have hlt : i + 1 < (ls.set i (some v)).length := by
      have := (List.getElem?_eq_some_iff.mp hj).1
      simpa using this
    rw [List.getElem?_set_self hlt] at hj
    cases hj
  rw [List.getElem?_set_ne (Ne.symm e1)] at hj
  by_cases e : j = i
  · subst e
    have hlt : j < ls.length := by
      have := (List.getElem?_eq_some_iff.mp hj).1
      simpa using this
    rw [List.getElem?_set_self hlt] at hj
    cases hj
    exact h.2.2 _ List.mem_cons_self
  · rw [List.getElem?_set_ne (Ne.symm e)] at hj
    refine h.2.2 (j, w) (List.mem_cons_of_mem _ (List.mem_filter.mpr ⟨rb_al_mem.mpr hj, ?_⟩))
    simp only [rb_o1_no ho hj, Bool.not_false, Bool.and_true]
    simp [e, e1]
theorem rb_ls.weak {lsA : Array Slot} {nL : Nat} {ls ls' : List (Option Value)} (h : rb_ls lsA nL ls) (hw : ∀ (i : Nat) (v : Value), ls'[i]? = some (some v) → ls[i]? = some (some v)) : rb_ls lsA nL ls' := ⟨h.1, h.2.1, fun i v hi => h.2.2 i v (hw i v hi)⟩
/-- ls' says no more than ls -/
def rb_wk : List (Option Value) → List (Option Value) → Prop
  | _, [] => True
  | [], x :: t => x = none ∧ rb_wk [] t
  | y :: u, x :: t => (x = none ∨ x = y) ∧ rb_wk u t
theorem rb_wk_ok : ∀ (ls ls' : List (Option Value)), rb_wk ls ls' → ∀ (i : Nat) (v : Value), ls'[i]? = some (some v) → ls[i]? = some (some v)
  | _, [], _, i, v, h => by simp at h
  | [], x :: t, hw, i, v, h => by
    cases i with
    | zero => rw [hw.1] at h; simp at h
    | succ i => have := rb_wk_ok [] t hw.2 i v (by simpa using h); simp at this
  | y :: u, x :: t, hw, i, v, h => by
    cases i with
    | zero =>
      rcases hw.1 with e | e
      · rw [e] at h; simp at h
      · rw [← e]; simpa using h
    | succ i => simpa using rb_wk_ok u t hw.2 i v (by simpa using h)
theorem rb_weak {ls' : List (Option Value)} (hw : rb_wk ls ls') (k : rb_Bd κ μ n M pc ls' st) : rb_Bd κ μ n M pc ls st := by
  intro hg p e s m args below meth c hC H locs lsA hH hL hl
  exact k hg p e s m args below meth c hC H locs lsA hH hL (hl.weak (rb_wk_ok ls ls' hw))
theorem rb_istore_n {j : Fin 4} (i : Nat) {x : Int32} {ls' : List (Option Value)} (hi : (j : Nat) = i) (hn : i < μ.2.2.1) (ho : rb_o1 ls i = true) (hs : ls.set i (some (.int x)) = ls') (d : decode μ.2.1 pc = .ok (.istore_n j, 1)) (k : rb_Bd κ μ n M (pc + 1) ls' st) : rb_Bd κ μ n M pc ls (.int x :: st) := by
  subst hs
  intro hg p e s m args below meth c hC H locs lsA hH hL hl
  exact lv_istore_n hC.1 hC.2.1 d hi hl.has hn rfl fun lsB hB => k hg p e s m args below meth c hC H locs lsB hH hL (rb_ls.store1 ho hB)
theorem rb_istore {i : Nat} {x : Int32} {ls' : List (Option Value)} (hn : i < μ.2.2.1) (ho : rb_o1 ls i = true) (hs : ls.set i (some (.int x)) = ls') (d : decode μ.2.1 pc = .ok (.istore i, 2)) (k : rb_Bd κ μ n M (pc + 2) ls' st) : rb_Bd κ μ n M pc ls (.int x :: st) := by
  subst hs
  intro hg p e s m args below meth c hC H locs lsA hH hL hl
  exact lv_istore hC.1 hC.2.1 d hl.has hn rfl fun lsB hB => k hg p e s m args below meth c hC H locs lsB hH hL (rb_ls.store1 ho hB)
theorem rb_lstore_n {j : Fin 4} (i : Nat) {x : Int64} {ls' : List (Option Value)} (hi : (j : Nat) = i) (hn : i + 1 < μ.2.2.1) (ho : rb_o1 ls i = true) (hs : (ls.set i (some (.long x))).set (i + 1) none = ls') (d : decode μ.2.1 pc = .ok (.lstore_n j, 1)) (k : rb_Bd κ μ n M (pc + 1) ls' st) : rb_Bd κ μ n M pc ls (.long x :: st) := by
  subst hs
  intro hg p e s m args below meth c hC H locs lsA hH hL hl
  exact lv_lstore_n hC.1 hC.2.1 d hi hl.has hn rfl fun lsB hB => k hg p e s m args below meth c hC H locs lsB hH hL (rb_ls.store2 ho hB)
theorem rb_lstore {i : Nat} {x : Int64} {ls' : List (Option Value)} (hn : i + 1 < μ.2.2.1) (ho : rb_o1 ls i = true) (hs : (ls.set i (some (.long x))).set (i + 1) none = ls') (d : decode μ.2.1 pc = .ok (.lstore i, 2)) (k : rb_Bd κ μ n M (pc + 2) ls' st) : rb_Bd κ μ n M pc ls (.long x :: st) := by
  subst hs
  intro hg p e s m args below meth c hC H locs lsA hH hL hl
  exact lv_lstore hC.1 hC.2.1 d hl.has hn rfl fun lsB hB => k hg p e s m args below meth c hC H locs lsB hH hL (rb_ls.store2 ho hB)
theorem rb_astore_n {j : Fin 4} (i : Nat) {v : Value} {ls' : List (Option Value)} (hi : (j : Nat) = i) (hn : i < μ.2.2.1) (ho : rb_o1 ls i = true) (hs : ls.set i (some v) = ls') (hv : rb_isR v) (d : decode μ.2.1 pc = .ok (.astore_n j, 1)) (k : rb_Bd κ μ n M (pc + 1) ls' st) : rb_Bd κ μ n M pc ls (v :: st) := by
  subst hs
  intro hg p e s m args below meth c hC H locs lsA hH hL hl
  rcases hv with rfl | ⟨a, rfl⟩
  · exact lv_astore_nN hC.1 hC.2.1 d hi hl.has hn rfl fun lsB hB => k hg p e s m args below meth c hC H locs lsB hH hL (rb_ls.store1 ho hB)
  · exact lv_astore_n hC.1 hC.2.1 d hi hl.has hn rfl fun lsB hB => k hg p e s m args below meth c hC H locs lsB hH hL (rb_ls.store1 ho hB)
theorem rb_astore {i : Nat} {v : Value} {ls' : List (Option Value)} (hn : i < μ.2.2.1) (ho : rb_o1 ls i = true) (hs : ls.set i (some v) = ls') (hv : rb_isR v) (d : decode μ.2.1 pc = .ok (.astore i, 2)) (k : rb_Bd κ μ n M (pc + 2) ls' st) : rb_Bd κ μ n M pc ls (v :: st) := by
  subst hs
  intro hg p e s m args below meth c hC H locs lsA hH hL hl
  rcases hv with rfl | ⟨a, rfl⟩
  · exact lv_astoreN hC.1 hC.2.1 d hl.has hn rfl fun lsB hB => k hg p e s m args below meth c hC H locs lsB hH hL (rb_ls.store1 ho hB)
  · exact lv_astore hC.1 hC.2.1 d hl.has hn rfl fun lsB hB => k hg p e s m args below meth c hC H locs lsB hH hL (rb_ls.store1 ho hB)
theorem rb_iinc {i : Nat} {j : Int} {x v : Int32} {ls' : List (Option Value)} (h : ls[i]? = some (some (.int x))) (hv : x + Int32.ofInt j = v) (hn : i < μ.2.2.1) (ho : rb_o1 ls i = true) (hs : ls.set i (some (.int v)) = ls') (d : decode μ.2.1 pc = .ok (.iinc i j, 3)) (k : rb_Bd κ μ n M (pc + 3) ls' st) : rb_Bd κ μ n M pc ls st := by
  subst hs
  intro hg p e s m args below meth c hC H locs lsA hH hL hl
  obtain ⟨kk, hk⟩ := List.getElem?_of_mem (rb_al_mem.mpr h)
  exact lv_iinc hC.1 hC.2.1 d hl.has hk hv hn rfl fun lsB hB => k hg p e s m args below meth c hC H locs lsB hH hL (rb_ls.store1 ho hB)
theorem rb_iadd {x y z : Int32} (hz : x + y = z) (d : decode μ.2.1 pc = .ok (.iadd, 1)) (k : rb_Bd κ μ n M (pc + 1) ls (.int z :: st)) : rb_Bd κ μ n M pc ls (.int y :: .int x :: st) := by
  subst hz
  intro hg p e s m args below meth c hC H locs lsA hH hL hl
  exact lv_iadd hC.1 hC.2.1 d (k hg p e s m args below meth c hC H locs lsA hH hL hl)
theorem rb_isub {x y z : Int32} (hz : x - y = z) (d : decode μ.2.1 pc = .ok (.isub, 1)) (k : rb_Bd κ μ n M (pc + 1) ls (.int z :: st)) : rb_Bd κ μ n M pc ls (.int y :: .int x :: st) := by
  subst hz
  intro hg p e s m args below meth c hC H locs lsA hH hL hl
  exact lv_isub hC.1 hC.2.1 d (k hg p e s m args below meth c hC H locs lsA hH hL hl)
theorem rb_imul {x y z : Int32} (hz : x * y = z) (d : decode μ.2.1 pc = .ok (.imul, 1)) (k : rb_Bd κ μ n M (pc + 1) ls (.int z :: st)) : rb_Bd κ μ n M pc ls (.int y :: .int x :: st) := by
  subst hz
  intro hg p e s m args below meth c hC H locs lsA hH hL hl
  exact lv_imul hC.1 hC.2.1 d (k hg p e s m args below meth c hC H locs lsA hH hL hl)
theorem rb_iand {x y z : Int32} (hz : x &&& y = z) (d : decode μ.2.1 pc = .ok (.iand, 1)) (k : rb_Bd κ μ n M (pc + 1) ls (.int z :: st)) : rb_Bd κ μ n M pc ls (.int y :: .int x :: st) := by
  subst hz
  intro hg p e s m args below meth c hC H locs lsA hH hL hl
  exact lv_iand hC.1 hC.2.1 d (k hg p e s m args below meth c hC H locs lsA hH hL hl)
theorem rb_ior {x y z : Int32} (hz : x ||| y = z) (d : decode μ.2.1 pc = .ok (.ior, 1)) (k : rb_Bd κ μ n M (pc + 1) ls (.int z :: st)) : rb_Bd κ μ n M pc ls (.int y :: .int x :: st) := by
  subst hz
  intro hg p e s m args below meth c hC H locs lsA hH hL hl
  exact lv_ior hC.1 hC.2.1 d (k hg p e s m args below meth c hC H locs lsA hH hL hl)
theorem rb_ishl {x y z : Int32} (hz : x <<< (y &&& 31) = z) (d : decode μ.2.1 pc = .ok (.ishl, 1)) (k : rb_Bd κ μ n M (pc + 1) ls (.int z :: st)) : rb_Bd κ μ n M pc ls (.int y :: .int x :: st) := by
  subst hz
  intro hg p e s m args below meth c hC H locs lsA hH hL hl
  exact lv_ishl hC.1 hC.2.1 d (k hg p e s m args below meth c hC H locs lsA hH hL hl)
theorem rb_ishr {x y z : Int32} (hz : x >>> (y &&& 31) = z) (d : decode μ.2.1 pc = .ok (.ishr, 1)) (k : rb_Bd κ μ n M (pc + 1) ls (.int z :: st)) : rb_Bd κ μ n M pc ls (.int y :: .int x :: st) := by
  subst hz
  intro hg p e s m args below meth c hC H locs lsA hH hL hl
  exact lv_ishr hC.1 hC.2.1 d (k hg p e s m args below meth c hC H locs lsA hH hL hl)
theorem rb_ladd {x y z : Int64} (hz : x + y = z) (d : decode μ.2.1 pc = .ok (.ladd, 1)) (k : rb_Bd κ μ n M (pc + 1) ls (.long z :: st)) : rb_Bd κ μ n M pc ls (.long y :: .long x :: st) := by
  subst hz
  intro hg p e s m args below meth c hC H locs lsA hH hL hl
  exact lv_ladd hC.1 hC.2.1 d (k hg p e s m args below meth c hC H locs lsA hH hL hl)
theorem rb_lsub {x y z : Int64} (hz : x - y = z) (d : decode μ.2.1 pc = .ok (.lsub, 1)) (k : rb_Bd κ μ n M (pc + 1) ls (.long z :: st)) : rb_Bd κ μ n M pc ls (.long y :: .long x :: st) := by
  subst hz
  intro hg p e s m args below meth c hC H locs lsA hH hL hl
  exact lv_lsub hC.1 hC.2.1 d (k hg p e s m args below meth c hC H locs lsA hH hL hl)
theorem rb_lmul {x y z : Int64} (hz : x * y = z) (d : decode μ.2.1 pc = .ok (.lmul, 1)) (k : rb_Bd κ μ n M (pc + 1) ls (.long z :: st)) : rb_Bd κ μ n M pc ls (.long y :: .long x :: st) := by
  subst hz
  intro hg p e s m args below meth c hC H locs lsA hH hL hl
  exact lv_lmul hC.1 hC.2.1 d (k hg p e s m args below meth c hC H locs lsA hH hL hl)
theorem rb_land {x y z : Int64} (hz : x &&& y = z) (d : decode μ.2.1 pc = .ok (.land, 1)) (k : rb_Bd κ μ n M (pc + 1) ls (.long z :: st)) : rb_Bd κ μ n M pc ls (.long y :: .long x :: st) := by
  subst hz
  intro hg p e s m args below meth c hC H locs lsA hH hL hl
  exact lv_land hC.1 hC.2.1 d (k hg p e s m args below meth c hC H locs lsA hH hL hl)
theorem rb_lor {x y z : Int64} (hz : x ||| y = z) (d : decode μ.2.1 pc = .ok (.lor, 1)) (k : rb_Bd κ μ n M (pc + 1) ls (.long z :: st)) : rb_Bd κ μ n M pc ls (.long y :: .long x :: st) := by
  subst hz
  intro hg p e s m args below meth c hC H locs lsA hH hL hl
  exact lv_lor hC.1 hC.2.1 d (k hg p e s m args below meth c hC H locs lsA hH hL hl)
theorem rb_idiv {x y z : Int32} (hne : ¬ y = 0) (hz : x / y = z) (d : decode μ.2.1 pc = .ok (.idiv, 1)) (k : rb_Bd κ μ n M (pc + 1) ls (.int z :: st)) : rb_Bd κ μ n M pc ls (.int y :: .int x :: st) := by
  subst hz
  intro hg p e s m args below meth c hC H locs lsA hH hL hl
  exact lv_idiv hC.1 hC.2.1 d hne (k hg p e s m args below meth c hC H locs lsA hH hL hl)
theorem rb_irem {x y z : Int32} (hne : ¬ y = 0) (hz : x - x / y * y = z) (d : decode μ.2.1 pc = .ok (.irem, 1)) (k : rb_Bd κ μ n M (pc + 1) ls (.int z :: st)) : rb_Bd κ μ n M pc ls (.int y :: .int x :: st) := by
  subst hz
  intro hg p e s m args below meth c hC H locs lsA hH hL hl
  exact lv_irem hC.1 hC.2.1 d hne (k hg p e s m args below meth c hC H locs lsA hH hL hl)
theorem rb_ldiv {x y z : Int64} (hne : ¬ y = 0) (hz : x / y = z) (d : decode μ.2.1 pc = .ok (.ldiv, 1)) (k : rb_Bd κ μ n M (pc + 1) ls (.long z :: st)) : rb_Bd κ μ n M pc ls (.long y :: .long x :: st) := by
  subst hz
  intro hg p e s m args below meth c hC H locs lsA hH hL hl
  exact lv_ldiv hC.1 hC.2.1 d hne (k hg p e s m args below meth c hC H locs lsA hH hL hl)
theorem rb_lshl {x z : Int64} {y : Int32} (hz : x <<< (y.toInt64 &&& 63) = z) (d : decode μ.2.1 pc = .ok (.lshl, 1)) (k : rb_Bd κ μ n M (pc + 1) ls (.long z :: st)) : rb_Bd κ μ n M pc ls (.int y :: .long x :: st) := by
  intro hg p e s m args below meth c hC H locs lsA hH hL hl
  exact lv_lshl hC.1 hC.2.1 d hz (k hg p e s m args below meth c hC H locs lsA hH hL hl)
theorem rb_i2l {x : Int32} {z : Int64} (hz : x.toInt64 = z) (d : decode μ.2.1 pc = .ok (.i2l, 1)) (k : rb_Bd κ μ n M (pc + 1) ls (.long z :: st)) : rb_Bd κ μ n M pc ls (.int x :: st) := by
  intro hg p e s m args below meth c hC H locs lsA hH hL hl
  exact lv_i2l hC.1 hC.2.1 d hz (k hg p e s m args below meth c hC H locs lsA hH hL hl)
theorem rb_l2i {x : Int64} {z : Int32} (hz : x.toInt32 = z) (d : decode μ.2.1 pc = .ok (.l2i, 1)) (k : rb_Bd κ μ n M (pc + 1) ls (.int z :: st)) : rb_Bd κ μ n M pc ls (.long x :: st) := by
  intro hg p e s m args below meth c hC H locs lsA hH hL hl
  exact lv_l2i hC.1 hC.2.1 d hz (k hg p e s m args below meth c hC H locs lsA hH hL hl)
theorem rb_dup {a : Value} (ha : a.category = 1) (d : decode μ.2.1 pc = .ok (.dup, 1)) (k : rb_Bd κ μ n M (pc + 1) ls (a :: a :: st)) : rb_Bd κ μ n M pc ls (a :: st) := by
  intro hg p e s m args below meth c hC H locs lsA hH hL hl
  exact lv_dup hC.1 hC.2.1 d ha (k hg p e s m args below meth c hC H locs lsA hH hL hl)
theorem rb_pop {a : Value} (ha : a.category = 1) (d : decode μ.2.1 pc = .ok (.pop, 1)) (k : rb_Bd κ μ n M (pc + 1) ls st) : rb_Bd κ μ n M pc ls (a :: st) := by
  intro hg p e s m args below meth c hC H locs lsA hH hL hl
  exact lv_pop hC.1 hC.2.1 d ha (k hg p e s m args below meth c hC H locs lsA hH hL hl)
theorem rb_dup_x1 {a b : Value} (ha : a.category = 1) (hb : b.category = 1) (d : decode μ.2.1 pc = .ok (.dup_x1, 1)) (k : rb_Bd κ μ n M (pc + 1) ls (a :: b :: a :: st)) : rb_Bd κ μ n M pc ls (a :: b :: st) := by
  intro hg p e s m args below meth c hC H locs lsA hH hL hl
  exact lv_dup_x1 hC.1 hC.2.1 d ha hb (k hg p e s m args below meth c hC H locs lsA hH hL hl)
theorem rb_dup2 {a b : Value} (ha : a.category = 1) (hb : b.category = 1) (d : decode μ.2.1 pc = .ok (.dup2, 1)) (k : rb_Bd κ μ n M (pc + 1) ls (a :: b :: a :: b :: st)) : rb_Bd κ μ n M pc ls (a :: b :: st) := by
  intro hg p e s m args below meth c hC H locs lsA hH hL hl
  exact lv_dup2_11 hC.1 hC.2.1 d ha hb (k hg p e s m args below meth c hC H locs lsA hH hL hl)
theorem rb_dup2L {a : Value} (ha : a.category = 2) (d : decode μ.2.1 pc = .ok (.dup2, 1)) (k : rb_Bd κ μ n M (pc + 1) ls (a :: a :: st)) : rb_Bd κ μ n M pc ls (a :: st) := by
  intro hg p e s m args below meth c hC H locs lsA hH hL hl
  exact lv_dup2_2 hC.1 hC.2.1 d ha (k hg p e s m args below meth c hC H locs lsA hH hL hl)
theorem rb_ifeq {x : Int32} {off : Int} (tgt : Nat) (ht : (pc : Int) + off = (tgt : Int)) (d : decode μ.2.1 pc = .ok (.ifCond .eq off, 3)) (kt : x = 0 → rb_Bd κ μ n M tgt ls st) (kf : ¬ x = 0 → rb_Bd κ μ n M (pc + 3) ls st) : rb_Bd κ μ n M pc ls (.int x :: st) := by
  intro hg p e s m args below meth c hC H locs lsA hH hL hl
  exact lv_if_eq hC.1 hC.2.1 d ht (fun hx => kt hx hg p e s m args below meth c hC H locs lsA hH hL hl) (fun hx => kf (hx) hg p e s m args below meth c hC H locs lsA hH hL hl)
theorem rb_ifne {x : Int32} {off : Int} (tgt : Nat) (ht : (pc : Int) + off = (tgt : Int)) (d : decode μ.2.1 pc = .ok (.ifCond .ne off, 3)) (kt : ¬ x = 0 → rb_Bd κ μ n M tgt ls st) (kf : x = 0 → rb_Bd κ μ n M (pc + 3) ls st) : rb_Bd κ μ n M pc ls (.int x :: st) := by
  intro hg p e s m args below meth c hC H locs lsA hH hL hl
  exact lv_if_ne hC.1 hC.2.1 d ht (fun hx => kt hx hg p e s m args below meth c hC H locs lsA hH hL hl) (fun hx => kf (hx) hg p e s m args below meth c hC H locs lsA hH hL hl)
theorem rb_iflt {x : Int32} {off : Int} (tgt : Nat) (ht : (pc : Int) + off = (tgt : Int)) (d : decode μ.2.1 pc = .ok (.ifCond .lt off, 3)) (kt : x < 0 → rb_Bd κ μ n M tgt ls st) (kf : 0 ≤ x → rb_Bd κ μ n M (pc + 3) ls st) : rb_Bd κ μ n M pc ls (.int x :: st) := by
  intro hg p e s m args below meth c hC H locs lsA hH hL hl
  exact lv_if_lt hC.1 hC.2.1 d ht (fun hx => kt hx hg p e s m args below meth c hC H locs lsA hH hL hl) (fun hx => kf (Int32.not_lt.mp hx) hg p e s m args below meth c hC H locs lsA hH hL hl)
theorem rb_ifge {x : Int32} {off : Int} (tgt : Nat) (ht : (pc : Int) + off = (tgt : Int)) (d : decode μ.2.1 pc = .ok (.ifCond .ge off, 3)) (kt : 0 ≤ x → rb_Bd κ μ n M tgt ls st) (kf : x < 0 → rb_Bd κ μ n M (pc + 3) ls st) : rb_Bd κ μ n M pc ls (.int x :: st) := by
  intro hg p e s m args below meth c hC H locs lsA hH hL hl
  exact lv_if_ge hC.1 hC.2.1 d ht (fun hx => kt hx hg p e s m args below meth c hC H locs lsA hH hL hl) (fun hx => kf (Int32.not_le.mp hx) hg p e s m args below meth c hC H locs lsA hH hL hl)
theorem rb_ifgt {x : Int32} {off : Int} (tgt : Nat) (ht : (pc : Int) + off = (tgt : Int)) (d : decode μ.2.1 pc = .ok (.ifCond .gt off, 3)) (kt : 0 < x → rb_Bd κ μ n M tgt ls st) (kf : x ≤ 0 → rb_Bd κ μ n M (pc + 3) ls st) : rb_Bd κ μ n M pc ls (.int x :: st) := by
  intro hg p e s m args below meth c hC H locs lsA hH hL hl
  exact lv_if_gt hC.1 hC.2.1 d ht (fun hx => kt hx hg p e s m args below meth c hC H locs lsA hH hL hl) (fun hx => kf (Int32.not_lt.mp hx) hg p e s m args below meth c hC H locs lsA hH hL hl)
theorem rb_ifle {x : Int32} {off : Int} (tgt : Nat) (ht : (pc : Int) + off = (tgt : Int)) (d : decode μ.2.1 pc = .ok (.ifCond .le off, 3)) (kt : x ≤ 0 → rb_Bd κ μ n M tgt ls st) (kf : 0 < x → rb_Bd κ μ n M (pc + 3) ls st) : rb_Bd κ μ n M pc ls (.int x :: st) := by
  intro hg p e s m args below meth c hC H locs lsA hH hL hl
  exact lv_if_le hC.1 hC.2.1 d ht (fun hx => kt hx hg p e s m args below meth c hC H locs lsA hH hL hl) (fun hx => kf (Int32.not_le.mp hx) hg p e s m args below meth c hC H locs lsA hH hL hl)
theorem rb_iceq {x y : Int32} {off : Int} (tgt : Nat) (ht : (pc : Int) + off = (tgt : Int)) (d : decode μ.2.1 pc = .ok (.if_icmp .eq off, 3)) (kt : x = y → rb_Bd κ μ n M tgt ls st) (kf : ¬ x = y → rb_Bd κ μ n M (pc + 3) ls st) : rb_Bd κ μ n M pc ls (.int y :: .int x :: st) := by
  intro hg p e s m args below meth c hC H locs lsA hH hL hl
  exact lv_icmp_eq hC.1 hC.2.1 d ht (fun hx => kt hx hg p e s m args below meth c hC H locs lsA hH hL hl) (fun hx => kf (hx) hg p e s m args below meth c hC H locs lsA hH hL hl)
theorem rb_icne {x y : Int32} {off : Int} (tgt : Nat) (ht : (pc : Int) + off = (tgt : Int)) (d : decode μ.2.1 pc = .ok (.if_icmp .ne off, 3)) (kt : ¬ x = y → rb_Bd κ μ n M tgt ls st) (kf : x = y → rb_Bd κ μ n M (pc + 3) ls st) : rb_Bd κ μ n M pc ls (.int y :: .int x :: st) := by
  intro hg p e s m args below meth c hC H locs lsA hH hL hl
  exact lv_icmp_ne hC.1 hC.2.1 d ht (fun hx => kt hx hg p e s m args below meth c hC H locs lsA hH hL hl) (fun hx => kf (hx) hg p e s m args below meth c hC H locs lsA hH hL hl)
theorem rb_iclt {x y : Int32} {off : Int} (tgt : Nat) (ht : (pc : Int) + off = (tgt : Int)) (d : decode μ.2.1 pc = .ok (.if_icmp .lt off, 3)) (kt : x < y → rb_Bd κ μ n M tgt ls st) (kf : y ≤ x → rb_Bd κ μ n M (pc + 3) ls st) : rb_Bd κ μ n M pc ls (.int y :: .int x :: st) := by
  intro hg p e s m args below meth c hC H locs lsA hH hL hl
  exact lv_icmp_lt hC.1 hC.2.1 d ht (fun hx => kt hx hg p e s m args below meth c hC H locs lsA hH hL hl) (fun hx => kf (Int32.not_lt.mp hx) hg p e s m args below meth c hC H locs lsA hH hL hl)
theorem rb_icge {x y : Int32} {off : Int} (tgt : Nat) (ht : (pc : Int) + off = (tgt : Int)) (d : decode μ.2.1 pc = .ok (.if_icmp .ge off, 3)) (kt : y ≤ x → rb_Bd κ μ n M tgt ls st) (kf : x < y → rb_Bd κ μ n M (pc + 3) ls st) : rb_Bd κ μ n M pc ls (.int y :: .int x :: st) := by
  intro hg p e s m args below meth c hC H locs lsA hH hL hl
  exact lv_icmp_ge hC.1 hC.2.1 d ht (fun hx => kt hx hg p e s m args below meth c hC H locs lsA hH hL hl) (fun hx => kf (Int32.not_le.mp hx) hg p e s m args below meth c hC H locs lsA hH hL hl)
theorem rb_icgt {x y : Int32} {off : Int} (tgt : Nat) (ht : (pc : Int) + off = (tgt : Int)) (d : decode μ.2.1 pc = .ok (.if_icmp .gt off, 3)) (kt : y < x → rb_Bd κ μ n M tgt ls st) (kf : x ≤ y → rb_Bd κ μ n M (pc + 3) ls st) : rb_Bd κ μ n M pc ls (.int y :: .int x :: st) := by
  intro hg p e s m args below meth c hC H locs lsA hH hL hl
  exact lv_icmp_gt hC.1 hC.2.1 d ht (fun hx => kt hx hg p e s m args below meth c hC H locs lsA hH hL hl) (fun hx => kf (Int32.not_lt.mp hx) hg p e s m args below meth c hC H locs lsA hH hL hl)
theorem rb_icle {x y : Int32} {off : Int} (tgt : Nat) (ht : (pc : Int) + off = (tgt : Int)) (d : decode μ.2.1 pc = .ok (.if_icmp .le off, 3)) (kt : x ≤ y → rb_Bd κ μ n M tgt ls st) (kf : y < x → rb_Bd κ μ n M (pc + 3) ls st) : rb_Bd κ μ n M pc ls (.int y :: .int x :: st) := by
  intro hg p e s m args below meth c hC H locs lsA hH hL hl
  exact lv_icmp_le hC.1 hC.2.1 d ht (fun hx => kt hx hg p e s m args below meth c hC H locs lsA hH hL hl) (fun hx => kf (Int32.not_le.mp hx) hg p e s m args below meth c hC H locs lsA hH hL hl)
theorem rb_isR.rf {v : Value} (h : rb_isR v) : ∃ r, v = va_rf r := by
  rcases h with rfl | ⟨a, rfl⟩
  · exact ⟨none, rfl⟩
  · exact ⟨some a, rfl⟩
theorem rb_rf_inj {r q : Option Nat} : va_rf r = va_rf q ↔ r = q := by
  cases r <;> cases q <;> simp [va_rf]
theorem rb_iaeq {v w : Value} (hv : rb_isR v) (hw : rb_isR w) {off : Int} (tgt : Nat) (ht : (pc : Int) + off = (tgt : Int)) (d : decode μ.2.1 pc = .ok (.if_acmp .eq off, 3)) (kt : v = w → rb_Bd κ μ n M tgt ls st) (kf : ¬ v = w → rb_Bd κ μ n M (pc + 3) ls st) : rb_Bd κ μ n M pc ls (w :: v :: st) := by
  obtain ⟨r, rfl⟩ := hv.rf
  obtain ⟨q, rfl⟩ := hw.rf
  simp only [rb_rf_inj] at kt kf
  intro hg p e s m args below meth c hC H locs lsA hH hL hl
  exact lv_acmp_eq hC.1 hC.2.1 d ht (fun hx => kt hx hg p e s m args below meth c hC H locs lsA hH hL hl) (fun hx => kf hx hg p e s m args below meth c hC H locs lsA hH hL hl)
theorem rb_iane {v w : Value} (hv : rb_isR v) (hw : rb_isR w) {off : Int} (tgt : Nat) (ht : (pc : Int) + off = (tgt : Int)) (d : decode μ.2.1 pc = .ok (.if_acmp .ne off, 3)) (kt : ¬ v = w → rb_Bd κ μ n M tgt ls st) (kf : v = w → rb_Bd κ μ n M (pc + 3) ls st) : rb_Bd κ μ n M pc ls (w :: v :: st) := by
  obtain ⟨r, rfl⟩ := hv.rf
  obtain ⟨q, rfl⟩ := hw.rf
  simp only [rb_rf_inj] at kt kf
  intro hg p e s m args below meth c hC H locs lsA hH hL hl
  exact lv_acmp_ne hC.1 hC.2.1 d ht (fun hx => kt hx hg p e s m args below meth c hC H locs lsA hH hL hl) (fun hx => kf hx hg p e s m args below meth c hC H locs lsA hH hL hl)
theorem rb_ifnull {v : Value} (hv : rb_isR v) {off : Int} (tgt : Nat) (ht : (pc : Int) + off = (tgt : Int)) (d : decode μ.2.1 pc = .ok (.ifnull off, 3)) (kt : v = .null → rb_Bd κ μ n M tgt ls st) (kf : ∀ a, v = .ref a → rb_Bd κ μ n M (pc + 3) ls st) : rb_Bd κ μ n M pc ls (v :: st) := by
  intro hg p e s m args below meth c hC H locs lsA hH hL hl
  rcases hv with rfl | ⟨a, rfl⟩
  · exact lv_ifnullN hC.1 hC.2.1 d ht (kt rfl hg p e s m args below meth c hC H locs lsA hH hL hl)
  · exact lv_ifnull hC.1 hC.2.1 d (kf a rfl hg p e s m args below meth c hC H locs lsA hH hL hl)
theorem rb_ifnonnull {v : Value} (hv : rb_isR v) {off : Int} (tgt : Nat) (ht : (pc : Int) + off = (tgt : Int)) (d : decode μ.2.1 pc = .ok (.ifnonnull off, 3)) (kt : ∀ a, v = .ref a → rb_Bd κ μ n M tgt ls st) (kf : v = .null → rb_Bd κ μ n M (pc + 3) ls st) : rb_Bd κ μ n M pc ls (v :: st) := by
  intro hg p e s m args below meth c hC H locs lsA hH hL hl
  rcases hv with rfl | ⟨a, rfl⟩
  · exact lv_ifnonnullN hC.1 hC.2.1 d (kf rfl hg p e s m args below meth c hC H locs lsA hH hL hl)
  · exact lv_ifnonnull hC.1 hC.2.1 d ht (kt a rfl hg p e s m args below meth c hC H locs lsA hH hL hl)
theorem rb_goto {off : Int} (tgt : Nat) (ht : (pc : Int) + off = (tgt : Int)) (d : decode μ.2.1 pc = .ok (.goto off, 3)) (k : rb_Bd κ μ n M tgt ls st) : rb_Bd κ μ n M pc ls st := by
  intro hg p e s m args below meth c hC H locs lsA hH hL hl
  exact lv_goto hC.1 hC.2.1 d ht (k hg p e s m args below meth c hC H locs lsA hH hL hl)
theorem rb_lcmp {x y : Int64} (d : decode μ.2.1 pc = .ok (.lcmp, 1)) (k : rb_Bd κ μ n M (pc + 1) ls (.int (lg_cmp x y) :: st)) : rb_Bd κ μ n M pc ls (.long y :: .long x :: st) := by
  intro hg p e s m args below meth c hC H locs lsA hH hL hl
  exact W.lcmp hC.1 hC.2.1 d (k hg p e s m args below meth c hC H locs lsA hH hL hl)
theorem rb_lc0 {x y : Int64} : lg_cmp x y = 0 ↔ x = y := lg_cmp_eq x y
theorem rb_lclt {x y : Int64} : lg_cmp x y < 0 ↔ x < y := lg_cmp_lt x y
theorem rb_lcgt {x y : Int64} : 0 < lg_cmp x y ↔ y < x := lg_cmp_gt x y
theorem rb_lcge {x y : Int64} : 0 ≤ lg_cmp x y ↔ y ≤ x := lg_cmp_ge x y
theorem rb_lcle {x y : Int64} : lg_cmp x y ≤ 0 ↔ x ≤ y := lg_cmp_le x y
theorem rb_lc_eq {x y : Int64} {off : Int} (tgt : Nat) (ht : ((pc + 1 : Nat) : Int) + off = (tgt : Int)) (d1 : decode μ.2.1 pc = .ok (.lcmp, 1)) (d2 : decode μ.2.1 (pc + 1) = .ok (.ifCond .eq off, 3)) (kt : x = y → rb_Bd κ μ n M tgt ls st) (kf : ¬ x = y → rb_Bd κ μ n M (pc + 4) ls st) : rb_Bd κ μ n M pc ls (.long y :: .long x :: st) :=
  rb_lcmp d1 (rb_ifeq tgt ht d2 (fun h => kt (rb_lc0.mp h)) (fun h => kf (fun q => h (rb_lc0.mpr q))))
theorem rb_lc_ne {x y : Int64} {off : Int} (tgt : Nat) (ht : ((pc + 1 : Nat) : Int) + off = (tgt : Int)) (d1 : decode μ.2.1 pc = .ok (.lcmp, 1)) (d2 : decode μ.2.1 (pc + 1) = .ok (.ifCond .ne off, 3)) (kt : ¬ x = y → rb_Bd κ μ n M tgt ls st) (kf : x = y → rb_Bd κ μ n M (pc + 4) ls st) : rb_Bd κ μ n M pc ls (.long y :: .long x :: st) :=
  rb_lcmp d1 (rb_ifne tgt ht d2 (fun h => kt (fun q => h (rb_lc0.mpr q))) (fun h => kf (rb_lc0.mp h)))
theorem rb_lc_lt {x y : Int64} {off : Int} (tgt : Nat) (ht : ((pc + 1 : Nat) : Int) + off = (tgt : Int)) (d1 : decode μ.2.1 pc = .ok (.lcmp, 1)) (d2 : decode μ.2.1 (pc + 1) = .ok (.ifCond .lt off, 3)) (kt : x < y → rb_Bd κ μ n M tgt ls st) (kf : y ≤ x → rb_Bd κ μ n M (pc + 4) ls st) : rb_Bd κ μ n M pc ls (.long y :: .long x :: st) :=
  rb_lcmp d1 (rb_iflt tgt ht d2 (fun h => kt (rb_lclt.mp h)) (fun h => kf (rb_lcge.mp h)))
theorem rb_lc_ge {x y : Int64} {off : Int} (tgt : Nat) (ht : ((pc + 1 : Nat) : Int) + off = (tgt : Int)) (d1 : decode μ.2.1 pc = .ok (.lcmp, 1)) (d2 : decode μ.2.1 (pc + 1) = .ok (.ifCond .ge off, 3)) (kt : y ≤ x → rb_Bd κ μ n M tgt ls st) (kf : x < y → rb_Bd κ μ n M (pc + 4) ls st) : rb_Bd κ μ n M pc ls (.long y :: .long x :: st) :=
  rb_lcmp d1 (rb_ifge tgt ht d2 (fun h => kt (rb_lcge.mp h)) (fun h => kf (rb_lclt.mp h)))
theorem rb_lc_gt {x y : Int64} {off : Int} (tgt : Nat) (ht : ((pc + 1 : Nat) : Int) + off = (tgt : Int)) (d1 : decode μ.2.1 pc = .ok (.lcmp, 1)) (d2 : decode μ.2.1 (pc + 1) = .ok (.ifCond .gt off, 3)) (kt : y < x → rb_Bd κ μ n M tgt ls st) (kf : x ≤ y → rb_Bd κ μ n M (pc + 4) ls st) : rb_Bd κ μ n M pc ls (.long y :: .long x :: st) :=
  rb_lcmp d1 (rb_ifgt tgt ht d2 (fun h => kt (rb_lcgt.mp h)) (fun h => kf (rb_lcle.mp h)))
theorem rb_lc_le {x y : Int64} {off : Int} (tgt : Nat) (ht : ((pc + 1 : Nat) : Int) + off = (tgt : Int)) (d1 : decode μ.2.1 pc = .ok (.lcmp, 1)) (d2 : decode μ.2.1 (pc + 1) = .ok (.ifCond .le off, 3)) (kt : x ≤ y → rb_Bd κ μ n M tgt ls st) (kf : y < x → rb_Bd κ μ n M (pc + 4) ls st) : rb_Bd κ μ n M pc ls (.long y :: .long x :: st) :=
  rb_lcmp d1 (rb_ifle tgt ht d2 (fun h => kt (rb_lcle.mp h)) (fun h => kf (rb_lcgt.mp h)))
theorem rb_tableOut {dflt lo hi : Int} {offs : Array Int} {len : Nat} {x : Int32} (tgt : Nat) (h : x.toInt < lo ∨ hi < x.toInt) (ht : (pc : Int) + dflt = (tgt : Int)) (d : decode μ.2.1 pc = .ok (.tableswitch dflt lo hi offs, len)) (k : rb_Bd κ μ n M tgt ls st) : rb_Bd κ μ n M pc ls (.int x :: st) := by
  intro hg p e s m args below meth c hC H locs lsA hH hL hl
  exact lv_tableOut hC.1 hC.2.1 d h ht (k hg p e s m args below meth c hC H locs lsA hH hL hl)
theorem rb_tableIn {dflt lo hi : Int} {offs : Array Int} {len : Nat} {x : Int32} {off : Int} (tgt : Nat) (h1 : ¬ x.toInt < lo) (h2 : ¬ hi < x.toInt) (ho : offs[(x.toInt - lo).toNat]? = some off) (ht : (pc : Int) + off = (tgt : Int)) (d : decode μ.2.1 pc = .ok (.tableswitch dflt lo hi offs, len)) (k : rb_Bd κ μ n M tgt ls st) : rb_Bd κ μ n M pc ls (.int x :: st) := by
  intro hg p e s m args below meth c hC H locs lsA hH hL hl
  exact lv_tableIn hC.1 hC.2.1 d h1 h2 ho ht (k hg p e s m args below meth c hC H locs lsA hH hL hl)
theorem rb_ldc {index : Nat} {v : Int32} (hc : Jvm.Cond.constant μ.1 index v ∈ lw_all) (d : decode μ.2.1 pc = .ok (.ldc index, 2)) (k : rb_Bd κ μ n M (pc + 2) ls (.int v :: st)) : rb_Bd κ μ n M pc ls st := by
  intro hg p e s m args below meth c hC H locs lsA hH hL hl
  exact lv_ldc hC.1 hC.2.1 hC.2.2.2.2.1 (rb_word hg hC.2.2.2.2.2.2.2.2 hc) d (k hg p e s m args below meth c hC H locs lsA hH hL hl)
theorem rb_ldcw {index : Nat} {v : Int32} (hc : Jvm.Cond.constant μ.1 index v ∈ lw_all) (d : decode μ.2.1 pc = .ok (.ldc_w index, 3)) (k : rb_Bd κ μ n M (pc + 3) ls (.int v :: st)) : rb_Bd κ μ n M pc ls st := by
  intro hg p e s m args below meth c hC H locs lsA hH hL hl
  exact lv_ldcw hC.1 hC.2.1 hC.2.2.2.2.1 (rb_word hg hC.2.2.2.2.2.2.2.2 hc) d (k hg p e s m args below meth c hC H locs lsA hH hL hl)
theorem rb_ldc2 {index : Nat} {v : Int64} (hc : Jvm.Cond.constantLong μ.1 index v ∈ lw_all) (d : decode μ.2.1 pc = .ok (.ldc2_w index, 3)) (k : rb_Bd κ μ n M (pc + 3) ls (.long v :: st)) : rb_Bd κ μ n M pc ls st := by
  intro hg p e s m args below meth c hC H locs lsA hH hL hl
  exact lv_ldc2 hC.1 hC.2.1 hC.2.2.2.2.1 (rb_word hg hC.2.2.2.2.2.2.2.2 hc) d (k hg p e s m args below meth c hC H locs lsA hH hL hl)
end RB1
