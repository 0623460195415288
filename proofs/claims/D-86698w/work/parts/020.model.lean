set_option maxRecDepth 100000
/-! the model's heap: its object at h, its arrays behind it, as a function of its state ms -/
abbrev mm_S : Type := (Nat → Nat → Int32) × (Nat → Nat → Int64)
/-- of each field: 0 an int, 1 a long, 2 ints, 3 longs, 4 booleans; how long; which place behind h; of a place: which field -/
def mm_kd : List Nat := [0, 2, 2, 2, 2, 2, 4, 0, 2, 2, 2, 2, 2, 2, 2, 0, 0, 2, 0, 2, 2, 2, 2, 4, 0, 2, 2, 2, 2, 2, 2, 2, 2, 2, 0, 0, 0, 4, 4, 2, 0, 2, 3, 2, 3, 2, 3, 0, 3, 1, 0, 2, 2, 2, 2, 2, 2, 3, 3, 4, 0, 0, 1, 1, 0, 0, 0, 1, 0, 2, 2, 2, 2]
def mm_ln : List Nat := [0, 24, 24, 24, 24, 96, 288, 0, 30, 30, 601, 601, 6010, 6010, 6010, 0, 0, 8, 0, 6, 6, 4, 4, 4, 0, 24, 576, 576, 288, 13824, 96, 96, 576, 24, 0, 0, 0, 24, 24, 26, 0, 101, 9696, 4848, 58176, 4848, 8, 0, 100, 0, 0, 40, 40, 40, 40, 40, 40, 40, 40, 40, 0, 0, 0, 0, 0, 0, 0, 0, 0, 60, 60, 60, 60]
def mm_ps : List Nat := [0, 1, 2, 3, 4, 5, 6, 0, 7, 8, 9, 10, 11, 12, 13, 0, 0, 14, 0, 15, 16, 17, 18, 19, 0, 20, 21, 22, 23, 24, 25, 26, 27, 28, 0, 0, 0, 29, 30, 31, 0, 32, 33, 34, 35, 36, 37, 0, 38, 0, 0, 39, 40, 41, 42, 43, 44, 45, 46, 47, 0, 0, 0, 0, 0, 0, 0, 0, 0, 48, 49, 50, 51]
def mm_ky : List Nat := [0, 1, 2, 3, 4, 5, 6, 8, 9, 10, 11, 12, 13, 14, 17, 19, 20, 21, 22, 23, 25, 26, 27, 28, 29, 30, 31, 32, 33, 37, 38, 39, 41, 42, 43, 44, 45, 46, 48, 51, 52, 53, 54, 55, 56, 57, 58, 59, 69, 70, 71, 72]
abbrev mm_k (k : Nat) : Nat := mm_kd.getD k 9
abbrev mm_l (k : Nat) : Nat := mm_ln.getD k 0
abbrev mm_p (k : Nat) : Nat := mm_ps.getD k 0
abbrev mm_y (j : Nat) : Nat := mm_ky.getD j 0
def mm_fv (h : Nat) (ms : mm_S) (k : Nat) : Value := match mm_k k with
  | 0 => .int (ms.1 k 0)
  | 1 => .long (ms.2 k 0)
  | _ => .ref (h + mm_p k)
def mm_fs (h : Nat) (ms : mm_S) : List Value := (List.range 73).map (mm_fv h ms)
def mm_A (ms : mm_S) (k : Nat) : rb_E := match mm_k k with
  | 3 => rb_L (mm_l k) (ms.2 k)
  | 4 => rb_Z (mm_l k) (ms.1 k)
  | _ => rb_I (mm_l k) (ms.1 k)
def mm_E (h : Nat) (ms : mm_S) (j : Nat) : rb_E := if j = 0 then rb_O 4 (mm_fs h ms) else mm_A ms (mm_y j)
def mm_H (h : Nat) (ms : mm_S) (M0 : rb_H) : rb_H := (M0.1, fun a => if h ≤ a ∧ a < h + 52 then some (mm_E h ms (a - h)) else M0.2 a)
/-- the state with x at the place i of the field k -/
def mm_sI (ms : mm_S) (k i : Nat) (x : Int32) : mm_S := (fun a => if a = k then va_up (ms.1 k) i x else ms.1 a, ms.2)
def mm_sL (ms : mm_S) (k i : Nat) (x : Int64) : mm_S := (ms.1, fun a => if a = k then va_up (ms.2 k) i x else ms.2 a)
theorem mm_at {h : Nat} {ms : mm_S} {M0 : rb_H} {j : Nat} (hj : j < 52) : (mm_H h ms M0).2 (h + j) = some (mm_E h ms j) := by
  show (if h ≤ h + j ∧ h + j < h + 52 then some (mm_E h ms (h + j - h)) else M0.2 (h + j)) = _
  rw [if_pos ⟨by omega, by omega⟩, Nat.add_sub_cancel_left]
theorem mm_obj {h : Nat} {ms : mm_S} {M0 : rb_H} : (mm_H h ms M0).2 h = some (rb_O 4 (mm_fs h ms)) := mm_at (j := 0) (by decide)
theorem mm_tab1 : ∀ j, j < 52 → j ≠ 0 → mm_p (mm_y j) = j ∧ 2 ≤ mm_k (mm_y j) ∧ mm_k (mm_y j) ≤ 4 := by decide +kernel
/-- k is a field of the kind t -/
def mm_is (k t : Nat) : Bool := decide (k < 73) && decide (mm_k k = t) && (decide (t < 2) || (decide (mm_p k < 52) && decide (mm_p k ≠ 0) && decide (mm_y (mm_p k) = k)))
theorem mm_is_lt {k t : Nat} (h : mm_is k t = true) : k < 73 ∧ mm_k k = t := by
  simp only [mm_is, Bool.and_eq_true, decide_eq_true_eq] at h
  exact h.1
theorem mm_is_arr {k t : Nat} (h : mm_is k t = true) (ht : 2 ≤ t) : mm_p k < 52 ∧ mm_p k ≠ 0 ∧ mm_y (mm_p k) = k := by
  simp only [mm_is, Bool.and_eq_true, Bool.or_eq_true, decide_eq_true_eq] at h
  rcases h.2 with h | h
  · omega
  · exact ⟨h.1.1, h.1.2, h.2⟩
theorem mm_fs_get {h : Nat} {ms : mm_S} {k : Nat} (hk : k < 73) : (mm_fs h ms)[k]? = some (mm_fv h ms k) := by
  simp [mm_fs, hk]
theorem mm_arr {h : Nat} {ms : mm_S} {M0 : rb_H} {k t : Nat} (hk : mm_is k t = true) (ht : 2 ≤ t) : (mm_H h ms M0).2 (h + mm_p k) = some (mm_A ms k) := by
  obtain ⟨h1, h2, h3⟩ := mm_is_arr hk ht
  rw [mm_at h1]
  simp only [mm_E, if_neg h2, h3]
theorem mm_upd {h : Nat} {ms ms' : mm_S} {M0 : rb_H} {j : Nat} {e : rb_E} (hj : j < 52) (he : mm_E h ms' j = e) (ho : ∀ i, i < 52 → i ≠ j → mm_E h ms' i = mm_E h ms i) : rb_up (mm_H h ms M0) (h + j) e = mm_H h ms' M0 := by
  refine Prod.ext rfl (funext fun a => ?_)
  show va_up (fun a => if h ≤ a ∧ a < h + 52 then some (mm_E h ms (a - h)) else M0.2 a) (h + j) (some e) a = (if h ≤ a ∧ a < h + 52 then some (mm_E h ms' (a - h)) else M0.2 a)
  by_cases ha : a = h + j
  · subst ha
    rw [va_up_self, if_pos ⟨by omega, by omega⟩, Nat.add_sub_cancel_left, he]
  · rw [show ∀ (f : Nat → Option rb_E) (v : Option rb_E), va_up f (h + j) v a = f a from fun f v => by simp [va_up, ha]]
    by_cases hr : h ≤ a ∧ a < h + 52
    · rw [if_pos hr, if_pos hr, ho (a - h) (by omega) (by omega)]
    · rw [if_neg hr, if_neg hr]
theorem mm_sI_ne {ms : mm_S} {k i : Nat} {x : Int32} {a : Nat} (h : a ≠ k) : (mm_sI ms k i x).1 a = ms.1 a := by simp [mm_sI, h]
theorem mm_sL_ne {ms : mm_S} {k i : Nat} {x : Int64} {a : Nat} (h : a ≠ k) : (mm_sL ms k i x).2 a = ms.2 a := by simp [mm_sL, h]
theorem mm_A_congr {ms ms' : mm_S} {k : Nat} (h1 : ms'.1 k = ms.1 k) (h2 : ms'.2 k = ms.2 k) : mm_A ms' k = mm_A ms k := by simp only [mm_A, h1, h2]
theorem mm_fv_congr {h : Nat} {ms ms' : mm_S} {k : Nat} (h1 : mm_k k = 0 → ms'.1 k = ms.1 k) (h2 : mm_k k = 1 → ms'.2 k = ms.2 k) : mm_fv h ms' k = mm_fv h ms k := by
  unfold mm_fv
  split
  · rename_i e; rw [h1 e]
  · rename_i e; rw [h2 e]
  · rfl
theorem mm_upA {h : Nat} {ms ms' : mm_S} {M0 : rb_H} {k t : Nat} (hk : mm_is k t = true) (ht : 2 ≤ t) (h1 : ∀ a, a ≠ k → ms'.1 a = ms.1 a) (h2 : ∀ a, a ≠ k → ms'.2 a = ms.2 a) : rb_up (mm_H h ms M0) (h + mm_p k) (mm_A ms' k) = mm_H h ms' M0 := by
  obtain ⟨p1, p2, p3⟩ := mm_is_arr hk ht
  have hkt := (mm_is_lt hk).2
  refine mm_upd p1 (by simp only [mm_E, if_neg p2, p3]) fun i hi hne => ?_
  by_cases h0 : i = 0
  · subst h0
    simp only [mm_E, if_true]
    have hfs : mm_fs h ms' = mm_fs h ms := by
      unfold mm_fs
      refine List.map_congr_left fun a _ => ?_
      refine mm_fv_congr (fun e => h1 a ?_) (fun e => h2 a ?_)
      · intro q; subst q; omega
      · intro q; subst q; omega
    rw [hfs]
  · simp only [mm_E, if_neg h0]
    have hy : mm_y i ≠ k := by
      intro q
      have := (mm_tab1 i hi h0).1
      rw [q] at this
      exact hne this.symm
    exact mm_A_congr (h1 _ hy) (h2 _ hy)
theorem mm_upF {h : Nat} {ms ms' : mm_S} {M0 : rb_H} {k t : Nat} {v : Value} (hk : mm_is k t = true) (ht : t < 2) (hv : mm_fv h ms' k = v) (h1 : ∀ a, a ≠ k → ms'.1 a = ms.1 a) (h2 : ∀ a, a ≠ k → ms'.2 a = ms.2 a) : rb_up (mm_H h ms M0) h (rb_O 4 ((mm_fs h ms).set k v)) = mm_H h ms' M0 := by
  have hlt := (mm_is_lt hk).1
  have hkt := (mm_is_lt hk).2
  have key := mm_upd (h := h) (ms := ms) (ms' := ms') (M0 := M0) (j := 0) (e := rb_O 4 ((mm_fs h ms).set k v)) (by decide) ?_ ?_
  · exact key
  · simp only [mm_E, if_true]
    congr 2
    apply List.ext_getElem?
    intro i
    by_cases hi : i = k
    · subst hi
      rw [mm_fs_get hlt, List.getElem?_set_self (by simp [mm_fs, hlt]), hv]
    · rw [List.getElem?_set_ne (Ne.symm hi)]
      by_cases hl : i < 73
      · rw [mm_fs_get hl, mm_fs_get hl, mm_fv_congr (fun _ => h1 i hi) (fun _ => h2 i hi)]
      · rw [List.getElem?_eq_none (by simp [mm_fs]; omega), List.getElem?_eq_none (by simp [mm_fs]; omega)]
  · intro i hi h0
    simp only [mm_E, if_neg h0]
    have hy : mm_y i ≠ k := by
      intro q
      have := (mm_tab1 i hi h0).2.1
      rw [q] at this
      omega
    exact mm_A_congr (h1 _ hy) (h2 _ hy)
theorem mm_fvI {h : Nat} {ms : mm_S} {k : Nat} (e : mm_k k = 0) : mm_fv h ms k = .int (ms.1 k 0) := by simp only [mm_fv, e]
theorem mm_fvL {h : Nat} {ms : mm_S} {k : Nat} (e : mm_k k = 1) : mm_fv h ms k = .long (ms.2 k 0) := by simp only [mm_fv, e]
theorem mm_AI {ms : mm_S} {k : Nat} (e : mm_k k = 2) : mm_A ms k = rb_I (mm_l k) (ms.1 k) := by simp only [mm_A, e]
theorem mm_AL {ms : mm_S} {k : Nat} (e : mm_k k = 3) : mm_A ms k = rb_L (mm_l k) (ms.2 k) := by simp only [mm_A, e]
theorem mm_AZ {ms : mm_S} {k : Nat} (e : mm_k k = 4) : mm_A ms k = rb_Z (mm_l k) (ms.1 k) := by simp only [mm_A, e]
theorem mm_sI_k {ms : mm_S} {k i : Nat} {x : Int32} : (mm_sI ms k i x).1 k = va_up (ms.1 k) i x := by simp [mm_sI]
theorem mm_sL_k {ms : mm_S} {k i : Nat} {x : Int64} : (mm_sL ms k i x).2 k = va_up (ms.2 k) i x := by simp [mm_sL]
section MM1
variable {κ : rb_K} {μ : rb_M} {n : Nat × Nat} {M0 : rb_H} {h : Nat} {ms : mm_S} {pc : Nat} {ls : List (Option Value)} {st : List Value}
theorem mm_getI {k index : Nat} {v : Int32} (hv : ms.1 k 0 = v) (hf : rb_FL μ.1 index 4 k) (hk : mm_is k 0 = true) (d : decode μ.2.1 pc = .ok (.getfield index, 3)) (kk : rb_Bd κ μ n (mm_H h ms M0) (pc + 3) ls (.int v :: st)) : rb_Bd κ μ n (mm_H h ms M0) pc ls (.ref h :: st) := by
  subst hv
  exact rb_get hf mm_obj (v := .int (ms.1 k 0)) (by rw [mm_fs_get (mm_is_lt hk).1, mm_fvI (mm_is_lt hk).2]) d kk
theorem mm_getL {k index : Nat} {v : Int64} (hv : ms.2 k 0 = v) (hf : rb_FL μ.1 index 4 k) (hk : mm_is k 1 = true) (d : decode μ.2.1 pc = .ok (.getfield index, 3)) (kk : rb_Bd κ μ n (mm_H h ms M0) (pc + 3) ls (.long v :: st)) : rb_Bd κ μ n (mm_H h ms M0) pc ls (.ref h :: st) := by
  subst hv
  exact rb_get hf mm_obj (v := .long (ms.2 k 0)) (by rw [mm_fs_get (mm_is_lt hk).1, mm_fvL (mm_is_lt hk).2]) d kk
theorem mm_getA {k t index : Nat} (hf : rb_FL μ.1 index 4 k) (hk : mm_is k t = true) (ht : 2 ≤ t) (d : decode μ.2.1 pc = .ok (.getfield index, 3)) (kk : rb_Bd κ μ n (mm_H h ms M0) (pc + 3) ls (.ref (h + mm_p k) :: st)) : rb_Bd κ μ n (mm_H h ms M0) pc ls (.ref h :: st) :=
  rb_get hf mm_obj (v := .ref (h + mm_p k)) (by
    rw [mm_fs_get (mm_is_lt hk).1, mm_fv]
    have := (mm_is_lt hk).2
    split
    · omega
    · omega
    · rfl) d kk
theorem mm_tyI : ∀ k, k < 73 → mm_k k = 0 → tyX4 k = .int ∧ (TX4 k).2.2.2 = false := by decide +kernel
theorem mm_tyL : ∀ k, k < 73 → mm_k k = 1 → tyX4 k = .long ∧ (TX4 k).2.2.2 = false := by decide +kernel
theorem mm_putI {k index : Nat} {x : Int32} (hf : rb_FL μ.1 index 4 k) (hk : mm_is k 0 = true) (d : decode μ.2.1 pc = .ok (.putfield index, 3)) (kk : rb_Bd κ μ n (mm_H h (mm_sI ms k 0 x) M0) (pc + 3) ls st) : rb_Bd κ μ n (mm_H h ms M0) pc ls (.int x :: .ref h :: st) := by
  have hl := mm_is_lt hk
  have ht := mm_tyI k hl.1 hl.2
  refine rb_put hf (fun q hq => ?_) (by show narrow (tyX4 k) _ = _; rw [ht.1]; rfl) (by show fits (tyX4 k) _ = _; rw [ht.1]; rfl) mm_obj (by simp [mm_fs, hl.1]) d ?_
  · have : (RX4, TX4, 73) = q := Option.some.inj ((show rb_cl[4]? = some (RX4, TX4, 73) from rfl).symm.trans hq)
    subst this
    exact Or.inl ht.2
  · rw [mm_upF hk (by decide) (ms := ms) (ms' := mm_sI ms k 0 x) (by rw [mm_fvI hl.2, mm_sI_k, va_up_self]) (fun a ha => mm_sI_ne ha) (fun a _ => rfl)]
    exact kk
theorem mm_putL {k index : Nat} {x : Int64} (hf : rb_FL μ.1 index 4 k) (hk : mm_is k 1 = true) (d : decode μ.2.1 pc = .ok (.putfield index, 3)) (kk : rb_Bd κ μ n (mm_H h (mm_sL ms k 0 x) M0) (pc + 3) ls st) : rb_Bd κ μ n (mm_H h ms M0) pc ls (.long x :: .ref h :: st) := by
  have hl := mm_is_lt hk
  have ht := mm_tyL k hl.1 hl.2
  refine rb_put hf (fun q hq => ?_) (by show narrow (tyX4 k) _ = _; rw [ht.1]; rfl) (by show fits (tyX4 k) _ = _; rw [ht.1]; rfl) mm_obj (by simp [mm_fs, hl.1]) d ?_
  · have : (RX4, TX4, 73) = q := Option.some.inj ((show rb_cl[4]? = some (RX4, TX4, 73) from rfl).symm.trans hq)
    subst this
    exact Or.inl ht.2
  · rw [mm_upF hk (by decide) (ms := ms) (ms' := mm_sL ms k 0 x) (by rw [mm_fvL hl.2, mm_sL_k, va_up_self]) (fun a _ => rfl) (fun a ha => mm_sL_ne ha)]
    exact kk
theorem mm_iald {k : Nat} {i : Int32} {v : Int32} (hv : ms.1 k i.toNatClampNeg = v) (hk : mm_is k 2 = true) (hin : vp_in i (mm_l k)) (d : decode μ.2.1 pc = .ok (.iaload, 1)) (kk : rb_Bd κ μ n (mm_H h ms M0) (pc + 1) ls (.int v :: st)) : rb_Bd κ μ n (mm_H h ms M0) pc ls (.int i :: .ref (h + mm_p k) :: st) := by
  subst hv
  exact rb_iald (N := mm_l k) (f := ms.1 k) (by rw [mm_arr hk (by decide), mm_AI (mm_is_lt hk).2]) hin d kk
theorem mm_zald {k : Nat} {i : Int32} {v : Int32} (hv : ms.1 k i.toNatClampNeg = v) (hk : mm_is k 4 = true) (hin : vp_in i (mm_l k)) (d : decode μ.2.1 pc = .ok (.baload, 1)) (kk : rb_Bd κ μ n (mm_H h ms M0) (pc + 1) ls (.int v :: st)) : rb_Bd κ μ n (mm_H h ms M0) pc ls (.int i :: .ref (h + mm_p k) :: st) := by
  subst hv
  exact rb_zald (N := mm_l k) (f := ms.1 k) (by rw [mm_arr hk (by decide), mm_AZ (mm_is_lt hk).2]) hin d kk
theorem mm_lald {k : Nat} {i : Int32} {v : Int64} (hv : ms.2 k i.toNatClampNeg = v) (hk : mm_is k 3 = true) (hin : vp_in i (mm_l k)) (d : decode μ.2.1 pc = .ok (.laload, 1)) (kk : rb_Bd κ μ n (mm_H h ms M0) (pc + 1) ls (.long v :: st)) : rb_Bd κ μ n (mm_H h ms M0) pc ls (.int i :: .ref (h + mm_p k) :: st) := by
  subst hv
  exact rb_lald (N := mm_l k) (f := ms.2 k) (by rw [mm_arr hk (by decide), mm_AL (mm_is_lt hk).2]) hin d kk
theorem mm_iast {k : Nat} {i x : Int32} (hk : mm_is k 2 = true) (hin : vp_in i (mm_l k)) (d : decode μ.2.1 pc = .ok (.iastore, 1)) (kk : rb_Bd κ μ n (mm_H h (mm_sI ms k i.toNatClampNeg x) M0) (pc + 1) ls st) : rb_Bd κ μ n (mm_H h ms M0) pc ls (.int x :: .int i :: .ref (h + mm_p k) :: st) := by
  refine rb_iast (N := mm_l k) (f := ms.1 k) (by rw [mm_arr hk (by decide), mm_AI (mm_is_lt hk).2]) hin d ?_
  have e := mm_upA (h := h) (M0 := M0) (ms := ms) (ms' := mm_sI ms k i.toNatClampNeg x) hk (by decide) (fun a ha => mm_sI_ne ha) (fun a _ => rfl)
  rw [mm_AI (mm_is_lt hk).2, mm_sI_k] at e
  rw [e]
  exact kk
theorem mm_zast {k : Nat} {i x y : Int32} (hk : mm_is k 4 = true) (hin : vp_in i (mm_l k)) (hx : vp_nar .boolean x = y) (d : decode μ.2.1 pc = .ok (.bastore, 1)) (kk : rb_Bd κ μ n (mm_H h (mm_sI ms k i.toNatClampNeg y) M0) (pc + 1) ls st) : rb_Bd κ μ n (mm_H h ms M0) pc ls (.int x :: .int i :: .ref (h + mm_p k) :: st) := by
  refine rb_zast (N := mm_l k) (f := ms.1 k) (by rw [mm_arr hk (by decide), mm_AZ (mm_is_lt hk).2]) hin hx d ?_
  have e := mm_upA (h := h) (M0 := M0) (ms := ms) (ms' := mm_sI ms k i.toNatClampNeg y) hk (by decide) (fun a ha => mm_sI_ne ha) (fun a _ => rfl)
  rw [mm_AZ (mm_is_lt hk).2, mm_sI_k] at e
  rw [e]
  exact kk
theorem mm_last {k : Nat} {i : Int32} {x : Int64} (hk : mm_is k 3 = true) (hin : vp_in i (mm_l k)) (d : decode μ.2.1 pc = .ok (.lastore, 1)) (kk : rb_Bd κ μ n (mm_H h (mm_sL ms k i.toNatClampNeg x) M0) (pc + 1) ls st) : rb_Bd κ μ n (mm_H h ms M0) pc ls (.long x :: .int i :: .ref (h + mm_p k) :: st) := by
  refine rb_last (N := mm_l k) (f := ms.2 k) (by rw [mm_arr hk (by decide), mm_AL (mm_is_lt hk).2]) hin d ?_
  have e := mm_upA (h := h) (M0 := M0) (ms := ms) (ms' := mm_sL ms k i.toNatClampNeg x) hk (by decide) (fun a _ => rfl) (fun a ha => mm_sL_ne ha)
  rw [mm_AL (mm_is_lt hk).2, mm_sL_k] at e
  rw [e]
  exact kk
end MM1
