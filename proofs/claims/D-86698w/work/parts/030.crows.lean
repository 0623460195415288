set_option maxRecDepth 100000
/-! rows of the class's side: the heap M is free -/
/-- the field k of the object a of the class ci holds v -/
def rb_rd (M : rb_H) (a ci k : Nat) (v : Value) : Prop := ∃ fs, M.2 a = some (rb_O ci fs) ∧ fs[k]? = some v
/-- an object of the class ci is at a -/
def rb_ob (M : rb_H) (a ci : Nat) : Prop := ∃ fs, M.2 a = some (rb_O ci fs)
/-- an object of the class ci may be cast to the class nm -/
def rb_CC (ci : Nat) (nm : String) : Prop := ∃ q : vw_C, rb_cl[ci]? = some q ∧ (q.1 = nm ∨ Cond.castable q.1 nm ∈ lw_tbl)
/-- the body may end with n made -/
def rb_fin (κ : rb_K) (n : Nat × Nat) : Prop := n.1 ≤ κ.2.2.2.1 ∧ n.2 ≤ κ.2.2.2.2
/-- there is room for n -/
def rb_rom (κ : rb_K) (n : Nat × Nat) : Prop := n.1 ≤ κ.2.1.cells ∧ n.2 ≤ κ.2.1.slots
theorem rb_nfR {v : Value} (hv : rb_isR v) (C : String) : narrow (.object C) v = v ∧ fits (.object C) v = true := by
  rcases hv with rfl | ⟨a, rfl⟩ <;> exact ⟨rfl, rfl⟩
theorem rb_nfA {v : Value} (hv : rb_isR v) (t : FieldType) : narrow (.array t) v = v ∧ fits (.array t) v = true := by
  rcases hv with rfl | ⟨a, rfl⟩ <;> exact ⟨rfl, rfl⟩
section RBX
variable {κ : rb_K} {μ : rb_M} {n : Nat × Nat} {M : rb_H} {pc : Nat} {ls : List (Option Value)} {st : List Value}
theorem rc_get {a ci k index : Nat} {v : Value} (hf : rb_FL μ.1 index ci k) (h : rb_rd M a ci k v) (d : decode μ.2.1 pc = .ok (.getfield index, 3)) (kk : rb_Bd κ μ n M (pc + 3) ls (v :: st)) : rb_Bd κ μ n M pc ls (.ref a :: st) := by
  obtain ⟨fs, h1, h2⟩ := h
  exact rb_get hf h1 h2 d kk
theorem rc_iald {a N : Nat} {f : Nat → Int32} {i x : Int32} (hM : M.2 a = some (rb_I N f)) (hin : vp_in i N) (hx : f i.toNatClampNeg = x) (d : decode μ.2.1 pc = .ok (.iaload, 1)) (k : rb_Bd κ μ n M (pc + 1) ls (.int x :: st)) : rb_Bd κ μ n M pc ls (.int i :: .ref a :: st) := by
  subst hx; exact rb_iald hM hin d k
theorem rc_zald {a N : Nat} {f : Nat → Int32} {i x : Int32} (hM : M.2 a = some (rb_Z N f)) (hin : vp_in i N) (hx : f i.toNatClampNeg = x) (d : decode μ.2.1 pc = .ok (.baload, 1)) (k : rb_Bd κ μ n M (pc + 1) ls (.int x :: st)) : rb_Bd κ μ n M pc ls (.int i :: .ref a :: st) := by
  subst hx; exact rb_zald hM hin d k
theorem rc_lald {a N : Nat} {f : Nat → Int64} {i : Int32} {x : Int64} (hM : M.2 a = some (rb_L N f)) (hin : vp_in i N) (hx : f i.toNatClampNeg = x) (d : decode μ.2.1 pc = .ok (.laload, 1)) (k : rb_Bd κ μ n M (pc + 1) ls (.long x :: st)) : rb_Bd κ μ n M pc ls (.int i :: .ref a :: st) := by
  subst hx; exact rb_lald hM hin d k
theorem rc_aald {a t N : Nat} {f : Nat → Option Nat} {i : Int32} {v : Value} (hM : M.2 a = some (rb_R t N f)) (ht : 3 ≤ t ∧ t ≤ 6) (hin : vp_in i N) (hv : va_rf (f i.toNatClampNeg) = v) (d : decode μ.2.1 pc = .ok (.aaload, 1)) (k : rb_Bd κ μ n M (pc + 1) ls (v :: st)) : rb_Bd κ μ n M pc ls (.int i :: .ref a :: st) := by
  subst hv; exact rb_aald hM ht.1 ht.2 hin d k
theorem rc_isRf {r : Option Nat} {v : Value} (h : va_rf r = v) : rb_isR v := by subst h; exact rb_isR_rf r
theorem rc_rc {as : List Value} {M : rb_H} {c0 b : Nat} {As : List Value} (h : as = .ref b :: As) (hb : rb_ob M b c0) : ∀ ci, some c0 = some ci → ∃ (b' : Nat) (As' fs : List Value), as = .ref b' :: As' ∧ M.2 b' = some (rb_O ci fs) := by
  intro ci e
  cases e
  obtain ⟨fs, hb⟩ := hb
  exact ⟨b, As, fs, h, hb⟩
end RBX
