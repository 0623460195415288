set_option maxRecDepth 100000
theorem rb_P1 {g : rb_G} {M : rb_H} {H : Heap} (h : rb_Hp g M H) {a : Nat} {e : rb_E} (ha : M.2 a = some e) : va_P g.2.2.2.1 rb_cl [(a, rb_ve g.2.2.2.2 e)] H := by
  intro k q hk
  have hz : k < 1 := (List.getElem?_eq_some_iff.mp hk).1
  rw [show k = 0 by omega] at hk
  cases hk
  exact (h.2.2.2 a e ha).2
theorem rb_lcs {base : Nat} {locs : List Loc} {a i : Nat} (h : ∀ q ∈ locs, base ≤ q.base) (ha : base ≤ a) : ∀ q ∈ locs ++ [(⟨a, i⟩ : Loc)], base ≤ q.base := by
  intro l hl'
  rcases List.mem_append.mp hl' with h1 | h1
  · exact h l h1
  · rw [List.mem_singleton] at h1
    subst h1
    exact ha
section RB3
variable {κ : rb_K} {μ : rb_M} {n : Nat × Nat} {M : rb_H} {pc : Nat} {ls : List (Option Value)} {st : List Value}
theorem rb_iald {a N : Nat} {f : Nat → Int32} {i : Int32} (hM : M.2 a = some (rb_I N f)) (hin : vp_in i N) (d : decode μ.2.1 pc = .ok (.iaload, 1)) (k : rb_Bd κ μ n M (pc + 1) ls (.int (f i.toNatClampNeg) :: st)) : rb_Bd κ μ n M pc ls (.int i :: .ref a :: st) := by
  intro hg p e s m args below meth c hC H locs lsA hH hL hl
  exact va_iald hC.1 hC.2.1 (rb_KK hg hC.2.2.2.2.2.2.2.2) (rb_P1 hH hM) 0 0 rfl rfl hin d (k hg p e s m args below meth c hC H locs lsA hH hL hl)
theorem rb_zald {a N : Nat} {f : Nat → Int32} {i : Int32} (hM : M.2 a = some (rb_Z N f)) (hin : vp_in i N) (d : decode μ.2.1 pc = .ok (.baload, 1)) (k : rb_Bd κ μ n M (pc + 1) ls (.int (f i.toNatClampNeg) :: st)) : rb_Bd κ μ n M pc ls (.int i :: .ref a :: st) := by
  intro hg p e s m args below meth c hC H locs lsA hH hL hl
  exact va_zald hC.1 hC.2.1 (rb_KK hg hC.2.2.2.2.2.2.2.2) (rb_P1 hH hM) 0 2 rfl rfl hin d (k hg p e s m args below meth c hC H locs lsA hH hL hl)
theorem rb_lald {a N : Nat} {f : Nat → Int64} {i : Int32} (hM : M.2 a = some (rb_L N f)) (hin : vp_in i N) (d : decode μ.2.1 pc = .ok (.laload, 1)) (k : rb_Bd κ μ n M (pc + 1) ls (.long (f i.toNatClampNeg) :: st)) : rb_Bd κ μ n M pc ls (.int i :: .ref a :: st) := by
  intro hg p e s m args below meth c hC H locs lsA hH hL hl
  exact va_lald hC.1 hC.2.1 (rb_KK hg hC.2.2.2.2.2.2.2.2) (rb_P1 hH hM) 0 1 rfl rfl hin d (k hg p e s m args below meth c hC H locs lsA hH hL hl)
/-- the classes of which the arrays of references are -/
def rb_ec (t : Nat) : String := match t with
  | 3 => "java/lang/Object" | 4 => "RoleLoom$Body" | 5 => "RoleLoom$Frame" | _ => "RoleLoom$Thing"
theorem rb_tysR (dA : Nat → ClassId) {t : Nat} (h3 : 3 ≤ t) (h6 : t ≤ 6) : (rb_tys dA)[t]? = some (dA t, .object (rb_ec t)) := by
  have h : t = 3 ∨ t = 4 ∨ t = 5 ∨ t = 6 := by omega
  rcases h with rfl | rfl | rfl | rfl <;> rfl
theorem rb_aald {a t N : Nat} {f : Nat → Option Nat} {i : Int32} (hM : M.2 a = some (rb_R t N f)) (h3 : 3 ≤ t) (h6 : t ≤ 6) (hin : vp_in i N) (d : decode μ.2.1 pc = .ok (.aaload, 1)) (k : rb_Bd κ μ n M (pc + 1) ls (va_rf (f i.toNatClampNeg) :: st)) : rb_Bd κ μ n M pc ls (.int i :: .ref a :: st) := by
  intro hg p e s m args below meth c hC H locs lsA hH hL hl
  exact va_aldq hC.1 hC.2.1 (rb_KK hg hC.2.2.2.2.2.2.2.2) (rb_P1 hH hM) 0 t rfl (rb_tysR _ h3 h6) hin d (k hg p e s m args below meth c hC H locs lsA hH hL hl)
theorem rb_alen {a t : Nat} {x : vp_A} {v : Int32} (hM : M.2 a = some (.inl (t, x))) (h6 : t ≤ 6) (hv : Int32.ofNat x.1 = v) (d : decode μ.2.1 pc = .ok (.arraylength, 1)) (k : rb_Bd κ μ n M (pc + 1) ls (.int v :: st)) : rb_Bd κ μ n M pc ls (.ref a :: st) := by
  intro hg p e s m args below meth c hC H locs lsA hH hL hl
  have ht : ∃ ty, (rb_tys κ.1.2.2.2.2)[t]? = some (κ.1.2.2.2.2 t, ty) := by
    have h : t = 0 ∨ t = 1 ∨ t = 2 ∨ t = 3 ∨ t = 4 ∨ t = 5 ∨ t = 6 := by omega
    rcases h with rfl | rfl | rfl | rfl | rfl | rfl | rfl <;> exact ⟨_, rfl⟩
  obtain ⟨ty, ht⟩ := ht
  exact va_alen hC.1 hC.2.1 (rb_KK hg hC.2.2.2.2.2.2.2.2) (rb_P1 hH hM) 0 t rfl ht hv d (k hg p e s m args below meth c hC H locs lsA hH hL hl)
theorem rb_iast {a N : Nat} {f : Nat → Int32} {i x : Int32} (hM : M.2 a = some (rb_I N f)) (hin : vp_in i N) (d : decode μ.2.1 pc = .ok (.iastore, 1)) (k : rb_Bd κ μ n (rb_up M a (rb_I N (va_up f i.toNatClampNeg x))) (pc + 1) ls st) : rb_Bd κ μ n M pc ls (.int x :: .int i :: .ref a :: st) := by
  intro hg p e s m args below meth c hC H locs lsA hH hL hl
  obtain ⟨hba, hat⟩ := hH.2.2.2 a _ hM
  have hat : H[a]? = some (arrV (κ.1.2.2.2.2 0) N (fun j => Value.int (f j))) := hat
  have hK := rb_KK hg hC.2.2.2.2.2.2.2.2
  refine W.iast hC.1 hC.2.1 hat ((hK.2 0 _ rfl).1 N (fun j => .int (f j))) (fun q => by cases q) (by show ¬ (i < 0 ∨ (arrV _ _ _).slots.size ≤ _); rw [arrV_size]; exact hin) rfl rfl d fun H1 e1 z oq => ?_
  refine k hg p e s m args below meth c hC H1 _ lsA (hH.put hM z oq ?_) (rb_lcs hL hba) hl
  show H1[a]? = some (arrV (κ.1.2.2.2.2 0) N (fun j => Value.int (va_up f i.toNatClampNeg x j)))
  rw [e1, arrV_store]
  congr 2
  funext q
  by_cases hq : q = i.toNatClampNeg
  · subst hq; simp [updV, va_up]
  · simp [updV, va_up, hq]
theorem rb_zast {a N : Nat} {f : Nat → Int32} {i x y : Int32} (hM : M.2 a = some (rb_Z N f)) (hin : vp_in i N) (hx : vp_nar .boolean x = y) (d : decode μ.2.1 pc = .ok (.bastore, 1)) (k : rb_Bd κ μ n (rb_up M a (rb_Z N (va_up f i.toNatClampNeg y))) (pc + 1) ls st) : rb_Bd κ μ n M pc ls (.int x :: .int i :: .ref a :: st) := by
  subst hx
  intro hg p e s m args below meth c hC H locs lsA hH hL hl
  obtain ⟨hba, hat⟩ := hH.2.2.2 a _ hM
  have hat : H[a]? = some (arrV (κ.1.2.2.2.2 2) N (fun j => Value.int (f j))) := hat
  have hK := rb_KK hg hC.2.2.2.2.2.2.2.2
  refine W.zast hC.1 hC.2.1 hat ((hK.2 2 _ rfl).1 N (fun j => .int (f j))) (fun q => by cases q) (by show ¬ (i < 0 ∨ (arrV _ _ _).slots.size ≤ _); rw [arrV_size]; exact hin) rfl rfl d fun H1 e1 z oq => ?_
  refine k hg p e s m args below meth c hC H1 _ lsA (hH.put hM z oq ?_) (rb_lcs hL hba) hl
  show H1[a]? = some (arrV (κ.1.2.2.2.2 2) N (fun j => Value.int (va_up f i.toNatClampNeg (vp_nar .boolean x) j)))
  rw [e1, arrV_store]
  congr 2
  funext q
  by_cases hq : q = i.toNatClampNeg
  · subst hq
    simp [updV, va_up, vp_nar]
    try rfl
  · simp [updV, va_up, hq]
theorem rb_last {a N : Nat} {f : Nat → Int64} {i : Int32} {x : Int64} (hM : M.2 a = some (rb_L N f)) (hin : vp_in i N) (d : decode μ.2.1 pc = .ok (.lastore, 1)) (k : rb_Bd κ μ n (rb_up M a (rb_L N (va_up f i.toNatClampNeg x))) (pc + 1) ls st) : rb_Bd κ μ n M pc ls (.long x :: .int i :: .ref a :: st) := by
  intro hg p e s m args below meth c hC H locs lsA hH hL hl
  obtain ⟨hba, hat⟩ := hH.2.2.2 a _ hM
  have hat : H[a]? = some (arrV (κ.1.2.2.2.2 1) N (fun j => Value.long (f j))) := hat
  have hK := rb_KK hg hC.2.2.2.2.2.2.2.2
  refine W.last hC.1 hC.2.1 hat ((hK.2 1 _ rfl).1 N (fun j => .long (f j))) (fun q => by cases q) (by show ¬ (i < 0 ∨ (arrV _ _ _).slots.size ≤ _); rw [arrV_size]; exact hin) rfl rfl d fun H1 e1 z oq => ?_
  refine k hg p e s m args below meth c hC H1 _ lsA (hH.put hM z oq ?_) (rb_lcs hL hba) hl
  show H1[a]? = some (arrV (κ.1.2.2.2.2 1) N (fun j => Value.long (va_up f i.toNatClampNeg x j)))
  rw [e1, arrV_store]
  congr 2
  funext q
  by_cases hq : q = i.toNatClampNeg
  · subst hq; simp [updV, va_up]
  · simp [updV, va_up, hq]
/-- an object of the class ci may lie in an array of the kind t -/
def rb_AS (ci t : Nat) : Prop := ∃ q : vw_C, rb_cl[ci]? = some q ∧ (q.1 = rb_ec t ∨ Cond.castable q.1 (rb_ec t) ∈ lw_tbl)
theorem rb_aast {a t N v ci : Nat} {f : Nat → Option Nat} {fs : List Value} {i : Int32} (hM : M.2 a = some (rb_R t N f)) (h3 : 3 ≤ t) (h6 : t ≤ 6) (hv : M.2 v = some (rb_O ci fs)) (has : rb_AS ci t) (hin : vp_in i N) (d : decode μ.2.1 pc = .ok (.aastore, 1)) (k : rb_Bd κ μ n (rb_up M a (rb_R t N (va_up f i.toNatClampNeg (some v)))) (pc + 1) ls st) : rb_Bd κ μ n M pc ls (.ref v :: .int i :: .ref a :: st) := by
  intro hg p e s m args below meth c hC H locs lsA hH hL hl
  obtain ⟨hba, hat⟩ := hH.2.2.2 a _ hM
  have hat : H[a]? = some (arrV (κ.1.2.2.2.2 t) N (fun j => va_rf (f j))) := hat
  have hW := hC.2.2.2.2.2.2.2.2
  have hK := rb_KK hg hW
  have hlt : i.toNatClampNeg < N := Nat.not_le.mp fun q => hin (Or.inr q)
  have h0 : ¬ i < 0 := fun q => hin (Or.inl q)
  obtain ⟨q, hq, hcast⟩ := has
  obtain ⟨r', hr', cellV, g1, g2, g3, -⟩ := (hH.2.2.2 v _ hv).2
  have hcls := (hK.1 ci q hq).2
  obtain ⟨kA, comp, k1, k2, k3, -⟩ := (hK.2 t _ (rb_tysR _ h3 h6)).2
  obtain ⟨hfc, kC, hkC, hkind⟩ := hcls
  have hasg : s.vm.assignable cellV.cls comp = true := by
    rw [g2]
    rcases hcast with hc | hc
    · rw [← hc] at k3
      cases hfc.symm.trans k3
      exact va_assign ⟨hfc, kC, hkC, hkind⟩
    · obtain ⟨c0, t0, f1, f2, f3⟩ := Cond.castable_spec (va_Nw.use (A := args) rfl (va_Nw.warmC hW (va_Nw.of rfl (hg.1 _ hc))))
      cases hfc.symm.trans f1
      cases k3.symm.trans f2
      exact f3
  obtain ⟨kcomp, hkcomp⟩ := Vm.classAt_of_findClass k3
  refine W.aast hC.1 hC.2.1 hat (fun q h => by cases h) (fun h => by cases h) k1 k2 rfl hkcomp ⟨h0, by show _ < (arrV _ _ _).slots.size; rw [arrV_size]; exact hlt⟩ g1 (fun q h => by rw [g3] at h; cases h) (by rw [g2]; exact hkC) hasg rfl rfl d fun H1 e1 z oq => ?_
  refine k hg p e s m args below meth c hC H1 _ lsA (hH.put hM z oq ?_) (rb_lcs hL hba) hl
  show H1[a]? = some (arrV (κ.1.2.2.2.2 t) N (fun j => va_rf (va_up f i.toNatClampNeg (some v) j)))
  rw [e1, arrV_store]
  congr 2
  funext q
  by_cases hq : q = i.toNatClampNeg
  · subst hq; simp [updV, va_up, va_rf]
  · simp [updV, va_up, hq]
theorem rb_aastN {a t N : Nat} {f : Nat → Option Nat} {i : Int32} (hM : M.2 a = some (rb_R t N f)) (h3 : 3 ≤ t) (h6 : t ≤ 6) (hin : vp_in i N) (d : decode μ.2.1 pc = .ok (.aastore, 1)) (k : rb_Bd κ μ n (rb_up M a (rb_R t N (va_up f i.toNatClampNeg none))) (pc + 1) ls st) : rb_Bd κ μ n M pc ls (.null :: .int i :: .ref a :: st) := by
  intro hg p e s m args below meth c hC H locs lsA hH hL hl
  obtain ⟨hba, hat⟩ := hH.2.2.2 a _ hM
  have hat : H[a]? = some (arrV (κ.1.2.2.2.2 t) N (fun j => va_rf (f j))) := hat
  have hK := rb_KK hg hC.2.2.2.2.2.2.2.2
  refine va_WaastN (C := rb_ec t) hC.1 hC.2.1 hat ((hK.2 t _ (rb_tysR _ h3 h6)).1 N (fun j => va_rf (f j))) (fun h => by cases h) (by show ¬ (i < 0 ∨ (arrV _ _ _).slots.size ≤ _); rw [arrV_size]; exact hin) rfl rfl d fun H1 e1 z oq => ?_
  refine k hg p e s m args below meth c hC H1 _ lsA (hH.put hM z oq ?_) (rb_lcs hL hba) hl
  show H1[a]? = some (arrV (κ.1.2.2.2.2 t) N (fun j => va_rf (va_up f i.toNatClampNeg none j)))
  rw [e1, arrV_store]
  congr 2
  funext q
  by_cases hq : q = i.toNatClampNeg
  · subst hq; simp [updV, va_up, va_rf]
  · simp [updV, va_up, hq]
end RB3
