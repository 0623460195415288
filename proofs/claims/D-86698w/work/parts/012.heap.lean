set_option maxRecDepth 100000
/-! the heap's rows -/
/-- in the class own the entry index names the field k of the class ci -/
def rb_FL (own : String) (index ci k : Nat) : Prop := ∃ q : vw_C, rb_cl[ci]? = some q ∧ k < q.2.2 ∧ ∃ ref, (ref = (q.2.1 k).1 ∨ Cond.sameField ref (q.2.1 k).1 (q.2.1 k).2.1 (q.2.1 k).2.2.1 ∈ lw_all) ∧
  (Cond.fieldLink own index ref (q.2.1 k).2.1 (q.2.1 k).2.2.1 ∈ lw_all ∨ ∃ host, Cond.fieldLinkNest own index ref (q.2.1 k).2.1 (q.2.1 k).2.2.1 host ∈ lw_tbl)
theorem rb_Hp.lt {g : rb_G} {M : rb_H} {H : Heap} (h : rb_Hp g M H) {a : Nat} {e : rb_E} (ha : M.2 a = some e) : a < M.1 := by
  have := (h.2.2.2 a e ha).2.lt
  rw [← h.1]
  exact this
theorem rb_Hp.put {g : rb_G} {M : rb_H} {H H1 : Heap} (h : rb_Hp g M H) {a : Nat} {e0 e : rb_E} (ha : M.2 a = some e0) (hz : H1.size = H.size) (hq : ∀ q : Nat, q ≠ a → H1[q]? = H[q]?) (he : va_at g.2.2.2.1 rb_cl (a, rb_ve g.2.2.2.2 e) H1) : rb_Hp g (rb_up M a e) H1 := by
  obtain ⟨h1, h2, h3, h4⟩ := h
  have hba := (h4 a e0 ha).1
  refine ⟨hz.trans h1, h2, fun b hb => ?_, fun b e' hb => ?_⟩
  · rw [hq b (by omega)]; exact h3 b hb
  · by_cases hba' : b = a
    · subst hba'
      have : some e = some e' := by rw [← hb]; simp [rb_up, va_up]
      cases this
      exact ⟨hba, he⟩
    · have hb' : M.2 b = some e' := by rw [← hb]; simp [rb_up, va_up, hba']
      exact ⟨(h4 b e' hb').1, (h4 b e' hb').2.kept (hq b hba')⟩
theorem rb_Hp.new {g : rb_G} {M : rb_H} {H H1 : Heap} (h : rb_Hp g M H) {e : rb_E} (hz : H1.size = H.size + 1) (hq : ∀ q : Nat, q < H.size → H1[q]? = H[q]?) (he : va_at g.2.2.2.1 rb_cl (M.1, rb_ve g.2.2.2.2 e) H1) : rb_Hp g (rb_nw M e) H1 := by
  obtain ⟨h1, h2, h3, h4⟩ := h
  refine ⟨by rw [hz, h1]; rfl, Nat.le_succ_of_le h2, fun b hb => ?_, fun b e' hb => ?_⟩
  · rw [hq b (by omega)]; exact h3 b hb
  · by_cases hba' : b = M.1
    · subst hba'
      have : some e = some e' := by rw [← hb]; simp [rb_nw, va_up]
      cases this
      exact ⟨h2, he⟩
    · have hb' : M.2 b = some e' := by rw [← hb]; simp [rb_nw, va_up, hba']
      exact ⟨(h4 b e' hb').1, (h4 b e' hb').2.kept (hq b (h4 b e' hb').2.lt)⟩
theorem rb_FL.at {g : rb_G} {s : State} {args : Array Value} {own : String} {index ci k : Nat} (hg : rb_GW g) (hW : g.2.1.WarmedH s.vm) (h : rb_FL own index ci k) :
    ∃ (q : vw_C) (ref : String) (cf : ClassId) (kf : Class) (fi : Nat) (f : Field), rb_cl[ci]? = some q ∧ k < q.2.2 ∧ s.fieldFound? ref (q.2.1 k).2.1 (q.2.1 k).2.2.1 = some (cf, kf, fi, f) ∧ s.fieldFound? (q.2.1 k).1 (q.2.1 k).2.1 (q.2.1 k).2.2.1 = some (cf, kf, fi, f) ∧ f.isStatic = false ∧ f.slot = g.2.2.2.1.2 ci k ∧
      ((Cond.fieldLink own index ref (q.2.1 k).2.1 (q.2.1 k).2.2.1).before args s = true ∨ ∃ host, (Cond.fieldLinkNest own index ref (q.2.1 k).2.1 (q.2.1 k).2.2.1 host).before args s = true) := by
  obtain ⟨q, hq, hk, ref, hr, hl⟩ := h
  have hK := rb_KK hg hW
  obtain ⟨hS, hfc, kC, hkC, hkind⟩ := hK.1 ci q hq
  obtain ⟨cf, kf, fi, f, hi, hsl⟩ := hS k hk
  have hts : ∀ w ∈ lw_all, w.before args s = true := fun w hw => rb_word hg hW hw
  refine ⟨q, ref, cf, kf, fi, f, hq, hk, ?_, hi, (u_facts hfc hkC (u_lays hts (rb_cl_in ci (rb_cl_lt hq) q hq) hk) hi).1, hsl, ?_⟩
  · rcases hr with rfl | hr
    · exact hi
    · exact u_same (args := args) (rb_word hg hW hr) _ hi
  · rcases hl with hl | ⟨host, hl⟩
    · exact Or.inl (rb_word hg hW hl)
    · exact Or.inr ⟨host, va_Nw.use rfl (va_Nw.warmF hW (va_Nw.of rfl (hg.1 _ hl)))⟩
section RB2
variable {κ : rb_K} {μ : rb_M} {n : Nat × Nat} {M : rb_H} {pc : Nat} {ls : List (Option Value)} {st : List Value}
theorem rb_get {a ci k index : Nat} {fs : List Value} {v : Value} (hf : rb_FL μ.1 index ci k) (hM : M.2 a = some (rb_O ci fs)) (hv : fs[k]? = some v) (d : decode μ.2.1 pc = .ok (.getfield index, 3)) (kk : rb_Bd κ μ n M (pc + 3) ls (v :: st)) : rb_Bd κ μ n M pc ls (.ref a :: st) := by
  intro hg p e s m args below meth c hC H locs lsA hH hL hl
  obtain ⟨q, ref, cf, kf, fi, f, hq, hk, hi, -, hst, hsl, hlink⟩ := hf.at (args := args) hg hC.2.2.2.2.2.2.2.2
  obtain ⟨r, h1, cell, q1, q2, q3, q4⟩ := (hH.2.2.2 a _ hM).2
  have hr : r = q := Option.some.inj (h1.symm.trans hq)
  subst hr
  have hsv : cell.slots[f.slot]? = some v := by
    rw [hsl, q4 k hk]
    simp [vp_V, hv]
  have go := kk hg p e s m args below meth c hC H locs lsA hH hL hl
  rcases hlink with hlink | ⟨host, hlink⟩
  · exact W.getf hC.1 hC.2.1 hC.2.2.2.2.1 hlink hi hst q1 (by rw [q3]; exact fun h => by cases h) hsv rfl rfl d go
  · exact va_Wgetf hC.1 hC.2.1 hC.2.2.2.2.1 hlink hi hst q1 (by rw [q3]; exact fun h => by cases h) hsv rfl rfl d go
theorem rb_put {a ci k index : Nat} {fs : List Value} {v : Value} (hf : rb_FL μ.1 index ci k) (hfin : ∀ q : vw_C, rb_cl[ci]? = some q → (q.2.1 k).2.2.2 = false ∨ (μ.1 = (q.2.1 k).1 ∧ μ.2.2.2.2.1 = "<init>")) (hn : narrow (rb_ty ci k) v = v) (hfit : fits (rb_ty ci k) v = true) (hM : M.2 a = some (rb_O ci fs)) (hlen : k < fs.length) (d : decode μ.2.1 pc = .ok (.putfield index, 3)) (kk : rb_Bd κ μ n (rb_up M a (rb_O ci (fs.set k v))) (pc + 3) ls st) : rb_Bd κ μ n M pc ls (v :: .ref a :: st) := by
  intro hg p e s m args below meth c hC H locs lsA hH hL hl
  obtain ⟨q, ref, cf, kf, fi, f, hq, hk, hi, hi0, hst, hsl, hlink⟩ := hf.at (args := args) hg hC.2.2.2.2.2.2.2.2
  obtain ⟨r, h1, cell, q1, q2, q3, q4⟩ := (hH.2.2.2 a _ hM).2
  have hr : r = q := Option.some.inj (h1.symm.trans hq)
  subst hr
  have hK := rb_KK hg hC.2.2.2.2.2.2.2.2
  obtain ⟨hS, hfc, kC, hkC, hkind⟩ := hK.1 ci r hq
  have hts : ∀ w ∈ lw_all, w.before args s = true := fun w hw => rb_word hg hC.2.2.2.2.2.2.2.2 hw
  have hlay := u_lays hts (rb_cl_in ci (rb_cl_lt hq) r hq) hk
  obtain ⟨hnar, hfits⟩ := u_fits hfc hkC hkind hlay hi0 (rb_cl_ty ci (rb_cl_lt hq) r hq k hk) hn hfit
  have hlt : f.slot < cell.slots.size := by
    have := q4 k hk
    rw [← hsl] at this
    exact (Array.getElem?_eq_some_iff.mp this).1
  have ha : a < H.size := (Array.getElem?_eq_some_iff.mp q1).1
  have hfin' : hasFlag f.accessFlags Acc.final = false ∨ (m.cls = cf ∧ meth.name = "<init>") := by
    rcases hfin r hq with h | ⟨h, h'⟩
    · have hw := hts _ (rb_cl_in ci (rb_cl_lt hq) r hq _ (u_in_lay hk))
      unfold u_lay at hw
      rw [h] at hw
      simp only [Bool.false_eq_true, if_false] at hw
      obtain ⟨c', k', cf', kf', fi', fd', r1, r2, hi', hst', hfin', -⟩ := Cond.lays_spec hw
      cases hi0.symm.trans hi'
      exact Or.inl hfin'
    · rcases hlay with hw | hw
      · obtain ⟨c', k', cf', kf', fi', fd', r1, r2, hi', hst', hfin', -⟩ := Cond.lays_spec hw
        cases hi0.symm.trans hi'
        exact Or.inl hfin'
      · obtain ⟨c', k', cf', kf', fi', fd', r1, r2, hi', hst', -, -, hown, -⟩ := Cond.laysFinal_spec hw
        cases hi0.symm.trans hi'
        have h5 := hC.2.2.2.2.1
        rw [h] at h5
        exact Or.inr ⟨Option.some.inj (h5.symm.trans hown), by rw [hC.2.2.2.2.2.2.1]; exact h'⟩
  have go := kk hg p e s m args below meth c hC (H.setIfInBounds a (cell.setSlot f.slot v)) (locs ++ [⟨a, f.slot⟩]) lsA (hH.put hM (by simp) (fun b hb => by simp [Array.getElem?_setIfInBounds, Ne.symm hb]) ?_) ?_ hl
  · rcases hlink with hlink | ⟨host, hlink⟩
    · exact W.putf hC.1 hC.2.1 hC.2.2.2.2.1 hlink hi hst hfin' q1 (by rw [q3]; exact fun h => by cases h) hlt hnar (by rw [q2, q3]; exact hfits) rfl rfl d go
    · exact va_Wputf hC.1 hC.2.1 hC.2.2.2.2.1 hlink hi hst hfin' q1 (by rw [q3]; exact fun h => by cases h) hlt hnar (by rw [q2, q3]; exact hfits) rfl rfl d go
  · refine ⟨r, hq, cell.setSlot f.slot v, by simp [Array.getElem?_setIfInBounds, ha], q2, q3, fun j hj => ?_⟩
    by_cases hjk : j = k
    · subst hjk
      rw [← hsl]
      have : vp_V (fs.set j v) j = v := by simp [vp_V, List.getD, hlen]
      rw [this]
      simp [Cell.setSlot, hlt]
    · have hne : f.slot ≠ κ.1.2.2.2.1.2 ci j := by rw [hsl]; exact hg.2.2.1 ci r hq k j hk hj (Ne.symm hjk)
      rw [slot_ne cell v hne, q4 j hj]
      simp [vp_V, List.getD, List.getElem?_set_ne (Ne.symm hjk)]
  · intro l hl'
    rcases List.mem_append.mp hl' with h | h
    · exact hL l h
    · rw [List.mem_singleton] at h
      subst h
      exact (hH.2.2.2 a _ hM).1
end RB2
