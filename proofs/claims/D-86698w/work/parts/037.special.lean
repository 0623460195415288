set_option maxRecDepth 100000
/-! statics, class objects, arraycopy, what a run knows -/
/-- the empty array that every new ArrayList shares -/
def rb_dc (g : rb_G) : Nat := match (Term.static "java/util/ArrayList" "DEFAULTCAPACITY_EMPTY_ELEMENTDATA" "[Ljava/lang/Object;").eval #[Value.ref g.2.2.1] g.2.1 none [] g.2.1 with
  | some (.ref t) => t
  | _ => 0
theorem rb_dc_T {g : rb_G} (hg : rb_GW g) : (Term.static "java/util/ArrayList" "DEFAULTCAPACITY_EMPTY_ELEMENTDATA" "[Ljava/lang/Object;").eval #[Value.ref g.2.2.1] g.2.1 none [] g.2.1 = some (.ref (rb_dc g)) ∧ va_T (.object "java/lang/Object") (rb_dc g) 0 (fun _ => .null) (fun q => g.2.1.heap.size ≤ q) g.2.1 g.2.1.heap := by
  have h1 : (Cond.arrayOf (.static "java/util/ArrayList" "DEFAULTCAPACITY_EMPTY_ELEMENTDATA" "[Ljava/lang/Object;") (.object "java/lang/Object")).before #[Value.ref g.2.2.1] g.2.1 = true := rb_flat hg (by decide +kernel)
  have h2 : (Cond.eq (.length (.static "java/util/ArrayList" "DEFAULTCAPACITY_EMPTY_ELEMENTDATA" "[Ljava/lang/Object;")) (.int 0)).before #[Value.ref g.2.2.1] g.2.1 = true := rb_flat hg (by decide +kernel)
  obtain ⟨t, ht, hT⟩ := va_Tof (N := 0) (f := fun _ => .null) (A := fun q => g.2.1.heap.size ≤ q) (by decide) h1 (va_eqt h2) (fun j hj => absurd hj (Nat.not_lt_zero j)) (fun a ha h => by omega)
  have e : rb_dc g = t := by unfold rb_dc; rw [ht]
  rw [e]
  exact ⟨ht, hT⟩
theorem rb_dc_lt {g : rb_G} (hg : rb_GW g) : rb_dc g < g.2.1.heap.size := by
  obtain ⟨-, cell, h1, -⟩ := rb_dc_T hg
  exact (Array.getElem?_eq_some_iff.mp h1).1
/-- the class object of Object[] -/
def rb_mi (g : rb_G) : Nat := match g.2.1.vm.findClass "[Ljava/lang/Object;" with
  | some c => match g.2.1.vm.classes[c]? with
    | some k => match k.mirror with
      | some mi => mi
      | none => 0
    | none => 0
  | none => 0
theorem rb_mi_ok {g : rb_G} {s : State} (hg : rb_GW g) (hW : g.2.1.WarmedH s.vm) : va_Mi "[Ljava/lang/Object;" (rb_mi g) s := by
  obtain ⟨mi, c, k, h1, h2, h3⟩ := va_Mi.of (args := #[Value.ref g.2.2.1]) (s := g.2.1) (C := "[Ljava/lang/Object;") (rb_flat hg (by decide +kernel))
  have e : rb_mi g = mi := by simp only [rb_mi, h1, h2, h3]
  rw [e]
  exact va_Mi.moved hW.alike ⟨c, k, h1, h2, h3⟩
/-- what a run knows of its heap -/
def rb_Wf (g : rb_G) (M : rb_H) : Prop := g.2.1.heap.size ≤ M.1 ∧ rb_dc g < g.2.1.heap.size ∧ ∀ (a : Nat) (e : rb_E), M.2 a = some e → g.2.1.heap.size ≤ a ∧ a < M.1
theorem rb_Hp.wf {g : rb_G} {M : rb_H} {H : Heap} (hg : rb_GW g) (h : rb_Hp g M H) : rb_Wf g M := ⟨h.2.1, rb_dc_lt hg, fun a e ha => ⟨(h.2.2.2 a e ha).1, h.lt ha⟩⟩
section RBS
variable {κ : rb_K} {μ : rb_M} {n : Nat × Nat} {M : rb_H} {pc : Nat} {ls : List (Option Value)} {st : List Value}
theorem rb_know (k : rb_Wf κ.1 M → rb_Bd κ μ n M pc ls st) : rb_Bd κ μ n M pc ls st := by
  intro hg p e s m args below meth c hC H locs lsA hH hL hl
  exact k (hH.wf hg) hg p e s m args below meth c hC H locs lsA hH hL hl
theorem rb_getS {C nm ds : String} {v : Value} {index : Nat} (hZ : rb_GW κ.1 → va_Z C nm ds v (fun q => κ.1.2.1.heap.size ≤ q) κ.1.2.1 κ.1.2.1.heap) (hl' : Cond.fieldLink μ.1 index C nm ds ∈ lw_all) (d : decode μ.2.1 pc = .ok (.getstatic index, 3)) (k : rb_Bd κ μ n M (pc + 3) ls (v :: st)) : rb_Bd κ μ n M pc ls st := by
  intro hg p e s m args below meth c hC H locs lsA hH hL hl
  have hW := hC.2.2.2.2.2.2.2.2
  obtain ⟨cf, kf, fi, f, a, cell, h1, h2, h3, h4, h5, h6, h7, h8⟩ := va_Z.moved (U := s) hW.alike (hZ hg)
  have ha : a < κ.1.2.1.heap.size := (Array.getElem?_eq_some_iff.mp h5).1
  exact W.gets hC.1 hC.2.1 hC.2.2.2.2.1 (rb_word hg hW hl') h1 h2 h3 h4 (by rw [hH.2.2.1 a ha]; exact h5) (fun e => by rw [e] at h6; cases h6) h7 rfl d (k hg p e s m args below meth c hC H locs lsA hH hL hl)
theorem rb_getDC {index : Nat} (hl' : Cond.fieldLink μ.1 index "java/util/ArrayList" "DEFAULTCAPACITY_EMPTY_ELEMENTDATA" "[Ljava/lang/Object;" ∈ lw_all) (h1 : Cond.laysStatic "java/util/ArrayList" "DEFAULTCAPACITY_EMPTY_ELEMENTDATA" "[Ljava/lang/Object;" ∈ lw_tbl) (h2 : Cond.initialized "java/util/ArrayList" ∈ lw_all) (d : decode μ.2.1 pc = .ok (.getstatic index, 3)) (k : rb_Bd κ μ n M (pc + 3) ls (.ref (rb_dc κ.1) :: st)) : rb_Bd κ μ n M pc ls st :=
  rb_getS (fun hg => va_Zof (hg.1 _ h1) (hg.1 _ (lw_all_tbl h2)) (rb_dc_T hg).1 (fun a ha h => by omega)) hl' d k
/-- a static of which only 'a reference or null' is said -/
theorem rb_getQ {C nm ds : String} {index : Nat} (hr : Cond.isRef (.static C nm ds) ∈ flatC (Jvm.Cond.and given_1 narrow_1)) (hl' : Cond.fieldLink μ.1 index C nm ds ∈ lw_all) (h1 : Cond.laysStatic C nm ds ∈ lw_tbl) (h2 : Cond.initialized C ∈ lw_all) (d : decode μ.2.1 pc = .ok (.getstatic index, 3)) (k : ∀ v, rb_isR v → rb_Bd κ μ n M (pc + 3) ls (v :: st)) : rb_Bd κ μ n M pc ls st := by
  intro hg
  rcases va_Zqof (hg.1 _ h1) (hg.1 _ (lw_all_tbl h2)) (rb_flat hg hr) (A := fun q => κ.1.2.1.heap.size ≤ q) (fun a ha h => by omega) with h | ⟨t, h⟩
  · exact rb_getS (fun _ => h) hl' d (k _ rb_isR_null) hg
  · exact rb_getS (fun _ => h) hl' d (k _ (rb_isR_ref t)) hg
theorem rb_lenDC (d : decode μ.2.1 pc = .ok (.arraylength, 1)) (k : rb_Bd κ μ n M (pc + 1) ls (.int 0 :: st)) : rb_Bd κ μ n M pc ls (.ref (rb_dc κ.1) :: st) := by
  intro hg p e s m args below meth c hC H locs lsA hH hL hl
  have hW := hC.2.2.2.2.2.2.2.2
  obtain ⟨cell, h1, h2, h3, h4, h5, h6, h7⟩ := va_T.moved (U := s) hW.alike (rb_dc_T hg).2
  exact W.alen (n := Int32.ofNat 0) hC.1 hC.2.1 (by rw [hH.2.2.1 _ (rb_dc_lt hg)]; exact h1) h2 h5 rfl rfl d (k hg p e s m args below meth c hC H locs lsA hH hL hl)
theorem rb_ldcM {index : Nat} (hl' : Cond.classLink μ.1 index "[Ljava/lang/Object;" ∈ lw_all) (d : decode μ.2.1 pc = .ok (.ldc index, 2)) (k : rb_Bd κ μ n M (pc + 2) ls (.ref (rb_mi κ.1) :: st)) : rb_Bd κ μ n M pc ls st := by
  intro hg p e s m args below meth c hC H locs lsA hH hL hl
  have hW := hC.2.2.2.2.2.2.2.2
  exact va_ldcM hC.1 hC.2.1 hC.2.2.2.2.1 (rb_word hg hW hl') (rb_mi_ok hg hW) d (k hg p e s m args below meth c hC H locs lsA hH hL hl)
theorem rb_getC {a N index : Nat} {f : Nat → Option Nat} (hM : M.2 a = some (rb_R 3 N f)) (h1 : Cond.methodLink μ.1 index ⟨"java/lang/Object", "getClass", "()Ljava/lang/Class;"⟩ ∈ lw_all) (h2 : Cond.declares ⟨"java/lang/Object", "getClass", "()Ljava/lang/Class;"⟩ ∈ lw_tbl) (h3 : Cond.selects "[Ljava/lang/Object;" ⟨"java/lang/Object", "getClass", "()Ljava/lang/Class;"⟩ ⟨"java/lang/Object", "getClass", "()Ljava/lang/Class;"⟩ ∈ lw_all) (h4 : Cond.instanceMethod ⟨"java/lang/Object", "getClass", "()Ljava/lang/Class;"⟩ ∈ lw_all) (h5 : Cond.native ⟨"java/lang/Object", "getClass", "()Ljava/lang/Class;"⟩ ∈ lw_all)
    (hf : 1 ≤ κ.2.1.frames) (hlo : (st.map fun v => v.category).sum + 14 ≤ κ.2.1.locals) (d : decode μ.2.1 pc = .ok (.invokevirtual index, 3)) (k : rb_Bd κ μ n M (pc + 3) ls (.ref (rb_mi κ.1) :: st)) : rb_Bd κ μ n M pc ls (.ref a :: st) := by
  intro hg p e s m args below meth c hC H locs lsA hH hL hl
  have hW := hC.2.2.2.2.2.2.2.2
  have hK := rb_KK hg hW
  obtain ⟨hba, hat⟩ := hH.2.2.2 a _ hM
  have hat : H[a]? = some (arrV (κ.1.2.2.2.2 3) N (fun j => va_rf (f j))) := hat
  exact va_getC hC.1 hC.2.1 (hC.2.2.1.trans hl.1.symm) hC.2.2.2.2.1 (rb_word hg hW h1) (va_Dc.use (va_Dc.moved hW.alike (va_Dc.of (hg.1 _ h2)))) (rb_word hg hW h3) (rb_word hg hW h4) (rb_word hg hW h5) (rb_mi_ok hg hW) ⟨_, hat, rfl, va_nmO (hK.2 3 _ rfl).2 (by decide +kernel)⟩ hf hlo d (k hg p e s m args below meth c hC H locs lsA hH hL hl)
theorem rb_acopy {a a0 n0 n1 index : Nat} {f g : Nat → Option Nat} {sp dp ln : Int32} (hM0 : M.2 a0 = some (rb_R 3 n0 f)) (hM1 : M.2 a = some (rb_R 3 n1 g)) (w1 : Cond.methodLink μ.1 index arraycopyName ∈ lw_all) (w2 : Cond.native arraycopyName ∈ lw_all) (w3 : Cond.static arraycopyName ∈ lw_all) (w4 : Cond.initialized "java/lang/System" ∈ lw_all)
    (h1 : ¬ sp < 0) (h2 : ¬ dp < 0) (h3 : ¬ ln < 0) (h4 : sp.toNatClampNeg + ln.toNatClampNeg ≤ n0) (h5 : dp.toNatClampNeg + ln.toNatClampNeg ≤ n1) (hel : ∀ i : Nat, i < ln.toNatClampNeg → ∀ y : Nat, f (sp.toNatClampNeg + i) = some y → ∃ ci, rb_ob M y ci ∧ rb_AS ci 3)
    (hf : 1 ≤ κ.2.1.frames) (hlo : (st.map fun v => v.category).sum + (nativeFrameWords "java/lang/System" "arraycopy" 5 + 11) ≤ κ.2.1.locals) (d : decode μ.2.1 pc = .ok (.invokestatic index, 3))
    (k : rb_Bd κ μ n (rb_up M a (rb_R 3 n1 (va_cpy f g sp.toNatClampNeg dp.toNatClampNeg ln.toNatClampNeg))) (pc + 3) ls st) : rb_Bd κ μ n M pc ls (.int ln :: .int dp :: .ref a :: .int sp :: .ref a0 :: st) := by
  intro hg p e s m args below meth c hC H locs lsA hH hL hl
  have hW := hC.2.2.2.2.2.2.2.2
  have hK := rb_KK hg hW
  have nn : ∀ z : Int32, ¬ z < 0 → z.toInt = (z.toNatClampNeg : Int) := by
    intro z hz
    have hz0 : (0 : Int) ≤ z.toInt := by
      have := Int32.not_lt.mp hz
      simpa using Int32.le_iff_toInt_le.mp this
    show z.toInt = ((z.toInt.toNat : Nat) : Int)
    omega
  intro T hT X
  have hc0 : H[a0]? = some (arrV (κ.1.2.2.2.2 3) n0 (fun j => va_rf (f j))) := (hH.2.2.2 a0 _ hM0).2
  have hc1 : H[a]? = some (arrV (κ.1.2.2.2.2 3) n1 (fun j => va_rf (g j))) := (hH.2.2.2 a _ hM1).2
  obtain ⟨-, k0, hk0, cm0, hkk0⟩ := (hK.2 3 _ rfl).1 n0 (fun j => va_rf (f j))
  obtain ⟨kA, comp, r1, r2, r3, -⟩ := (hK.2 3 _ rfl).2
  obtain ⟨vm', X', step⟩ := X.arraycopy hC.1 hC.2.2.2.2.1 (rb_word hg hW w1) (rb_word hg hW w2) (rb_word hg hW w3) (rb_word hg hW w4) (src := a0) (dst := a) (cs := arrV (κ.1.2.2.2.2 3) n0 (fun j => va_rf (f j))) (cd := arrV (κ.1.2.2.2.2 3) n1 (fun j => va_rf (g j))) (srcPos := sp) (destPos := dp) (n := ln) (by rw [hT]; exact hc0) (by rw [hT]; exact hc1)
    (fun _ h => by cases h) (fun _ h => by cases h) (fun h => by cases h) (fun h => by cases h) hk0 hk0 hkk0 hkk0 rfl h1 h2 h3
    (by rw [nn sp h1, nn ln h3, arrV_size]; omega)
    (by rw [nn dp h2, nn ln h3, arrV_size]; omega)
    (fun vm₁ hal i hi => by
      have e : (arrV (κ.1.2.2.2.2 3) n0 (fun j => va_rf (f j))).slots.getD (sp.toNatClampNeg + i) .null = va_rf (f (sp.toNatClampNeg + i)) := by
        rw [Array.getD_eq_getD_getElem?, arrV_read _ _ (by omega)]
        rfl
      rw [e]
      cases hy : f (sp.toNatClampNeg + i) with
      | none => exact ⟨rfl, trivial⟩
      | some y =>
        obtain ⟨ci, ⟨fs, hob⟩, q, hq, hcast⟩ := hel i hi y hy
        obtain ⟨r', hr', cellV, g1, g2, g3, -⟩ := (hH.2.2.2 y _ hob).2
        obtain ⟨hfc, kC, hkC, hkind⟩ := (hK.1 ci q hq).2
        have hasg : s.vm.assignable cellV.cls comp = true := by
          rw [g2]
          rcases hcast with hc | hc
          · have k3 : s.vm.findClass (rb_ec 3) = some comp := r3
            rw [← hc] at k3
            cases hfc.symm.trans k3
            exact va_assign ⟨hfc, kC, hkC, hkind⟩
          · obtain ⟨c0, t0, f1, f2, f3⟩ := Cond.castable_spec (va_Nw.use (A := args) rfl (va_Nw.warmC hW (va_Nw.of rfl (hg.1 _ hc))))
            cases hfc.symm.trans f1
            have k3 : s.vm.findClass (rb_ec 3) = some comp := r3
            cases k3.symm.trans f2
            exact f3
        cases hk0.symm.trans r1
        cases hkk0.symm.trans r2
        obtain ⟨kE, hkE, -⟩ := Vm.findClass_spec r3
        have hkC2 : s.vm.classes[cellV.cls]? = some kC := by rw [g2]; exact hkC
        obtain ⟨kC', hkC', -⟩ := hal.2.2 _ _ hkC2
        obtain ⟨kE', hkE', -⟩ := hal.2.2 _ _ hkE
        refine ⟨rfl, cellV, (show T.heap[y]? = some cellV by rw [hT]; exact g1), (fun q h => by rw [g3] at h; cases h), ⟨kC', hkC'⟩, ?_, ?_⟩
        · exact ⟨kE', hkE'⟩
        · show vm₁.assignable _ _ = true
          rw [hal.assignable]
          exact hasg)
    (g := F0 m pc lsA (.int ln :: .int dp :: .ref a :: .int sp :: .ref a0 :: st)) rfl (by rw [hC.2.2.1]; exact hl.1) (rest := st) rfl (by rw [hC.2.1]; exact d) hf (by show 2 * 0 + _ + _ ≤ _; omega)
  have e1 : copied (arrV (κ.1.2.2.2.2 3) n0 (fun j => va_rf (f j))) (arrV (κ.1.2.2.2.2 3) n1 (fun j => va_rf (g j))) sp dp ln = arrV (κ.1.2.2.2.2 3) n1 (fun j => va_rf (va_cpy f g sp.toNatClampNeg dp.toNatClampNeg ln.toNatClampNeg j)) :=
    va_copied (fun z => va_rf z) _ _ f g h4
  rw [e1] at X' step
  have hlt : a < H.size := (Array.getElem?_eq_some_iff.mp hc1).1
  have hba := (hH.2.2.2 a _ hM1).1
  obtain ⟨t, a1, b1⟩ := k hg p e s m args below meth c hC (H.setIfInBounds a (arrV (κ.1.2.2.2.2 3) n1 (fun j => va_rf (va_cpy f g sp.toNatClampNeg dp.toNatClampNeg ln.toNatClampNeg j)))) _ lsA
    (hH.put hM1 (by simp) (fun q hq => by simp [Array.getElem?_setIfInBounds, Ne.symm hq]) (show (H.setIfInBounds a _)[a]? = some _ by simp [Array.getElem?_setIfInBounds, hlt]; rfl))
    (fun q hq => by
      rcases List.mem_append.mp hq with h | h
      · exact hL q h
      · obtain ⟨z, -, hz⟩ := List.mem_map.mp h
        rw [← hz]
        exact hba) hl _ (by rw [← hT]; rfl) X'
  exact ⟨t, step t a1, b1⟩
end RBS
