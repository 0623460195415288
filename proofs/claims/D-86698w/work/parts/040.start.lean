set_option maxRecDepth 100000
/-! the start: what holds all through a run -/
theorem rb_cl_inst : ∀ ci, ci < 30 → ∀ q : vw_C, rb_cl[ci]? = some q → Cond.instantiable q.1 q.2.2 ∈ lw_all := by
  refine rb_all30 ?_ ?_ ?_ ?_ ?_ ?_ ?_ ?_ ?_ ?_ ?_ ?_ ?_ ?_ ?_ ?_ ?_ ?_ ?_ ?_ ?_ ?_ ?_ ?_ ?_ ?_ ?_ ?_ ?_ ?_
  all_goals (intro q h; cases h)
  · exact q118
  · exact q126
  · exact q195
  · exact q242
  · exact q1501
  · exact q417
  · exact q625
  · exact q213
  · exact q663
  · exact q719
  · exact q732
  · exact q745
  · exact q759
  · exact q772
  · exact q786
  · exact q800
  · exact q816
  · exact q829
  · exact q842
  · exact q856
  · exact q869
  · exact q882
  · exact q895
  · exact q908
  · exact q922
  · exact q937
  · exact q951
  · exact q1112
  · exact q1246
  · exact q1402
theorem rb_apart0 {args : Array Value} {s : State} {C O f d O' f' d' : String} (h : (Cond.lays C O f d).before args s = true ∨ (Cond.laysFinal C O f d).before args s = true) (h' : (Cond.lays C O' f' d').before args s = true ∨ (Cond.laysFinal C O' f' d').before args s = true)
    {cf kf fi fd cf' kf' fi' fd'} (hi : s.fieldFound? O f d = some (cf, kf, fi, fd)) (hi' : s.fieldFound? O' f' d' = some (cf', kf', fi', fd')) (hne : kf.name ≠ kf'.name ∨ fd.name ≠ fd'.name) : fd.slot ≠ fd'.slot := by
  have key : ∀ {O f d cf kf fi fd}, ((Cond.lays C O f d).before args s = true ∨ (Cond.laysFinal C O f d).before args s = true) → s.fieldFound? O f d = some (cf, kf, fi, fd) → ∃ a dd, s.vm.findClass C = some a ∧ Jmm.declares? s.vm fd.slot (a + 1) a = some dd ∧ dd.1.name = kf.name ∧ dd.2.name = fd.name := by
    intro O f d cf kf fi fd h hi
    rcases h with h | h
    · obtain ⟨a, _, _, _, _, g, ha, _, hg, _, _, _, _, dd, hd, hn1, hn2, _⟩ := Cond.lays_spec h
      cases hi.symm.trans hg
      exact ⟨a, dd, ha, hd, hn1, hn2⟩
    · obtain ⟨a, _, _, _, _, g, ha, _, hg, _, _, _, _, _, dd, hd, hn1, hn2, _⟩ := Cond.laysFinal_spec h
      cases hi.symm.trans hg
      exact ⟨a, dd, ha, hd, hn1, hn2⟩
  obtain ⟨a, dd, ha, hd, hn1, hn2⟩ := key h hi
  obtain ⟨a', dd', ha', hd', hn1', hn2'⟩ := key h' hi'
  cases ha.symm.trans ha'
  intro hs
  rw [hs] at hd
  cases hd.symm.trans hd'
  rcases hne with q | q
  · exact q (hn1.symm.trans hn1')
  · exact q (hn2.symm.trans hn2')
/-- the class in which a field is found is the one that declares it -/
theorem rb_kfname {args : Array Value} {s : State} {C O f d : String} {cf kf fi fd} (h : (Cond.lays C O f d).before args s = true ∨ (Cond.laysFinal C O f d).before args s = true) (hi : s.fieldFound? O f d = some (cf, kf, fi, fd)) : kf.name = O := by
  have hfc : s.vm.findClass O = some cf := by
    rcases h with h | h
    · simp only [Cond.before, Cond.holds, Cond.value, hi] at h
      cases hc : s.vm.findClass C with
      | none => simp [hc] at h
      | some a =>
        cases hk : s.vm.classes[a]? with
        | none => simp [hc, hk] at h
        | some k =>
          simp only [hc, hk, Option.map_some, beq_iff_eq, Option.some.injEq, Bool.and_eq_true, decide_eq_true_eq] at h
          exact h.1.1.2
    · obtain ⟨a, _, cf', kf', fi', g, ha, _, hg, _, _, _, hown, _⟩ := Cond.laysFinal_spec h
      cases hi.symm.trans hg
      exact hown
  obtain ⟨k, hk, hn⟩ := Vm.findClass_spec hfc
  have hk2 := (State.fieldFound?_spec hi).1
  cases hk.symm.trans hk2
  exact hn
theorem rb_start {l : Launch} {s : State} {b : Nat} (hfl : l.flags = flags0) (hts : ∀ w ∈ lw_tbl, w.before #[Value.ref b] s = true) (hgv : (Jvm.Cond.and given_1 narrow_1).before #[Value.ref b] s = true) : ∃ (D : va_G) (dA : Nat → ClassId), rb_GW (l, s, b, D, dA) := by
  have hall : ∀ w ∈ lw_all, w.before #[Value.ref b] s = true := fun w h => hts w (lw_all_tbl h)
  have key : ∀ ci : Nat, ∃ (x : ClassId × (Nat → Nat)), ∀ q : vw_C, rb_cl[ci]? = some q → u_Kn s q.1 q.2.1 q.2.2 x.1 x.2 := by
    intro ci
    cases hq : rb_cl[ci]? with
    | none => exact ⟨(0, fun _ => 0), fun q h => by cases h⟩
    | some q =>
      obtain ⟨cC, iS, hK⟩ := u_known (C := q.1) (T := q.2.1) (N := q.2.2) (n := q.2.2) hall (rb_cl_in ci (rb_cl_lt hq) q hq) (hall _ (rb_cl_inst ci (rb_cl_lt hq) q hq))
      exact ⟨(cC, iS), fun q' h => by cases h; exact hK⟩
  have prim : ∀ ty : FieldType, Cond.arrayClass ty ∈ lw_all → ∃ cA, ArrOfT s cA ty ∧ s.vm.findClass ("[" ++ ty.toString) = some cA := by
    intro ty h
    obtain ⟨c, k, comp, h1, h2, h3⟩ := Cond.arrayClass_spec (hall _ h)
    exact ⟨c, fun n z => ⟨fun _ h => (by cases h), k, h2, comp, h3⟩, h1⟩
  have obj : ∀ C : String, Cond.arrayOver (.object C) ∈ lw_tbl → ∃ cA, ArrOfT s cA (.object C) ∧ va_RA s cA (.object C) := by
    intro C h
    obtain ⟨comp, c, k, h1, h2, h3, h4, h5⟩ := Cond.arrayOver_spec (hts _ h)
    exact ⟨c, fun n z => ⟨fun _ h => (by cases h), k, h3, comp, h4⟩, k, comp, h3, h4, h1, h5⟩
  obtain ⟨c0, a0, r0⟩ := prim .int q289
  obtain ⟨c1, a1, r1⟩ := prim .long q290
  obtain ⟨c2, a2, r2⟩ := prim .boolean q291
  obtain ⟨c3, a3, r3⟩ := obj _ q535
  obtain ⟨c4, a4, r4⟩ := obj _ q241
  obtain ⟨c5, a5, r5⟩ := obj _ q239
  obtain ⟨c6, a6, r6⟩ := obj _ q1252
  refine ⟨(fun ci => (Classical.choose (key ci)).1, fun ci => (Classical.choose (key ci)).2), fun t => [c0, c1, c2, c3, c4, c5, c6].getD t 0, hts, ⟨fun ci q hq => Classical.choose_spec (key ci) q hq, fun k q hk => ?_⟩, fun ci q hq x y hx hy hne => ?_, hgv, hfl⟩
  · match k, hk with
    | 0, hk => cases hk; exact ⟨a0, r0⟩
    | 1, hk => cases hk; exact ⟨a1, r1⟩
    | 2, hk => cases hk; exact ⟨a2, r2⟩
    | 3, hk => cases hk; exact ⟨a3, r3⟩
    | 4, hk => cases hk; exact ⟨a4, r4⟩
    | 5, hk => cases hk; exact ⟨a5, r5⟩
    | 6, hk => cases hk; exact ⟨a6, r6⟩
    | k + 7, hk => simp [rb_tys] at hk
  · have hK := Classical.choose_spec (key ci) q hq
    obtain ⟨_, kx, _, fx, hix, ex⟩ := hK.1 x hx
    obtain ⟨_, ky, _, fy, hiy, ey⟩ := hK.1 y hy
    show (Classical.choose (key ci)).2 x ≠ (Classical.choose (key ci)).2 y
    rw [← ex, ← ey]
    have lx := u_lays hall (rb_cl_in ci (rb_cl_lt hq) q hq) hx
    have ly := u_lays hall (rb_cl_in ci (rb_cl_lt hq) q hq) hy
    refine rb_apart0 lx ly hix hiy ?_
    rw [rb_kfname lx hix, rb_kfname ly hiy, (State.fieldFound?_type hix (rb_cl_ty ci (rb_cl_lt hq) q hq x hx)).1, (State.fieldFound?_type hiy (rb_cl_ty ci (rb_cl_lt hq) q hq y hy)).1]
    exact rb_cl_nm ci (rb_cl_lt hq) q hq x hx y hy hne
