set_option maxRecDepth 100000
/-! a throw meets the method's own handlers: which class each names, cold or warm -/
/-- what the search through the entries es gives for an object of the class number tc -/
def rb_fd (pl : Platform) (s₀ : State) (dcl : ClassId) (pc : Nat) (tc : ClassId) : List ExceptionTableEntry → Handler → Prop
  | [], h => h = .none
  | y :: t, h => (covers y pc = false ∧ rb_fd pl s₀ dcl pc tc t h) ∨ (covers y pc = true ∧ y.catchType ≠ 0 ∧ ∃ c, s₀.vm.ClassLinks pl dcl y.catchType c ∧ ((s₀.vm.assignable tc c = true ∧ h = .found y.handlerPc) ∨ (s₀.vm.assignable tc c = false ∧ rb_fd pl s₀ dcl pc tc t h)))
theorem rb_fd_go {e : Env} {s₀ : State} {f : JFrame} {a : Addr} {cell : Cell} {h : Handler} (hobj : ∀ k, cell.vm ≠ .statics k) (hk0 : ∃ k, s₀.vm.classes[cell.cls]? = some k) :
    ∀ (es : List ExceptionTableEntry) (S : State), rb_fd e.platform s₀ f.method.cls f.pc cell.cls es h → s₀.WarmedH S.vm → S.heap[a]? = some cell →
      ∃ vm', s₀.WarmedH vm' ∧ ∀ (Q : Handler → Pre) (E : CtlPost) (d : Bool) (acts : List Action), wp (findHandler.go f a es) Q E e d acts S ↔ Q h d acts (S.setVm vm') := by
  obtain ⟨k0, hk0⟩ := hk0
  intro es
  induction es with
  | nil =>
    intro S hf hW hcell
    cases hf
    exact ⟨S.vm, hW, fun Q E d acts => by rw [Jvm.W.findHandler_go_nil, State.setVm_self]⟩
  | cons y t ih =>
    intro S hf hW hcell
    rcases hf with ⟨hcov, hf⟩ | ⟨hcov, h0, c, hl, hf⟩
    · obtain ⟨vm', hW', hq⟩ := ih S hf hW hcell
      exact ⟨vm', hW', fun Q E d acts => by rw [Jvm.W.findHandler_go_skip hcov]; exact hq Q E d acts⟩
    · obtain ⟨k0', hk0', -⟩ := hW.alike.2.2 _ _ hk0
      obtain ⟨dk, _, _, kt, hd, _, _, _, _, hkt, _, hopen⟩ := hl.here
      obtain ⟨kt', hkt', -⟩ := hW.alike.2.2 _ _ hkt
      have hlS := hW.classLinks hl
      obtain ⟨ha, ht⟩ := (resolveClass_links e.toSetting hlS).op (op := VmOp.resolveClass f.method.cls y.catchType) rfl
      have hal : S.vm.Alike (S.vm.noted f.method.cls y.catchType (.cls c)) := (Vm.Alike.refl S.vm).noted _ _ _
      obtain ⟨k1', hk1', -⟩ := hal.2.2 _ _ hk0'
      obtain ⟨k2', hk2', -⟩ := hal.2.2 _ _ hkt'
      have hWn := hW.noted hd hopen (State.rightAt_cls hl)
      have hcov' := hcov
      simp only [covers] at hcov'
      rcases hf with ⟨hfit, rfl⟩ | ⟨hno, hf⟩
      · have hfit' : (S.vm.noted f.method.cls y.catchType (.cls c)).assignable cell.cls c = true := by rw [hal.assignable, hW.alike.assignable]; exact hfit
        refine ⟨_, hWn, fun Q E d acts => ?_⟩
        simp [findHandler.go, hcov', h0, ha, ht, hcell, hobj, hk1', hk2', hfit', VmOp.dirties, VmOp.acts]
      · have hno' : (S.vm.noted f.method.cls y.catchType (.cls c)).assignable cell.cls c = false := by rw [hal.assignable, hW.alike.assignable]; exact hno
        obtain ⟨vm', hW', hq⟩ := ih (S.setVm (S.vm.noted f.method.cls y.catchType (.cls c))) hf hWn hcell
        refine ⟨vm', hW', fun Q E d acts => ?_⟩
        refine Iff.trans ?_ (hq Q E d acts)
        simp [findHandler.go, hcov', h0, ha, ht, hcell, hobj, hk1', hk2', hno', VmOp.dirties, VmOp.acts]
/-- what the search gives, and the tables that it leaves -/
def rb_Fn (e : Env) (s : State) (f : JFrame) (a : Addr) (h : Handler) (vm' : Vm) : Prop :=
  ∀ (Q : Handler → Pre) (E : CtlPost) (d : Bool) (acts : List Action), wp (findHandler f a) Q E e d acts s ↔ Q h d acts (s.setVm vm')
theorem rb_setFsf (u : State) (vm' : Vm) (F G : List Frame) : ((u.setFrames F).setVm vm').setFrames G = (u.setVm vm').setFrames G := by
  have h1 : (u.setFrames F).setVm vm' = (u.setVm vm').setFrames F := rfl
  rw [h1, State.setFrames_setFrames]
theorem rb_caught {tb : Tables} {e : Env} {s target : State} {g : JFrame} {c : Code} {below : List Frame} {a : Addr} (h : At s g.method c below) {pc : Nat} {vm' : Vm}
    (hfind : rb_Fn e ((s.setTop g).pushFrame (.throwing a)) g a (.found pc) vm') (hrest : Steps tb e below ((s.setVm vm').setTop { g with pc := pc, stack := [.ref a] }) target) :
    Steps tb e below ((s.setTop g).pushFrame (.throwing a)) target := by
  obtain ⟨hgo, hw⟩ := h.throwing a
  refine Steps.head hgo hw ?_
  have hstep : (stepThrowing e ((s.setTop g).pushFrame (.throwing a)) a (.java g :: s.frames.tail)).1 = ((((s.setTop g).pushFrame (.throwing a)).setVm vm').setFrames (.java { g with pc := pc, stack := [.ref a] } :: s.frames.tail)) := by
    simp only [stepThrowing, searchFrame, vmDo]
    generalize hr : Sem.go _ e false [] ((s.setTop g).pushFrame (.throwing a)) = res
    obtain ⟨as, rfl, ha⟩ := Sem.eq_ok_of hr (a := Handler.found pc) (s' := ((s.setTop g).pushFrame (.throwing a)).setVm vm') (acts' := []) (by simp [hfind _ _ _ _])
    rfl
  rw [stepThread_throwing (frames_entered h.top _), hstep]
  obtain ⟨g₀, hg⟩ := Option.isSome_iff_exists.mp h.top
  obtain ⟨r, hr⟩ := State.topJava?_eq_some.mp hg
  have hr' : (s.setVm vm').frames = .java g₀ :: r := hr
  rw [State.setTop_of_frames _ hr'] at hrest
  rw [hr, List.tail_cons, State.pushFrame, rb_setFsf, State.setTop_of_frames _ hr, rb_setFsf]
  exact hrest
theorem rb_uncaught {tb : Tables} {e : Env} {s target : State} {g : JFrame} {c : Code} {below : List Frame} {a : Addr} (h : At s g.method c below) {vm' : Vm} {meth : Method} (hm : s.vm.method? g.method = some meth) (hal : s.vm.Alike vm') (hl : meth.locks = false) (hlocked : g.locked = none) (hentered : g.entered = [])
    (hfind : rb_Fn e ((s.setTop g).pushFrame (.throwing a)) g a .none vm') (hrest : Steps tb e below ((s.setVm vm').setFrames (.throwing a :: s.frames.tail)) target) :
    Steps tb e below ((s.setTop g).pushFrame (.throwing a)) target := by
  obtain ⟨hgo, hw⟩ := h.throwing a
  refine Steps.head hgo hw ?_
  have hm' : vm'.method? g.method = some meth := by rw [hal.method?]; exact hm
  have hstep : (stepThrowing e ((s.setTop g).pushFrame (.throwing a)) a (.java g :: s.frames.tail)).1 = ((((s.setTop g).pushFrame (.throwing a)).setVm vm').setFrames (.throwing a :: s.frames.tail)) := by
    simp only [stepThrowing, searchFrame, vmDo]
    generalize hr : Sem.go _ e false [] ((s.setTop g).pushFrame (.throwing a)) = res
    obtain ⟨as, rfl, ha⟩ := Sem.eq_ok_of hr (a := Handler.none) (s' := ((s.setTop g).pushFrame (.throwing a)).setVm vm') (acts' := [])
      (by cases hp : e.platform.frameOwnsMonitors <;> simp [hfind _ _ _ _, hm', hl, hlocked, hentered, hp, leaveIfLocked])
    rfl
  rw [stepThread_throwing (frames_entered h.top _), hstep]
  obtain ⟨g₀, hg⟩ := Option.isSome_iff_exists.mp h.top
  obtain ⟨r, hr⟩ := State.topJava?_eq_some.mp hg
  rw [State.pushFrame, rb_setFsf, State.setTop_of_frames _ hr, rb_setFsf]
  exact hrest
def rb_hd (o : Option Nat) : Handler := match o with
  | none => .none
  | some h => .found h
/-- the entries of a table, by what they name: does the object of the class ci fit -/
def rb_hs (own : String) (hh : List (Nat × Nat × Nat × Nat)) (pc ci : Nat) : Option Nat → Prop := fun o => match hh with
  | [] => o = none
  | y :: t => if y.1 ≤ pc ∧ pc < y.2.1 then y.2.2.2 ≠ 0 ∧ ∃ (q : vw_C) (nm : String), rb_cl[ci]? = some q ∧ Cond.classLink own y.2.2.2 nm ∈ lw_all ∧ ((q.1 = nm ∧ o = some y.2.2.1) ∨ (Cond.not (.castable q.1 nm) ∈ flatC (Jvm.Cond.and given_1 narrow_1) ∧ rb_hs own t pc ci o)) else rb_hs own t pc ci o
theorem rb_hs_fd {g : rb_G} {p : Program} {e : Env} {R : Room} {s : State} {m : MethodId} {args : Array Value} {below : List Frame} {meth : Method} {c : Code} {T : State} {locs : List Loc} {cells slots : Nat} (hg : rb_GW g) (hW : g.2.1.WarmedH s.vm) (X : Stand p g.1 e R s m args below meth c T locs cells slots) {own : String} (hown : s.vm.findClass own = some m.cls) {pc ci : Nat} {o : Option Nat} {q0 : vw_C} (hq0 : rb_cl[ci]? = some q0) {tc : ClassId} (htc : s.vm.findClass q0.1 = some tc) (hat : ClassAt s q0.1 tc) :
    ∀ (es : List ExceptionTableEntry) (hh : List (Nat × Nat × Nat × Nat)), es.map (fun h => (h.startPc, h.endPc, h.handlerPc, h.catchType)) = hh → rb_hs own hh pc ci o → rb_fd e.platform s m.cls pc tc es (rb_hd o) := by
  have hpl : e.platform.magicAccessors = ({} : Platform).magicAccessors := by rw [X.admits.platform]
  intro es
  induction es with
  | nil =>
    intro hh he hs
    subst he
    cases hs
    rfl
  | cons y t ih =>
    intro hh he hs
    subst he
    unfold rb_hs at hs
    simp only [List.map_cons] at hs
    split at hs
    · rename_i hc
      obtain ⟨h0, q, nm, hq, hlink, hr⟩ := hs
      cases hq0.symm.trans hq
      obtain ⟨c', hc', hcl⟩ := Cond.classLink_spec hown (rb_word (args := args) hg hW hlink) e.platform hpl
      refine Or.inr ⟨by simp [covers, hc.1, hc.2], h0, c', hcl, ?_⟩
      rcases hr with ⟨hnm, rfl⟩ | ⟨hno, hr⟩
      · left
        subst hnm
        cases htc.symm.trans hc'
        exact ⟨va_assign hat, rfl⟩
      · right
        refine ⟨?_, ih _ rfl hr⟩
        have hv := Cond.holds_not_iff.mp (rb_flat hg hno)
        have f1 : g.2.1.vm.findClass q0.1 = some tc := by rw [← hW.alike.findClass]; exact htc
        have f2 : g.2.1.vm.findClass nm = some c' := by rw [← hW.alike.findClass]; exact hc'
        simp only [Cond.value, f1, f2] at hv
        rw [hW.alike.assignable]
        exact Option.some.inj hv
    · rename_i hc
      refine Or.inl ⟨?_, ih _ rfl hs⟩
      simp only [covers, Bool.and_eq_false_iff, decide_eq_false_iff_not]
      by_cases h1 : y.startPc ≤ pc
      · exact Or.inr fun h2 => hc ⟨h1, h2⟩
      · exact Or.inl h1
section RBT
variable {κ : rb_K} {μ : rb_M} {n : Nat × Nat} {M : rb_H} {pc : Nat} {ls : List (Option Value)}
/-- THE THROW MEETS THE METHOD's HANDLERS: it is caught at hpc, or goes out -/
theorem rb_Th.meets {a ci : Nat} {o : Option Nat} (hb : rb_ob M a ci) (hs : rb_hs μ.1 μ.2.2.2.2.2 pc ci o) (hk : match o with | none => (rb_fin κ n ∧ κ.2.2.1 (.threw a) M) | some hpc => rb_Bd κ μ n M hpc ls [.ref a]) : rb_Th κ μ n M pc ls a := by
  intro hg p e s m args below meth c hC T locs lsA st hH hL hl X
  have hWs := hC.2.2.2.2.2.2.2.2
  have hK := rb_KK hg hWs
  obtain ⟨fs, hb⟩ := hb
  obtain ⟨r, hr, cell, q1, q2, q3, -⟩ := (hH.2.2.2 a _ hb).2
  obtain ⟨hfc, kC, hkC, hkind⟩ := (hK.1 ci r hr).2
  have hfd := rb_hs_fd hg hWs X hC.2.2.2.2.1 (pc := pc) (o := o) hr hfc ⟨hfc, kC, hkC, hkind⟩ _ _ hC.2.2.2.2.2.2.2.1 hs
  rw [← q2] at hfd
  obtain ⟨vm', hW', hq⟩ := rb_fd_go (e := e) (f := F0 m pc lsA st) (a := a) (cell := cell) (fun k h => by rw [q3] at h; cases h) ⟨kC, by rw [q2]; exact hkC⟩ c.exceptionTable.toList ((T.setTop (F0 m pc lsA st)).pushFrame (.throwing a)) hfd X.warmed q1
  have hfind : rb_Fn e ((T.setTop (F0 m pc lsA st)).pushFrame (.throwing a)) (F0 m pc lsA st) a (rb_hd o) vm' := by
    intro Q E d acts
    rw [Jvm.W.findHandler_eq (meth := meth) (code := c) X.method' X.code]
    exact hq Q E d acts
  have X' := X.noted hW'
  cases o with
  | some hpc =>
    obtain ⟨t, a1, b1⟩ := hk hg p e s m args below meth c hC T.heap locs lsA hH hL hl (T.setVm vm') rfl X'
    exact ⟨t, rb_caught (c := c) X.here hfind a1, b1⟩
  | none =>
    obtain ⟨⟨h1, h2⟩, hp⟩ := hk
    obtain ⟨g₀, hfr⟩ := X.frames_eq
    refine ⟨(T.setVm vm').setFrames (.throwing a :: below), rb_uncaught (c := c) (meth := meth) X.here X.method' (X.warmed.alike.symm.trans hW'.alike) hC.2.2.2.2.2.1 rfl rfl hfind (by rw [X.tail]; exact Steps.refl _), .threw a, X'.here.running, State.frames_setFrames _ (State.cur_lt_of_frames hfr), ⟨M, hp, hH⟩, (X'.ends _).1, locs, ((X'.ends _).2).mono h1 h2, hL⟩
end RBT
