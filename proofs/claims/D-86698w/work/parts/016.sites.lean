set_option maxRecDepth 100000
theorem rb_cw_sig {g : rb_G} {s : State} {y : MethodName} {cw : Cond} (hg : rb_GW g) (hW : g.2.1.WarmedH s.vm) (h : rb_cw y cw) : ∃ (mk : MethodId) (meth : Method), s.methodNamed? y = some mk ∧ s.vm.method? mk = some meth ∧ parseMethodDescriptor y.desc = some meth.sig := by
  obtain ⟨h1, h2, bytes, maxL, ret, hm, h3⟩ := h
  have hw : cw.before #[] s = true := rb_word hg hW h1
  rcases h3 with rfl | ⟨hh, rfl⟩
  · obtain ⟨mk, hn⟩ := Cond.code_named hw
    obtain ⟨methY, cY, hmY, hcY, -, hlY, -, -, -, hs⟩ := Cond.code_spec hn hw
    exact ⟨mk, methY, hn, hmY, hs⟩
  · obtain ⟨m9, methY, cY, hn9, hmY, hcY, -, hlY, -, -, -, hs⟩ := Cond.codeWith_spec hw
    exact ⟨m9, methY, hn9, hmY, hs⟩
def rb_np (y : MethodName) : Option Nat := (parseMethodDescriptor y.desc).map fun d => d.parameters.length
theorem rb_np_sig {y : MethodName} {k : Nat} {sig : MethodDescriptor} (h : rb_np y = some k) (hs : parseMethodDescriptor y.desc = some sig) : k = sig.parameters.length := by
  unfold rb_np at h
  rw [hs] at h
  exact (Option.some.inj h).symm
def rb_nm (c : String) : Prop := c ≠ "java/lang/invoke/MethodHandle" ∧ c ≠ "java/lang/invoke/VarHandle"
theorem rb_goV {own : String} {index ci k : Nat} {y : MethodName} {cw : Cond} {q : vw_C} (hcw : rb_cw y cw) (hq : rb_cl[ci]? = some q) (h1 : Cond.methodLink own index y ∈ lw_all) (h2 : Cond.instanceMethod y ∈ lw_all) (h3 : Cond.selects q.1 y y ∈ lw_all) (hy : rb_nm y.cls) (hnp : rb_np y = some k) : rb_Go own (.invokevirtual index) 3 y cw (some ci) (k + 1) := by
  refine ⟨hcw, ?_⟩
  intro g hg p e R s m args below meth c T locs cells slots hexec hWs hown X gf as rest hgm hnp' hstack hrc hdg
  obtain ⟨b, As, q', cellB, rfl, hq', hcell, hobj, hcls, hat⟩ := hrc ci rfl
  cases hq.symm.trans hq'
  obtain ⟨mk, methM, hnamed, hmethM, hstM, habM⟩ := Cond.instanceMethod_spec (rb_word (args := args) hg hWs h2)
  obtain ⟨mk', methM', hnamed', hmethM', hsigM⟩ := rb_cw_sig (s := s) hg hWs hcw
  cases hnamed.symm.trans hnamed'
  cases hmethM.symm.trans hmethM'
  obtain ⟨c2, r2, m2, q1, q2, q3, q4, kP, hkP, hkPi⟩ := Cond.selects_spec (rb_word (args := args) hg hWs h3)
  cases hcls.symm.trans q1
  cases (State.methodFound?_of_named hnamed hy).symm.trans q2
  cases hnamed.symm.trans q3
  have hselP : selectMethod e.platform s.vm cellB.cls mk = .method mk := by rw [Launch.admits_selectMethod X.admits]; exact q4
  obtain ⟨vm₁, X₁, hstep₁⟩ := X.invokevirtual hexec hown (rb_word hg hWs h1) hnamed hmethM hstM hkP hkPi hy (a := b) (cell := cellB) hcell
    (fun z h => by rw [h] at hobj; cases hobj) hselP hmethM habM hkP hkPi (g := gf) hgm (argsL := As) (rest := rest) (by have := rb_np_sig hnp hsigM; simp only [List.length_cons] at hnp'; omega) (by rw [hstack]; simp) hdg
  exact ⟨vm₁, mk, X₁, X₁.named hnamed, fun target h => hstep₁ _ fun acts => by rw [doInvoke_state]; exact h⟩
theorem rb_goVN {own host : String} {index ci k : Nat} {y : MethodName} {cw : Cond} {q : vw_C} (hcw : rb_cw y cw) (hq : rb_cl[ci]? = some q) (h1 : Cond.methodLinkNest own index y host ∈ lw_tbl) (h2 : Cond.instanceMethod y ∈ lw_all) (h3 : Cond.selects q.1 y y ∈ lw_all) (hy : rb_nm y.cls) (hnp : rb_np y = some k) : rb_Go own (.invokevirtual index) 3 y cw (some ci) (k + 1) := by
  refine ⟨hcw, ?_⟩
  intro g hg p e R s m args below meth c T locs cells slots hexec hWs hown X gf as rest hgm hnp' hstack hrc hdg
  obtain ⟨b, As, q', cellB, rfl, hq', hcell, hobj, hcls, hat⟩ := hrc ci rfl
  cases hq.symm.trans hq'
  obtain ⟨mk, methM, hnamed, hmethM, hstM, habM⟩ := Cond.instanceMethod_spec (rb_word (args := args) hg hWs h2)
  obtain ⟨mk', methM', hnamed', hmethM', hsigM⟩ := rb_cw_sig (s := s) hg hWs hcw
  cases hnamed.symm.trans hnamed'
  cases hmethM.symm.trans hmethM'
  obtain ⟨c2, r2, m2, q1, q2, q3, q4, kP, hkP, hkPi⟩ := Cond.selects_spec (rb_word (args := args) hg hWs h3)
  cases hcls.symm.trans q1
  cases (State.methodFound?_of_named hnamed hy).symm.trans q2
  cases hnamed.symm.trans q3
  have hselP : selectMethod e.platform s.vm cellB.cls mk = .method mk := by rw [Launch.admits_selectMethod X.admits]; exact q4
  have hl : (Cond.methodLinkNest own index y host).before args s = true := va_Nw.use rfl (va_Nw.warmM hWs (va_Nw.of rfl (hg.1 _ h1)))
  obtain ⟨vm₁, X₁, hstep₁⟩ := X.invokevirtualNest hexec hown hl hnamed hmethM hstM hkP hkPi hy (a := b) (cell := cellB) hcell
    (fun z h => by rw [h] at hobj; cases hobj) hselP hmethM habM hkP hkPi (g := gf) hgm (argsL := As) (rest := rest) (by have := rb_np_sig hnp hsigM; simp only [List.length_cons] at hnp'; omega) (by rw [hstack]; simp) hdg
  exact ⟨vm₁, mk, X₁, X₁.named hnamed, fun target h => hstep₁ _ fun acts => by rw [doInvoke_state]; exact h⟩
theorem rb_goS {own : String} {index k : Nat} {y : MethodName} {cw : Cond} (hcw : rb_cw y cw) (h1 : Cond.methodLink own index y ∈ lw_all) (h2 : Cond.static y ∈ lw_all) (hy : rb_nm y.cls) (hnp : rb_np y = some k) : rb_Go own (.invokestatic index) 3 y cw none k := by
  refine ⟨hcw, ?_⟩
  intro g hg p e R s m args below meth c T locs cells slots hexec hWs hown X gf as rest hgm hnp' hstack hrc hdg
  obtain ⟨mk, methM, hnamed, hmethM, hsigM⟩ := rb_cw_sig (s := s) hg hWs hcw
  have hstatic : methM.isStatic = true := Cond.static_spec hnamed hmethM (rb_word (args := args) hg hWs h2)
  obtain ⟨kP, hkP, -⟩ := className_of_methodNamed hnamed
  have hinitP : kP.init = .initialized := Cond.initialized_spec (findClass_of_methodNamed hnamed) hkP (rb_word (args := args) hg hWs hcw.2.1)
  obtain ⟨vm₁, X₁, hstep₁⟩ := X.invokestatic hexec hown (rb_word hg hWs h1) hnamed hmethM hstatic hkP hinitP hy (g := gf) hgm (argsL := as) (rest := rest) (by have := rb_np_sig hnp hsigM; omega) hstack hdg
  exact ⟨vm₁, mk, X₁, X₁.named hnamed, fun target h => hstep₁ _ fun acts => by rw [doInvoke_state]; exact h⟩
theorem rb_goSN {own host : String} {index k : Nat} {y : MethodName} {cw : Cond} (hcw : rb_cw y cw) (h1 : Cond.methodLinkNest own index y host ∈ lw_tbl) (h2 : Cond.static y ∈ lw_all) (hy : rb_nm y.cls) (hnp : rb_np y = some k) : rb_Go own (.invokestatic index) 3 y cw none k := by
  refine ⟨hcw, ?_⟩
  intro g hg p e R s m args below meth c T locs cells slots hexec hWs hown X gf as rest hgm hnp' hstack hrc hdg
  obtain ⟨mk, methM, hnamed, hmethM, hsigM⟩ := rb_cw_sig (s := s) hg hWs hcw
  have hstatic : methM.isStatic = true := Cond.static_spec hnamed hmethM (rb_word (args := args) hg hWs h2)
  obtain ⟨kP, hkP, -⟩ := className_of_methodNamed hnamed
  have hinitP : kP.init = .initialized := Cond.initialized_spec (findClass_of_methodNamed hnamed) hkP (rb_word (args := args) hg hWs hcw.2.1)
  have hl : (Cond.methodLinkNest own index y host).before args s = true := va_Nw.use rfl (va_Nw.warmM hWs (va_Nw.of rfl (hg.1 _ h1)))
  obtain ⟨vm₁, X₁, hstep₁⟩ := X.invokestaticNest hexec hown hl hnamed hmethM hstatic hkP hinitP hy (g := gf) hgm (argsL := as) (rest := rest) (by have := rb_np_sig hnp hsigM; omega) hstack hdg
  exact ⟨vm₁, mk, X₁, X₁.named hnamed, fun target h => hstep₁ _ fun acts => by rw [doInvoke_state]; exact h⟩
theorem rb_goI {own : String} {index k maxL ci : Nat} {y : MethodName} {bytes : ByteArray} (hcw : rb_cw y (.code y bytes maxL none)) (hi : y.name = "<init>") (h1 : Cond.methodLink own index y ∈ lw_all) (h2 : Cond.instanceMethod y ∈ lw_all) (hy : rb_nm y.cls) (hnp : rb_np y = some k) : rb_Go own (.invokespecial index) 3 y (.code y bytes maxL none) (some ci) (k + 1) := by
  refine ⟨hcw, ?_⟩
  intro g hg p e R s m args below meth c T locs cells slots hexec hWs hown X gf as rest hgm hnp' hstack hrc hdg
  obtain ⟨b, As, q', cellB, rfl, hq', hcell, hobj, hcls, hat⟩ := hrc ci rfl
  have hl : (Cond.methodLink own index y).before args s = true := rb_word hg hWs h1
  obtain ⟨mk9, methM9, hnamed9, hmethM9, hsigM⟩ := rb_cw_sig (s := s) hg hWs hcw
  subst hgm
  have hpl : e.platform.magicAccessors = ({} : Platform).magicAccessors := by rw [X.admits.platform]
  obtain ⟨mk, methM, cM, kP, vm₁, hnamed, hmethM, hcodeM, -, hlocalsM, -, hkP, -, hW₁, hstep₁⟩ := Steps.initColdArgs (e := e) X.here hexec X.warmed hpl hown hi hy hl (rb_word (args := args) hg hWs h2) (rb_word (args := args) hg hWs hcw.1) (f := gf) rfl (argsL := As) (a := b) (rest := rest) (fun sig hs => by have := rb_np_sig hnp hs; simp only [List.length_cons] at hnp'; omega) (by rw [hstack]; simp) hdg
  have X₁ := X.noted hW₁
  exact ⟨vm₁, mk, X₁, X₁.named hnamed, fun target h => hstep₁ _ fun acts => by rw [doInvoke_state]; exact h⟩
theorem rb_goIN {own host : String} {index k maxL ci : Nat} {y : MethodName} {bytes : ByteArray} (hcw : rb_cw y (.code y bytes maxL none)) (hi : y.name = "<init>") (h1 : Cond.methodLinkNest own index y host ∈ lw_tbl) (h2 : Cond.instanceMethod y ∈ lw_all) (hy : rb_nm y.cls) (hnp : rb_np y = some k) : rb_Go own (.invokespecial index) 3 y (.code y bytes maxL none) (some ci) (k + 1) := by
  refine ⟨hcw, ?_⟩
  intro g hg p e R s m args below meth c T locs cells slots hexec hWs hown X gf as rest hgm hnp' hstack hrc hdg
  obtain ⟨b, As, q', cellB, rfl, hq', hcell, hobj, hcls, hat⟩ := hrc ci rfl
  have hl : (Cond.methodLinkNest own index y host).before args s = true := va_Nw.use rfl (va_Nw.warmM hWs (va_Nw.of rfl (hg.1 _ h1)))
  obtain ⟨mk9, methM9, hnamed9, hmethM9, hsigM⟩ := rb_cw_sig (s := s) hg hWs hcw
  subst hgm
  have hpl : e.platform.magicAccessors = ({} : Platform).magicAccessors := by rw [X.admits.platform]
  obtain ⟨mk, methM, cM, kP, vm₁, hnamed, hmethM, hcodeM, -, hlocalsM, -, hkP, -, hW₁, hstep₁⟩ := Steps.initColdArgsNest (e := e) X.here hexec X.warmed hpl hown hi hy hl (rb_word (args := args) hg hWs h2) (rb_word (args := args) hg hWs hcw.1) (f := gf) rfl (argsL := As) (a := b) (rest := rest) (fun sig hs => by have := rb_np_sig hnp hs; simp only [List.length_cons] at hnp'; omega) (by rw [hstack]; simp) hdg
  have X₁ := X.noted hW₁
  exact ⟨vm₁, mk, X₁, X₁.named hnamed, fun target h => hstep₁ _ fun acts => by rw [doInvoke_state]; exact h⟩
