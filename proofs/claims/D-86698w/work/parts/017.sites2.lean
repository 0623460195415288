set_option maxRecDepth 100000
/-- a word of the start's own list, at a later point -/
theorem rb_wordN {g : rb_G} {s : State} (hg : rb_GW g) (hW : g.2.1.WarmedH s.vm) {w : Cond} (h : w ∈ flatC (Jvm.Cond.and given_1 narrow_1)) (hk : (w.onTables && w.keeps) = true) {args : Array Value} : w.before args s = true :=
  word_at hW (Or.inl hk) (rb_flat hg h)
/-- a method stands under that name, abstract or not -/
def rb_dec (y : MethodName) : Prop := Cond.declares y ∈ lw_tbl ∨ (Cond.instanceMethod y ∈ lw_all ∧ ∃ b k r, Cond.code y b k r ∈ lw_all)
theorem rb_dec_at {g : rb_G} {s : State} (hg : rb_GW g) (hW : g.2.1.WarmedH s.vm) {y : MethodName} (h : rb_dec y) : va_Decl s y := by
  rcases h with h | ⟨h, b, k, r, h'⟩
  · exact va_Decl.abs (va_Nw.warmD hW (va_Nw.of rfl (hg.1 _ h)))
  · exact va_Decl.of (args := #[]) (rb_word hg hW h) (rb_word hg hW h')
/-- inherited, overriding or abstract: the reference names x, found in owner; the receiver's class selects y -/
theorem rb_goU {own owner : String} {index ci k : Nat} {x y : MethodName} {cw : Cond} {q : vw_C} (hcw : rb_cw y cw) (hq : rb_cl[ci]? = some q)
    (h1 : ∀ (g : rb_G) (s : State) (args : Array Value), rb_GW g → g.2.1.WarmedH s.vm → (Cond.methodLink own index x).before args s = true ∧ (Cond.sameMethod x.cls owner x.name x.desc).before args s = true)
    (h2 : Cond.instanceMethod y ∈ lw_all) (h3 : Cond.selects q.1 x y ∈ lw_all ∨ Cond.selects q.1 ⟨owner, x.name, x.desc⟩ y ∈ lw_all) (hd : rb_dec ⟨owner, x.name, x.desc⟩) (hy : rb_nm owner) (hnp : rb_np x = some k) : rb_Go own (.invokevirtual index) 3 y cw (some ci) (k + 1) := by
  refine ⟨hcw, ?_⟩
  intro g hg p e R s m args below meth c T locs cells slots hexec hWs hown X gf as rest hgm hnp' hstack hrc hdg
  obtain ⟨b, As, q', cellB, rfl, hq', hcell, hobj, hcls, hat⟩ := hrc ci rfl
  cases hq.symm.trans hq'
  obtain ⟨hlink, hsame⟩ := h1 g s args hg hWs
  obtain ⟨r0, r, hn, hrm, hstR, hsigR⟩ := rb_dec_at hg hWs hd
  obtain ⟨cn, ck, r1, hcn, hck, hni, hf, hn1⟩ := Cond.sameMethod_found hsame
  cases hn.symm.trans hn1
  obtain ⟨mk, methM, hnamed, hmethM, -, habM⟩ := Cond.instanceMethod_spec (rb_word (args := args) hg hWs h2)
  have hsel : ∃ kP, selectMethod {} s.vm cellB.cls r0 = .method mk ∧ s.vm.classes[mk.cls]? = some kP ∧ kP.isInterface = false := by
    rcases h3 with h3 | h3
    · obtain ⟨c2, r2, m2, q1, q2, q3, q4, kP, hkP, hkPi⟩ := Cond.selects_spec (rb_word (args := args) hg hWs h3)
      cases hcls.symm.trans q1
      cases hf.symm.trans q2
      cases hnamed.symm.trans q3
      exact ⟨kP, q4, hkP, hkPi⟩
    · obtain ⟨c2, r2, m2, q1, q2, q3, q4, kP, hkP, hkPi⟩ := Cond.selects_spec (rb_word (args := args) hg hWs h3)
      cases hcls.symm.trans q1
      cases (State.methodFound?_of_named hn hy).symm.trans q2
      cases hnamed.symm.trans q3
      exact ⟨kP, q4, hkP, hkPi⟩
  obtain ⟨kP, q4, hkP, hkPi⟩ := hsel
  have hselP : selectMethod e.platform s.vm cellB.cls r0 = .method mk := by rw [Launch.admits_selectMethod X.admits]; exact q4
  obtain ⟨vm₁, X₁, hstep₁⟩ := X.invokevirtualUp hexec hown hlink hsame hy hn hrm hstR (a := b) (cell := cellB) hcell
    (fun z h => by rw [h] at hobj; cases hobj) hselP hmethM habM hkP hkPi (g := gf) hgm (argsL := As) (rest := rest) (by have h9 : rb_np ⟨owner, x.name, x.desc⟩ = some k := hnp; have := rb_np_sig h9 hsigR; simp only [List.length_cons] at hnp'; omega) (by rw [hstack]; simp) hdg
  exact ⟨vm₁, mk, X₁, X₁.named hnamed, fun target h => hstep₁ _ fun acts => by rw [doInvoke_state]; exact h⟩
theorem rb_goU' {own owner : String} {index ci k : Nat} {x y : MethodName} {cw : Cond} {q : vw_C} (hcw : rb_cw y cw) (hq : rb_cl[ci]? = some q) (h1 : Cond.methodLink own index x ∈ lw_all) (h1' : Cond.sameMethod x.cls owner x.name x.desc ∈ lw_all)
    (h2 : Cond.instanceMethod y ∈ lw_all) (h3 : Cond.selects q.1 x y ∈ lw_all ∨ Cond.selects q.1 ⟨owner, x.name, x.desc⟩ y ∈ lw_all) (hd : rb_dec ⟨owner, x.name, x.desc⟩) (hy : rb_nm owner) (hnp : rb_np x = some k) : rb_Go own (.invokevirtual index) 3 y cw (some ci) (k + 1) :=
  rb_goU hcw hq (fun g s args hg hW => ⟨rb_word hg hW h1, rb_word hg hW h1'⟩) h2 h3 hd hy hnp
/-- a superclass's method -/
theorem rb_goSU {own : String} {index ci k : Nat} {y : MethodName} {cw : Cond} (hcw : rb_cw y cw) (hno : y.name ≠ "<init>") (h1 : Cond.methodLink own index y ∈ lw_all) (h1' : Cond.sameMethod y.cls y.cls y.name y.desc ∈ lw_all) (h2 : Cond.instanceMethod y ∈ lw_all) (h3 : Cond.superclass own y.cls ∈ lw_all) (hnp : rb_np y = some k) : rb_Go own (.invokespecial index) 3 y cw (some ci) (k + 1) := by
  refine ⟨hcw, ?_⟩
  intro g hg p e R s m args below meth c T locs cells slots hexec hWs hown X gf as rest hgm hnp' hstack hrc hdg
  obtain ⟨b, As, q', cellB, rfl, hq', hcell, hobj, hcls, hat⟩ := hrc ci rfl
  obtain ⟨mk, methM, hnamed, hmethM, hstM, habM⟩ := Cond.instanceMethod_spec (rb_word (args := args) hg hWs h2)
  obtain ⟨mk', methM', hnamed', hmethM', hsigM⟩ := rb_cw_sig (s := s) hg hWs hcw
  cases hnamed.symm.trans hnamed'
  cases hmethM.symm.trans hmethM'
  obtain ⟨ps, dk, kp, hps, hdk, hkp, hsuper, -, -, hnid⟩ := Cond.superclass_spec hown (rb_word (args := args) hg hWs h3)
  have hn : s.methodNamed? ⟨y.cls, y.name, y.desc⟩ = some mk := hnamed
  have hpm : ps = mk.cls := Option.some.inj (hps.symm.trans (findClass_of_methodNamed hnamed))
  have hsub : s.vm.isSubclass ps mk.cls = true := by rw [hpm]; simp [Vm.isSubclass, Vm.isSubclassAux]
  obtain ⟨-, kB, hkB, -⟩ := hat
  obtain ⟨vm₁, X₁, hstep₁⟩ := X.invokespecialUp hexec hown (rb_word hg hWs h1) (rb_word hg hWs h1') hn hmethM hstM habM hno hdk hnid hps hsuper hsub (a := b) (cell := cellB) hcell
    (fun z h => by rw [h] at hobj; cases hobj) hkB (g := gf) hgm (argsL := As) (rest := rest) (by have := rb_np_sig hnp hsigM; simp only [List.length_cons] at hnp'; omega) (by rw [hstack]; simp) hdg
  exact ⟨vm₁, mk, X₁, X₁.named hnamed, fun target h => hstep₁ _ (by rw [doInvoke_state]; exact h)⟩
/-- through an interface -/
theorem rb_goF {own : String} {index count ci k : Nat} {x y : MethodName} {cw : Cond} {q : vw_C} (hcw : rb_cw y cw) (hq : rb_cl[ci]? = some q) (h1 : Cond.methodLink own index x ∈ lw_all) (h2 : Cond.instanceMethod y ∈ lw_all)
    (h3 : Cond.selects q.1 x y ∈ lw_all ∨ Cond.landsInDefault q.1 x y ∈ flatC (Jvm.Cond.and given_1 narrow_1))
    (w1 : Cond.declares x ∈ lw_tbl) (w2 : Cond.interfaceMethod x.cls x.cls x.name x.desc ∈ lw_tbl) (w3 : Cond.publicMethod y ∈ lw_tbl) (w4 : Cond.unhidden q.1 x.name x.desc ∈ lw_tbl) (w5 : Cond.castable q.1 x.cls ∈ lw_tbl) (hx : rb_nm x.cls) (hnp : rb_np x = some k) : rb_Go own (.invokeinterface index count) 5 y cw (some ci) (k + 1) := by
  refine ⟨hcw, ?_⟩
  intro g hg p e R s m args below meth c T locs cells slots hexec hWs hown X gf as rest hgm hnp' hstack hrc hdg
  obtain ⟨b, As, q', cellB, rfl, hq', hcell, hobj, hcls, hat⟩ := hrc ci rfl
  cases hq.symm.trans hq'
  obtain ⟨-, kB, hkB, -⟩ := hat
  have hF : va_Fw q.1 x y s := va_Fw.moved hx hWs.alike (va_Fw.of (hg.1 _ w1) (hg.1 _ w2) (hg.1 _ w3) (hg.1 _ w4) (hg.1 _ w5))
  obtain ⟨hdecl, hface, hpub, hunh, hcast⟩ := hF
  obtain ⟨r0, r, hn, hrm, hstR, hsigR⟩ := Cond.declares_spec hdecl
  obtain ⟨cL, kL, r1, hcL, hkL, hiL, hfoundL, hn1⟩ := Cond.interfaceMethod_spec hface
  cases hn.symm.trans hn1
  have hr0cls : r0.cls = cL := Option.some.inj ((findClass_of_methodNamed hn).symm.trans hcL)
  obtain ⟨hnameR, hdescR⟩ := name_of_methodNamed hn hrm
  obtain ⟨mk, methM, hnamed, hmethM, -, habM⟩ := Cond.instanceMethod_spec (rb_word (args := args) hg hWs h2)
  have hsel : selectMethod {} s.vm cellB.cls r0 = .method mk := by
    rcases h3 with h3 | h3
    · obtain ⟨c2, r2, m2, q1, q2, q3, q4, -⟩ := Cond.selects_spec (rb_word (args := args) hg hWs h3)
      cases hcls.symm.trans q1
      cases hfoundL.symm.trans q2
      cases hnamed.symm.trans q3
      exact q4
    · have hl := rb_flat hg h3
      have f1 : g.2.1.vm.findClass q.1 = some cellB.cls := by rw [← hWs.alike.findClass]; exact hcls
      have f2 : g.2.1.methodFound? x.cls x.name x.desc = some r0 := by rw [← State.methodFound?_setVm hWs.alike]; exact hfoundL
      have f3 : g.2.1.methodNamed? y = some mk := by rw [← State.methodNamed?_setVm hWs.alike]; exact hnamed
      have f4 : g.2.1.vm.method? r0 = some r := by rw [← hWs.alike.method?]; exact hrm
      simp only [Cond.before, Cond.holds, Cond.value, f1, f2, f3, f4, Option.map_some] at hl
      rw [hWs.alike.selectMethod]
      cases hsm : selectMethod {} g.2.1.vm cellB.cls r0 with
      | method m' =>
        rw [hsm] at hl
        simp at hl
        rw [hl.1.1.1.1]
      | _ => rw [hsm] at hl; simp at hl
  have hselP : selectMethod e.platform s.vm cellB.cls r0 = .method mk := by rw [Launch.admits_selectMethod X.admits]; exact hsel
  have hpubM : hasFlag methM.accessFlags Acc.public_ = true := Cond.publicMethod_spec hnamed hmethM hpub
  have hway : ((cellB.cls :: s.vm.superclasses cellB.cls).any fun k => (declaredIn s.vm r.name r.desc k).any fun (_, z) => z.isPrivate || z.isStatic) = false := by
    rw [hnameR, hdescR]; exact Cond.unhidden_spec hcls hunh
  obtain ⟨c3, t3, w1, w2, w3⟩ := Cond.castable_spec hcast
  cases hcls.symm.trans w1
  cases hcL.symm.trans w2
  obtain ⟨vm₁, X₁, hstep₁⟩ := X.invokeinterface hexec hown (rb_word hg hWs h1) hn hrm hstR (by rw [hr0cls]; exact hkL) hiL hx (a := b) (cell := cellB) (kcell := kB) hcell
    (fun z h => by rw [h] at hobj; cases hobj) hkB (by rw [hr0cls]; exact w3) hselP hmethM hway hpubM habM (g := gf) hgm (argsL := As) (rest := rest) (by have := rb_np_sig hnp hsigR; simp only [List.length_cons] at hnp'; omega) (by rw [hstack]; simp) hdg
  exact ⟨vm₁, mk, X₁, X₁.named hnamed, fun target h => hstep₁ _ fun acts => by rw [doInvoke_state]; exact h⟩
