set_option maxRecDepth 100000
/-! two methods of classes of which no word says that they are initialised: walked where they are called -/
section RBI
variable {p : Program} {l : Launch} {e : Env} {R : Room} {s : State} {m : MethodId} {args : Array Value} {below : List Frame} {meth : Method} {c : Code} {U : State} {locs : List Loc} {cells slots : Nat}
/-- into a callee's frame and back -/
theorem rb_inl (X : Stand p l e R s m args below meth c U locs cells slots) {gf : JFrame} (hgm : gf.method = m) (hsize : gf.locals.size = c.maxLocals) {ig : Instr} {len : Nat} (hdg : decode c.code gf.pc = .ok (ig, len)) (hW : 2 * gf.monitorRoom + (gf.stack.map fun v => v.category).sum ≤ 8)
    {y : MethodName} {mk : MethodId} {methY : Method} {cY : Code} (hy : plainFor y = true) (hn : U.methodNamed? y = some mk) (hm : U.vm.method? mk = some methY) (hc : methY.code = some cY) (hl : methY.locks = false) (hmax : cY.maxLocals ≤ 20) (hf : 1 ≤ R.frames) (hlo : 40 ≤ R.locals) (a : Array Value) {v : Option Value} {target : State}
    (walk : ∀ V : State, V.vm = U.vm → At V mk cY below → (∀ (f : JFrame) (acts : List Action), f.method = mk → f.locked = none → f.entered = [] → Steps p.tables e below (doReturn e (V.setTop f) acts v).1 target) → Steps p.tables e below (V.setTop (entryFrame mk a cY.maxLocals)) target)
    (hrest : Steps p.tables e below (U.setTop { gf with pc := gf.pc + len, stack := v.toList ++ gf.stack }) target) : Steps p.tables e below (doInvoke e (U.setTop gf) [] mk a).1 target := by
  have h : At U gf.method c below := by rw [hgm]; exact X.here
  rw [doInvoke_enter h.top [] hm hc hl (X.notFull hsize hf (by omega))]
  have hfr := frames_entered (g := gf) h.top (.java (entryFrame mk a cY.maxLocals))
  have hV := At.enter (g := gf) h a hm hc (State.plainMethod.of_named hy hn hm)
  refine walk _ rfl hV ?_
  intro f acts h1 h2 h3
  rw [doReturn_leave (g := gf) (meth := methY) (cg := c) (ig := ig) (len := len) acts hfr (by rw [h1]; exact hm) hl h2 h3 (by have := h.code; rw [State.code?_eq] at this ⊢; exact this) hdg, setFrames_entered h.top, State.setTop_setTop]
  exact hrest
end RBI
theorem rb_fits_walk {p : Program} {e : Env} {below : List Frame} {V target : State} {mk : MethodId} {cY : Code} {methY : Method} (hexec : p.tables.exec = Jvm.exec) (hb : cY.code = cX30_fits) (hm : V.vm.method? mk = some methY) (hr : methY.sig.returnType = some .boolean) (a : Array Value) (hA : At V mk cY below)
    (k : ∀ (f : JFrame) (acts : List Action), f.method = mk → f.locked = none → f.entered = [] → Steps p.tables e below (doReturn e (V.setTop f) acts (some (.int 1))).1 target) : Steps p.tables e below (V.setTop (entryFrame mk a cY.maxLocals)) target := by
  unfold entryFrame
  jvm_step hA [hA.top, hexec, hb, dX30_fits_0]
  jvm_step hA [hA.top, hexec, hb, dX30_fits_1, hm, hr, narrow]
  intro acts
  exact k _ acts rfl rfl rfl
theorem rb_eq_walk {p : Program} {e : Env} {below : List Frame} {V target : State} {mk : MethodId} {cY : Code} {methY : Method} (hexec : p.tables.exec = Jvm.exec) (hb : cY.code = cJ10_equals) (hmax : cY.maxLocals = 2) (hm : V.vm.method? mk = some methY) (hr : methY.sig.returnType = some .boolean) (x y : Nat) (hA : At V mk cY below)
    (k : ∀ (f : JFrame) (acts : List Action), f.method = mk → f.locked = none → f.entered = [] → Steps p.tables e below (doReturn e (V.setTop f) acts (some (.int (if x = y then 1 else 0)))).1 target) : Steps p.tables e below (V.setTop (entryFrame mk #[.ref x, .ref y] cY.maxLocals)) target := by
  have he : entryFrame mk #[.ref x, .ref y] cY.maxLocals = { method := mk, pc := 0, locals := #[.val (.ref x), .val (.ref y)], stack := [], locked := none } := by rw [hmax]; rfl
  rw [he]
  jvm_step hA [hA.top, hexec, hb, dJ10_equals_0, Value.isRef]
  jvm_step hA [hA.top, hexec, hb, dJ10_equals_1, Value.isRef]
  by_cases hxy : x = y
  · subst hxy
    rw [if_pos rfl] at k
    jvm_step hA [hA.top, hexec, hb, dJ10_equals_2, Value.asRef?, Op.if_acmp.holds]
    jvm_step hA [hA.top, hexec, hb, dJ10_equals_5]
    jvm_step hA [hA.top, hexec, hb, dJ10_equals_6]
    show Steps p.tables e below (V.setTop { method := mk, pc := 10, locals := #[.val (.ref x), .val (.ref x)], stack := [.int 1], locked := none }) _
    jvm_step hA [hA.top, hexec, hb, dJ10_equals_10, hm, hr, narrow]
    intro acts
    exact k _ acts rfl rfl rfl
  · rw [if_neg hxy] at k
    jvm_step hA [hA.top, hexec, hb, dJ10_equals_2, Value.asRef?, Op.if_acmp.holds, hxy]
    show Steps p.tables e below (V.setTop { method := mk, pc := 9, locals := #[.val (.ref x), .val (.ref y)], stack := [], locked := none }) _
    jvm_step hA [hA.top, hexec, hb, dJ10_equals_9]
    jvm_step hA [hA.top, hexec, hb, dJ10_equals_10, hm, hr, narrow]
    intro acts
    exact k _ acts rfl rfl rfl
section RBJ
variable {κ : rb_K} {μ : rb_M} {n : Nat × Nat} {M : rb_H} {pc : Nat} {ls : List (Option Value)} {st : List Value}
/-- equals of an object of a class that has no equals of its own -/
theorem rb_equals {index ci b y : Nat} {q : vw_C} (hb' : rb_ob M b ci) (hq : rb_cl[ci]? = some q) (w1 : Cond.methodLink μ.1 index ⟨"java/lang/Object", "equals", "(Ljava/lang/Object;)Z"⟩ ∈ lw_all) (w2 : Cond.sameMethod "java/lang/Object" "java/lang/Object" "equals" "(Ljava/lang/Object;)Z" ∈ lw_all) (w3 : Cond.instanceMethod ⟨"java/lang/Object", "equals", "(Ljava/lang/Object;)Z"⟩ ∈ lw_all) (w4 : Cond.selects q.1 ⟨"java/lang/Object", "equals", "(Ljava/lang/Object;)Z"⟩ ⟨"java/lang/Object", "equals", "(Ljava/lang/Object;)Z"⟩ ∈ lw_all) (w5 : Cond.code ⟨"java/lang/Object", "equals", "(Ljava/lang/Object;)Z"⟩ cJ10_equals 2 (some .boolean) ∈ lw_all)
    (hW : (st.map fun v => v.category).sum ≤ 8) (hf : 1 ≤ κ.2.1.frames) (hlo : 40 ≤ κ.2.1.locals) (d : decode μ.2.1 pc = .ok (.invokevirtual index, 3)) (k : rb_Bd κ μ n M (pc + 3) ls (.int (if b = y then 1 else 0) :: st)) : rb_Bd κ μ n M pc ls (.ref y :: .ref b :: st) := by
  intro hg p e s m args below meth c hC H locs lsA hH hL hl
  intro T hT X
  have hWs := hC.2.2.2.2.2.2.2.2
  have hK := rb_KK hg hWs
  obtain ⟨fs, hob⟩ := hb'
  obtain ⟨r, hr, cellB, q1, q2, q3, -⟩ := (hH.2.2.2 b _ hob).2
  cases hq.symm.trans hr
  obtain ⟨hfc, kC, hkC, hkind⟩ := (hK.1 ci q hq).2
  have hcls : s.vm.findClass q.1 = some cellB.cls := by rw [q2]; exact hfc
  have hcd := rb_word (args := args) hg hWs w5
  obtain ⟨r0, r, hn, hrm, hstR, hsigR⟩ := va_Decl.of (rb_word (args := args) hg hWs w3) hcd
  obtain ⟨methY, cY, hmY, hcY, hbY, hlY, hrY, hloY, -, -⟩ := Cond.code_spec hn hcd
  cases hrm.symm.trans hmY
  have hsame := rb_word (args := args) hg hWs w2
  obtain ⟨cn, ck, r1, hcn, hck, hni, hff, hn1⟩ := Cond.sameMethod_found hsame
  cases hn.symm.trans hn1
  obtain ⟨mk, methM, hnamed, hmethM, -, habM⟩ := Cond.instanceMethod_spec (rb_word (args := args) hg hWs w3)
  cases hn.symm.trans hnamed
  obtain ⟨c2, r2, m2, p1, p2, p3, p4, kP, hkP, hkPi⟩ := Cond.selects_spec (rb_word (args := args) hg hWs w4)
  cases hcls.symm.trans p1
  cases hff.symm.trans p2
  cases hn.symm.trans p3
  have hselP : selectMethod e.platform s.vm cellB.cls r0 = .method r0 := by rw [Launch.admits_selectMethod X.admits]; exact p4
  have hTb : T.heap[b]? = some cellB := by rw [hT]; exact q1
  have hlink : (Cond.methodLink μ.1 index ⟨"java/lang/Object", "equals", "(Ljava/lang/Object;)Z"⟩).before args s = true := rb_word hg hWs w1
  obtain ⟨vm₁, X₁, hstep₁⟩ := X.invokevirtualUp hC.1 hC.2.2.2.2.1 hlink hsame ⟨by decide, by decide⟩ hn hrm hstR (a := b) (cell := cellB) hTb
    (fun z h => by rw [q3] at h; cases h) hselP hmethM habM hkP hkPi (g := F0 m pc lsA (.ref y :: .ref b :: st)) rfl (argsL := [.ref y]) (rest := st) (by rw [← rb_np_sig (y := ⟨"java/lang/Object", "equals", "(Ljava/lang/Object;)Z"⟩) (k := 1) (by decide) hsigR]; rfl) rfl (by rw [hC.2.1]; exact d)
  obtain ⟨t, a1, b1⟩ := k hg p e s m args below meth c hC H locs lsA hH hL hl (T.setVm vm₁) hT X₁
  have hm1 : (T.setVm vm₁).vm.method? r0 = some r := by
    have := X₁.warmed.alike.method? r0
    rw [this]; exact hrm
  refine ⟨t, hstep₁ _ fun acts => ?_, b1⟩
  rw [doInvoke_state]
  refine rb_inl X₁ (gf := F0 m pc lsA st) rfl (hl.1.trans hC.2.2.1.symm) (by rw [hC.2.1]; exact d) (by have : (F0 m pc lsA st).monitorRoom = 0 := rfl; rw [this]; simpa using hW) (y := ⟨"java/lang/Object", "equals", "(Ljava/lang/Object;)Z"⟩) (by decide +kernel) (X₁.named hn) hm1 hcY hloY (by omega) hf hlo _ (v := some (.int (if b = y then 1 else 0))) ?_ a1
  intro V hV hA hret
  exact rb_eq_walk hC.1 hbY hlY (by rw [hV]; exact hm1) hrY b y hA hret
end RBJ
