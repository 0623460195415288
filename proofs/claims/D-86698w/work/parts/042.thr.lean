set_option maxRecDepth 100000
/-! new Thrown, new Stop: the constructors up to Throwable's, with its synchronized fillInStackTrace (no traces are taken) -/
theorem rb_vmMoved {vm : Vm} {S s : State} (hv : S.vm = vm) (hs : s.vm = vm) {T : ThrowableC} {pl : Platform} (L : T.Links pl S) : T.Links pl s := by
  have e : S.vm = s.vm := hv.trans hs.symm
  obtain ⟨⟩ := L
  constructor
  all_goals first | assumption | (rw [← e]; assumption) | skip
  all_goals (simp only [State.rightAt, State.methodFound?, State.fieldFound?, ← e] at *; assumption)
theorem rb_vmMovedP {S s : State} (e : S.vm = s.vm) {P : PassC} {pl : Platform} (L : P.Links0 pl S) : P.Links0 pl s := by
  obtain ⟨⟩ := L
  constructor
  all_goals first | assumption | (rw [← e]; assumption) | skip
  all_goals (simp only [State.rightAt, State.methodFound?, State.fieldFound?, ← e] at *; assumption)
theorem rb_vmFF {S s : State} (e : S.vm = s.vm) (C n d : String) : S.fieldFound? C n d = s.fieldFound? C n d := by
  simp only [State.fieldFound?, e]
theorem rb_vmMN {S s : State} (e : S.vm = s.vm) (y : MethodName) : S.methodNamed? y = s.methodNamed? y := by
  simp only [State.methodNamed?, e]
/-- the words of a class of this program that extends Exception -/
def rb_thW (cls : String) : List Cond :=
  Bundle.throwableAtoms ++ Bundle.chain0Atoms cls ["java/lang/Exception"] ++
  [.selects cls Bundle.tFill0 Bundle.tFill0, .selects cls Bundle.tFill Bundle.tFill,
   .lays cls Bundle.tN "cause" "Ljava/lang/Throwable;", .lays cls Bundle.tN "stackTrace" Bundle.steD, .lays cls Bundle.tN "suppressedExceptions" Bundle.listD,
   .fieldLink Bundle.tN 198 Bundle.tN "backtrace" "Ljava/lang/Object;", .lays Bundle.tN Bundle.tN "backtrace" "Ljava/lang/Object;", .lays cls Bundle.tN "backtrace" "Ljava/lang/Object;"]
theorem rb_thW_face (cls : String) : ∀ a ∈ rb_thW cls, a.keepsFace = true := by
  intro a ha
  exact List.all_eq_true.mp (show (rb_thW cls).all Cond.keepsFace = true from rfl) a ha
theorem rb_thW1 : ∀ w ∈ rb_thW RX1, w ∈ lw_tbl := by decide +kernel
theorem rb_thW2 : ∀ w ∈ rb_thW RX2, w ∈ lw_tbl := by decide +kernel
theorem rb_noTr {l : Launch} {e : Env} (ha : l.admits e) (hf : l.flags = flags0) : e.platform.stackTraces = false := by
  rw [ha.platform]
  show Launch.stackTraces l = false
  unfold Launch.stackTraces
  rw [hf]
  decide
theorem rb_thS1 : Cond.isRef (.static Bundle.tN "UNASSIGNED_STACK" Bundle.steD) ∈ flatC (Jvm.Cond.and given_1 narrow_1) := by decide +kernel
theorem rb_thS2 : Cond.isRef (.static Bundle.tN "SUPPRESSED_SENTINEL" Bundle.listD) ∈ flatC (Jvm.Cond.and given_1 narrow_1) := by decide +kernel
section THR
variable {κ : rb_K} {μ : rb_M} {n : Nat × Nat} {M : rb_H} {pc : Nat} {ls : List (Option Value)} {st : List Value}
set_option maxHeartbeats 4000000 in
theorem rb_newThr {ci index ic : Nat} {q : vw_C} {host : String} (hq : rb_cl[ci]? = some q) (hw : rb_NW μ.1 index ci) (hfit : Bundle.fit q.1 = true) (hws : ∀ w ∈ rb_thW q.1, w ∈ lw_tbl) (hlink : Cond.methodLinkNest μ.1 ic (Bundle.init0 q.1) host ∈ lw_tbl) {bytes : ByteArray} (hin : Cond.instanceMethod (Bundle.init0 q.1) ∈ lw_all) (hcd : Cond.code (Bundle.init0 q.1) bytes 1 none ∈ lw_all)
    (hT0 : q.2.1 0 = ("java/lang/Throwable", "cause", "Ljava/lang/Throwable;", false)) (hT1 : q.2.1 1 = ("java/lang/Throwable", "stackTrace", "[Ljava/lang/StackTraceElement;", false)) (hT2 : q.2.1 2 = ("java/lang/Throwable", "suppressedExceptions", "Ljava/util/List;", false)) (h6 : 6 ≤ q.2.2)
    (h1 : n.1 + 1 ≤ κ.2.1.cells) (h2 : n.2 + q.2.2 ≤ κ.2.1.slots) (hfr : 5 ≤ κ.2.1.frames) (hlo : (st.map fun v => v.category).sum + 70 ≤ κ.2.1.locals)
    (d1 : decode μ.2.1 pc = .ok (.new index, 3)) (d2 : decode μ.2.1 (pc + 3) = .ok (.dup, 1)) (d3 : decode μ.2.1 (pc + 4) = .ok (.invokespecial ic, 3))
    (k : ∀ fs : List Value, fs.length = q.2.2 → (∀ i, 6 ≤ i → i < q.2.2 → fs[i]? = some (defaultValue (rb_ty ci i))) → rb_Bd κ μ (n.1 + 1, n.2 + q.2.2) (rb_nw M (rb_O ci fs)) (pc + 7) ls (.ref M.1 :: st)) : rb_Bd κ μ n M pc ls st := by
  intro hg p e s m args below meth c hC H locs lsA hH hL hl
  obtain ⟨q', hq', w1, w2, w3⟩ := hw
  cases Option.some.inj (hq.symm.trans hq')
  have hW := hC.2.2.2.2.2.2.2.2
  have hK := rb_KK hg hW
  have hKn := hK.1 ci q hq
  have hts : ∀ w ∈ lw_all, w.before args s = true := fun w hw => rb_word hg hW hw
  refine W.newcK hC.1 hC.2.1 hC.2.2.2.2.1 (hts _ w1) (hts _ w2) (hts _ w3) rfl d1 h1 h2 hKn.2.1 (h := M.1) hH.1 fun H1 kX hkX e1 z1 o1 => ?_
  refine lv_dup hC.1 hC.2.1 d2 rfl ?_
  intro T' hT' X
  have howns : e.platform.frameOwnsMonitors = true := by rw [X.admits.platform]
  have hfin : e.platform.finalization = false := by rw [X.admits.platform]
  have hpl : e.platform.magicAccessors = ({} : Platform).magicAccessors := by rw [X.admits.platform]
  have htr := rb_noTr X.admits hg.2.2.2.2
  have ev : (κ.1.2.1.setVm s.vm).vm = s.vm := rfl
  have h : ∀ w ∈ rb_thW q.1, w.before #[Value.ref κ.1.2.2.1] (κ.1.2.1.setVm s.vm) = true := fun w hw => Cond.rides hW.wide (rb_thW_face _ w hw) (hg.1 w (hws w hw))
  obtain ⟨T, Z, L0, LZ, Y⟩ := ThrowableC.of_atoms (args := #[Value.ref κ.1.2.2.1]) howns hfin hpl (fun x hx => h x (by simp [rb_thW, hx]))
  have L := rb_vmMoved ev rfl L0
  obtain ⟨P1, Ps, hlen, L1, hLs, hP1m, hlink1, hlink2⟩ := Bundle.chain0 (args := #[Value.ref κ.1.2.2.1]) hpl Y.init0 ["java/lang/Exception"] q.1 hfit (by decide) (fun x hx => h x (by simp only [rb_thW, List.mem_append]; exact Or.inl (Or.inr hx)))
  have hfound : s.vm.findClass q.1 = some P1.m.cls := findClass_of_methodNamed hP1m
  have hcX : κ.1.2.2.2.1.1 ci = P1.m.cls := Option.some.inj (hKn.2.1.symm.trans hfound)
  rw [hcX] at e1 hkX
  obtain ⟨c1, kX', hc1, hk, hord, -, -, hn6⟩ := Cond.instantiable_spec (hts _ w2)
  cases Option.some.inj (hc1.symm.trans hfound)
  cases Option.some.inj (hkX.symm.trans hk)
  have hsel0 : selectMethod e.platform s.vm P1.m.cls T.fill0 = .method T.fill0 := by
    obtain ⟨c2, r2, m2, q1, q2, q3, q4, -⟩ := Cond.selects_spec (h (.selects q.1 Bundle.tFill0 Bundle.tFill0) (by simp [rb_thW]))
    cases Option.some.inj (q1.symm.trans hfound)
    cases Option.some.inj (q2.symm.trans (State.methodFound?_of_named Y.fill0 (by decide)))
    cases Option.some.inj (q3.symm.trans Y.fill0)
    rw [Launch.admits_selectMethod X.admits]; exact q4
  have hselF : selectMethod e.platform s.vm P1.m.cls T.fill = .method T.fill := by
    obtain ⟨c2, r2, m2, q1, q2, q3, q4, -⟩ := Cond.selects_spec (h (.selects q.1 Bundle.tFill Bundle.tFill) (by simp [rb_thW]))
    cases Option.some.inj (q1.symm.trans hfound)
    cases Option.some.inj (q2.symm.trans (State.methodFound?_of_named Y.fill (by decide)))
    cases Option.some.inj (q3.symm.trans Y.fill)
    rw [Launch.admits_selectMethod X.admits]; exact q4
  obtain ⟨cellS, hcS, hiss⟩ := Y.statics
  obtain ⟨u0, hu0⟩ := Cond.staticRefV Y.unassigned L.unassignedStatic L.statics hcS hiss (Cond.rides (args := #[Value.ref κ.1.2.2.1]) hW.wide (c := .isRef (.static Bundle.tN "UNASSIGNED_STACK" Bundle.steD)) rfl (rb_flat hg rb_thS1))
  obtain ⟨sen, hsen⟩ := Cond.staticRefV Y.sentinel L.sentinelStatic L.statics hcS hiss (Cond.rides (args := #[Value.ref κ.1.2.2.1]) hW.wide (c := .isRef (.static Bundle.tN "SUPPRESSED_SENTINEL" Bundle.listD)) rfl (rb_flat hg rb_thS2))
  obtain ⟨ci198, i198, fB, hk198, hg198, ha198, hsB, -, hnB, htB, hffB⟩ := Cond.ownField (s := s) (t := .object "java/lang/Object") Y.found L.cls (by decide +kernel) (hts _ q144) (hts _ q143) e.platform hpl
  have hbS : T.aS < κ.1.2.1.heap.size := (Array.getElem?_eq_some_iff.mp hcS).1
  have hMle : κ.1.2.1.heap.size ≤ M.1 := hH.2.1
  have hcellS : T'.heap[T.aS]? = some cellS := by
    rw [hT', o1 _ (Nat.lt_of_lt_of_le hbS hMle), hH.2.2.1 _ hbS]; exact hcS
  have hknownS : cellS.vm ≠ .unknown := by
    intro hu; rw [hu] at hiss; cases hiss
  have hneS : T.aS ≠ M.1 := Nat.ne_of_lt (Nat.lt_of_lt_of_le hbS hMle)
  obtain ⟨tyC, dC, hdC, hdnC⟩ := Cond.laysAt (s := κ.1.2.1.setVm s.vm) hfound hk Y.cause (h (.lays q.1 Bundle.tN "cause" "Ljava/lang/Throwable;") (by simp [rb_thW]))
  obtain ⟨tyS, dS, hdS, hdnS⟩ := Cond.laysAt (s := κ.1.2.1.setVm s.vm) hfound hk Y.stack (h (.lays q.1 Bundle.tN "stackTrace" Bundle.steD) (by simp [rb_thW]))
  obtain ⟨tyP, dP, hdP, hdnP⟩ := Cond.laysAt (s := κ.1.2.1.setVm s.vm) hfound hk Y.supp (h (.lays q.1 Bundle.tN "suppressedExceptions" Bundle.listD) (by simp [rb_thW]))
  obtain ⟨tyB, dB, hdB, hdnB⟩ := Cond.laysAt (s := κ.1.2.1.setVm s.vm) hfound hk ((rb_vmFF ev _ _ _).trans hffB) (h (.lays q.1 Bundle.tN "backtrace" "Ljava/lang/Object;") (by simp [rb_thW]))
  have bC := Cond.laysApart hdB hdC hdnB hdnC (by rw [hnB, Y.causeName]; decide)
  have bS := Cond.laysApart hdB hdS hdnB hdnS (by rw [hnB, Y.stackName]; decide)
  have bP := Cond.laysApart hdB hdP hdnB hdnP (by rw [hnB, Y.suppName]; decide)
  have hcell : T'.heap[M.1]? = some (freshCell P1.m.cls kX) := by rw [hT']; exact e1
  have hskip : SkipFacts T e.platform s (fun u => u) u0 ((preparedCellV T.toThrowableT (freshCell P1.m.cls kX) M.1 u0 sen).withEntry T'.cur) :=
    ⟨{ ci198 := ci198, i198 := i198, fBack := fB }, ⟨hk198, hg198, ha198, hsB⟩, by
      have := fresh_default (c := P1.m.cls) tyB
      rw [htB] at this
      simpa [preparedCellV, Cell.setSlot, Cell.withEntry, Array.getElem?_setIfInBounds, bC, bS, bP, bC.symm, bS.symm, bP.symm, defaultValue] using this, fun _ _ => rfl⟩
  have hl0 : (Cond.methodLinkNest μ.1 ic (Bundle.init0 q.1) host).before args s = true := va_Nw.use rfl (va_Nw.warmM hW (va_Nw.of rfl (hg.1 _ hlink)))
  have hsz : (F0 m (pc + 3 + 1) lsA (.ref M.1 :: st)).locals.size = c.maxLocals := by rw [hC.2.2.1]; exact hl.1
  obtain ⟨tm, methC, cdC, kC, vm₁, hnC, -, -, -, -, -, -, -, hW₁, st1⟩ := Steps.initColdArgsNest (e := e) X.here hC.1 X.warmed hpl hC.2.2.2.2.1 (t := Bundle.init0 q.1) rfl (Bundle.fit_spec hfit).2 hl0 (rb_word (args := args) hg hW hin) (rb_word (args := args) hg hW hcd) (f := F0 m (pc + 3 + 1) lsA (.ref M.1 :: .ref M.1 :: st)) rfl (argsL := []) (a := M.1) (rest := .ref M.1 :: st) (fun sig hs => by
    have : sig.parameters = [] := by
      have h0 : parseMethodDescriptor "()V" = some sig := hs
      have h1 : parseMethodDescriptor "()V" = some { parameters := [], returnType := none } := by decide +kernel
      cases Option.some.inj (h0.symm.trans h1)
      rfl
    rw [this]; rfl) rfl (by rw [hC.2.1]; exact d3)
  cases Option.some.inj (hnC.symm.trans ((rb_vmMN ev _).symm.trans hP1m))
  have X₁ := X.noted hW₁
  obtain ⟨vm₂, X₂, st2⟩ := X₁.ctorPlainOffV hC.1 (g := F0 m (pc + 3 + 1) lsA (.ref M.1 :: st)) rfl hsz T L Z LZ (P1 :: Ps)
    (fun P hP => by rcases List.mem_cons.mp hP with rfl | hP; exact rb_vmMovedP ev L1; exact rb_vmMovedP ev (hLs P hP)) ⟨hlink1, hlink2⟩ (u0 := u0) (sen := sen) (self := M.1) (cell := freshCell P1.m.cls kX) (cellS := cellS)
    hcell (fun _ => by simp) (by simp) rfl rfl hsel0 hselF hcellS hneS hknownS hu0 hsen
    (Takes.of_laid hk hord tyC (by rw [Y.causeType]; rfl)) (Takes.of_laid hk hord tyS (by rw [Y.stackType]; exact fits_refV_array _ u0)) (Takes.of_laid hk hord tyP (by rw [Y.suppType]; exact fits_refV_object _ sen)) Y.objLocals hskip htr [] (by rw [hC.2.1]; exact d3)
    (by simp only [List.length_cons, hlen]; simp only [List.length_nil]; omega) (by
      simp only [List.length_cons, hlen]
      have : (F0 m (pc + 3 + 1) lsA (.ref M.1 :: st)).monitorRoom = 0 := rfl
      show 2 * 0 + (1 + (st.map fun v => v.category).sum) + (13 * (0 + 1 + 1) + 41) ≤ _
      omega)
  -- the cell as it is now
  have hS := hKn.1
  rw [hcX] at hKn
  have hlt : M.1 < ((T'.setVm vm₁).setVm vm₂).heap.size := (Array.getElem?_eq_some_iff.mp hcell).1
  have hU := heapAt_setCell_self (s := (T'.setVm vm₁).setVm vm₂) ((preparedCellV T.toThrowableT (freshCell P1.m.cls kX) M.1 u0 sen).setSlot T.fStack.slot u0.v) hlt
  have hold : t_OB M.1 P1.m.cls q.2.2 (κ.1.2.2.2.1.2 ci) H1 (fun k => defaultValue (rb_ty ci k)) := u_born (rb_ty ci) hts (rb_cl_in ci (rb_cl_lt hq) q hq) hKn hkX e1 (rb_cl_ty ci (rb_cl_lt hq) q hq)
  obtain ⟨cell0, hc0, hc0c, hc0v, hc0s⟩ := hold
  have hsC : T.fCause.slot = κ.1.2.2.2.1.2 ci 0 := by
    obtain ⟨a1, a2, a3, a4, a5, a6⟩ := hS 0 (by omega)
    rw [hT0] at a5
    have := (rb_vmFF ev _ _ _).symm.trans Y.cause
    cases Option.some.inj (a5.symm.trans this)
    exact a6
  have hsS : T.fStack.slot = κ.1.2.2.2.1.2 ci 1 := by
    obtain ⟨a1, a2, a3, a4, a5, a6⟩ := hS 1 (by omega)
    rw [hT1] at a5
    have := (rb_vmFF ev _ _ _).symm.trans Y.stack
    cases Option.some.inj (a5.symm.trans this)
    exact a6
  have hsP : T.fSupp.slot = κ.1.2.2.2.1.2 ci 2 := by
    obtain ⟨a1, a2, a3, a4, a5, a6⟩ := hS 2 (by omega)
    rw [hT2] at a5
    have := (rb_vmFF ev _ _ _).symm.trans Y.supp
    cases Option.some.inj (a5.symm.trans this)
    exact a6
  have hap := hg.2.2.1 ci q hq
  cases Option.some.inj (hc0.symm.trans e1)
  obtain ⟨cell1, hcell1⟩ : ∃ c1 : Cell, c1 = (preparedCellV T.toThrowableT (freshCell P1.m.cls kX) M.1 u0 sen).setSlot T.fStack.slot u0.v := ⟨_, rfl⟩
  rw [← hcell1] at hU X₂ st2
  have hz1 : cell1.slots.size = (freshCell P1.m.cls kX).slots.size := by rw [hcell1]; simp [preparedCellV, Cell.setSlot]
  have hin1 : ∀ i, i < q.2.2 → ∃ v, cell1.slots[κ.1.2.2.2.1.2 ci i]? = some v := fun i hi => by
    have h3 := (Array.getElem?_eq_some_iff.mp (hc0s i hi)).1
    have h4 : κ.1.2.2.2.1.2 ci i < cell1.slots.size := by rw [hz1]; exact h3
    exact ⟨_, Array.getElem?_eq_getElem h4⟩
  have hsame1 : ∀ i, 6 ≤ i → i < q.2.2 → cell1.slots[κ.1.2.2.2.1.2 ci i]? = some (defaultValue (rb_ty ci i)) := fun i h6i hi => by
    have n0 := hap 0 i (by omega) hi (by omega)
    have n1 := hap 1 i (by omega) hi (by omega)
    have n2 := hap 2 i (by omega) hi (by omega)
    have h3 := hc0s i hi
    rw [hcell1]
    simp only [preparedCellV, Cell.setSlot, hsC, hsS, hsP, Array.getElem?_setIfInBounds, n0, n1, n2, if_false]
    exact h3
  have hH2 : rb_Hp κ.1 (rb_nw M (rb_O ci ((List.range q.2.2).map fun i => (cell1.slots[κ.1.2.2.2.1.2 ci i]?).getD .null))) (((T'.setVm vm₁).setVm vm₂).setCell M.1 cell1).heap := by
    refine hH.new ?_ (fun b hb => ?_) ⟨q, hq, cell1, hU, ?_, ?_, fun j hj => ?_⟩
    · have hz : (((T'.setVm vm₁).setVm vm₂).setCell M.1 cell1).heap.size = T'.heap.size := by simp [State.setCell, State.setVm]
      rw [hz, hT', z1, hH.1]
    · have hne : M.1 ≠ b := by rw [← hH.1]; exact Nat.ne_of_gt hb
      rw [heapAt_setCell_ne _ hne]
      show T'.heap[b]? = _
      rw [hT']
      exact o1 b (by rw [← hH.1]; exact hb)
    · rw [hcell1]; exact hcX.symm
    · rw [hcell1]; rfl
    · obtain ⟨v, hv⟩ := hin1 j hj
      rw [hv]
      simp [vp_V, List.getD, hj, hv]
  have hL2 : ∀ y ∈ locs ++ [(⟨M.1, T.fCause.slot⟩ : Loc), ⟨M.1, T.fStack.slot⟩, ⟨M.1, T.fSupp.slot⟩, ⟨M.1, T.fStack.slot⟩], κ.1.2.1.heap.size ≤ y.base := by
    intro y hy
    rcases List.mem_append.mp hy with hy | hy
    · exact hL y hy
    · simp only [List.mem_cons, List.not_mem_nil, or_false] at hy
      rcases hy with rfl | rfl | rfl | rfl <;> exact hMle
  obtain ⟨t, hst, hQ⟩ := k ((List.range q.2.2).map fun i => (cell1.slots[κ.1.2.2.2.1.2 ci i]?).getD .null) (by simp) (fun i h6i hi => by simp [hi, hsame1 i h6i hi]) hg p e s m args below meth c hC _ _ lsA hH2 hL2 hl _ rfl X₂
  exact ⟨t, st1 _ (fun acts => by rw [doInvoke_state]; exact st2 _ hst), hQ⟩
end THR
