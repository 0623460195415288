set_option maxRecDepth 100000
/-- a method's code word, its locals -/
def rb_cw (y : MethodName) (cw : Cond) : Prop := cw ∈ lw_all ∧ Cond.initialized y.cls ∈ lw_all ∧ ∃ (bytes : ByteArray) (maxL : Nat) (ret : Option FieldType), maxL ≤ 20 ∧ (cw = .code y bytes maxL ret ∨ ∃ hh, cw = .codeWith y bytes maxL ret hh)
theorem rb_cw_spec {g : rb_G} {s : State} {a : Array Value} {y : MethodName} {cw : Cond} {mk : MethodId} (hg : rb_GW g) (hW : g.2.1.WarmedH s.vm) (h : rb_cw y cw) (hn : s.methodNamed? y = some mk) : ∃ (meth : Method) (c : Code), s.vm.method? mk = some meth ∧ meth.code = some c ∧ c.maxLocals ≤ 20 ∧ cw.before a s = true := by
  obtain ⟨h1, h2, bytes, maxL, ret, hm, h3⟩ := h
  have hw : cw.before a s = true := rb_word hg hW h1
  rcases h3 with rfl | ⟨hh, rfl⟩
  · obtain ⟨methY, cY, hmY, hcY, -, hlY, -⟩ := Cond.code_spec hn hw
    exact ⟨methY, cY, hmY, hcY, by omega, hw⟩
  · obtain ⟨m9, methY, cY, hn9, hmY, hcY, -, hlY, -⟩ := Cond.codeWith_spec hw
    cases hn.symm.trans hn9
    exact ⟨methY, cY, hmY, hcY, by omega, hw⟩
section RBC
variable {p : Program} {g : rb_G} {e : Env} {R : Room} {s : State} {m : MethodId} {args : Array Value} {below : List Frame} {meth : Method} {c : Code} {U : State} {locs : List Loc} {cells slots : Nat}
/-- behind an invocation: it returned, or it threw -/
def rb_Behind (p : Program) (e : Env) (below : List Frame) (U U' : State) (gf : JFrame) (len : Nat) (mk : MethodId) (a : Array Value) (o : Outcome) : Prop := match o with
  | .returned v => Steps p.tables e below (doInvoke e (U.setTop gf) [] mk a).1 (U'.setTop { gf with pc := gf.pc + len, stack := v.toList ++ gf.stack })
  | .threw x => Steps p.tables e below (doInvoke e (U.setTop gf) [] mk a).1 ((U'.setTop gf).pushFrame (.throwing x))
set_option maxHeartbeats 4000000 in
theorem rb_inv {y : MethodName} {cw : Cond} {d : Nat} {n : Nat × Nat} {as : List Value} {M : rb_H} {Post : Outcome → rb_H → Prop} (ct : rb_Ct g y cw d n as M Post) (hg : rb_GW g) (hcw : rb_cw y cw)
    (X : Stand p g.1 e R s m args below meth c U locs cells slots) (hWs : g.2.1.WarmedH s.vm) (hH : rb_Hp g M U.heap)
    {gf : JFrame} (hgm : gf.method = m) (hsize : gf.locals.size = c.maxLocals) {ig : Instr} {len : Nat} (hdg : decode c.code gf.pc = .ok (ig, len)) (hW : 2 * gf.monitorRoom + (gf.stack.map fun v => v.category).sum ≤ 8) {mk : MethodId} (hn : U.methodNamed? y = some mk)
    (hfr : d + 1 ≤ R.frames) (hlo : 40 * (d + 1) ≤ R.locals) (hc : cells + n.1 ≤ R.cells) (hs : slots + n.2 ≤ R.slots) :
    ∃ (o : Outcome) (U' : State) (L : List Loc) (M' : rb_H), Stand p g.1 e R s m args below meth c U' (locs ++ L) (cells + n.1) (slots + n.2) ∧ (∀ q ∈ L, g.2.1.heap.size ≤ q.base) ∧ Post o M' ∧ rb_Hp g M' U'.heap ∧ rb_Behind p e below U U' gf len mk as.toArray o := by
  have hWU : g.2.1.WarmedH U.vm := State.WarmedH.trans hWs X.warmed
  obtain ⟨methY, cY, hmY, hcY, hlY, hcwb⟩ := rb_cw_spec (a := as.toArray) hg hWU hcw hn
  obtain ⟨kY, hkY, -⟩ := className_of_methodNamed hn
  have hinitY : kY.init = .initialized := Cond.initialized_spec (findClass_of_methodNamed hn) hkY (rb_word (args := as.toArray) hg hWU hcw.2.1)
  have h : At U gf.method c below := by rw [hgm]; exact X.here
  have happ : (headSpec [cw] (rb_rm d n)).appliesLoose y e.platform (U.calling gf mk as.toArray) = true :=
    Spec.appliesLoose_calling (g := gf) h hdg hn hkY hinitY
      (X.room_calling (g := gf) (R' := rb_rm d n) hsize hmY hcY hfr (by show _ + _ + 40 * d ≤ _; omega) hc hs) (atoms_intro fun w hw => by rw [List.mem_singleton] at hw; rw [hw]; exact hcwb)
  obtain ⟨mid, hmid⟩ := h.above
  have hfr' : (U.setTop gf).frames = (.java gf :: mid) ++ below := by rw [State.frames_setTop' gf h.top, hmid]; rfl
  obtain ⟨o, s₂, hsteps, -, hend, hq⟩ := Steps.callFree (ct hg) p X.admits X.cas X.clock (acts := []) hfr' happ ⟨rfl, hWU, hH⟩ trivial
  obtain ⟨⟨M', hpost, hH'⟩, hW₂, L, hsame0, hLq⟩ := hq
  obtain ⟨e2, q2, q3, q4, q5, q6⟩ := hsame0
  rw [State.frames_setTop' gf h.top] at hend
  have e3 : s₂ = ({ (U.calling gf mk as.toArray).setFrames s₂.frames with heap := s₂.heap, slotsUsed := s₂.slotsUsed } : State).setVm s₂.vm := by
    have : s₂ = ({ s₂ with vm := (U.calling gf mk as.toArray).vm } : State).setVm s₂.vm := rfl
    rw [show ({ s₂ with vm := (U.calling gf mk as.toArray).vm } : State) = _ from e2] at this
    exact this
  have hW' : U.WarmedH s₂.vm := hW₂
  obtain ⟨g₀, hg0⟩ := Option.isSome_iff_exists.mp h.top
  obtain ⟨r, hr⟩ := State.topJava?_eq_some.mp hg0
  have hsame : U.sameButNew ({ U with heap := s₂.heap, slotsUsed := s₂.slotsUsed } : State) L n.1 n.2 := by
    refine ⟨?_, q2, q3, q4, q5, q6⟩
    obtain ⟨t, ht, -⟩ := State.frames_cons hr
    show ({ U with heap := s₂.heap, slotsUsed := s₂.slotsUsed } : State) = { U.setFrames U.frames with heap := s₂.heap, slotsUsed := s₂.slotsUsed }
    rw [State.setFrames_self ht]
  have hStand : Stand p g.1 e R s m args below meth c (({ U with heap := s₂.heap, slotsUsed := s₂.slotsUsed } : State).setVm s₂.vm) (locs ++ L) (cells + n.1) (slots + n.2) :=
    ⟨X.admits, X.cas, X.clock, X.frames, X.room, X.hears, X.method, X.code, (X.here.setHeapUsed s₂.heap s₂.slotsUsed).setVm hW'.alike, X.tail, State.WarmedH.trans X.warmed hW', X.limits, X.bytes, X.same.trans (hsame.setVm s.vm)⟩
  have hr' : (({ U with heap := s₂.heap, slotsUsed := s₂.slotsUsed } : State).setVm s₂.vm).frames = .java g₀ :: r := hr
  refine ⟨o, _, L, M', hStand, hLq, hpost, hH', ?_⟩
  cases o with
  | returned v =>
    obtain ⟨c₂, i₂, len₂, hc₂, hd₂, hf₂⟩ := hend
    have hcc : c₂ = c := by
      have h1 : s₂.code? gf.method = U.code? gf.method := by
        rw [State.code?_eq, State.code?_eq, hW'.alike.method?]
      exact Option.some.inj (hc₂.symm.trans (h1.trans h.code))
    subst hcc
    have hlen : len₂ = len := by rw [hdg] at hd₂; cases hd₂; rfl
    subst hlen
    have hs₂ : s₂ = (({ U with heap := s₂.heap, slotsUsed := s₂.slotsUsed } : State).setVm s₂.vm).setTop { gf with pc := gf.pc + len₂, stack := v.toList ++ gf.stack } := by
      refine e3.trans ?_
      rw [hf₂, State.calling_eq h.top, State.setFrames_setFrames, State.setTop_of_frames _ hr', hr]
      rfl
    show Steps p.tables e below _ ((({ U with heap := s₂.heap, slotsUsed := s₂.slotsUsed } : State).setVm s₂.vm).setTop { gf with pc := gf.pc + len₂, stack := v.toList ++ gf.stack })
    rw [← hs₂]
    exact hsteps
  | threw x =>
    have hf₂ : s₂.frames = .throwing x :: .java gf :: U.frames.tail := hend
    have hs₂ : s₂ = ((({ U with heap := s₂.heap, slotsUsed := s₂.slotsUsed } : State).setVm s₂.vm).setTop gf).pushFrame (.throwing x) := by
      refine e3.trans ?_
      rw [hf₂, State.calling_eq h.top, State.setFrames_setFrames, State.pushFrame, State.frames_setTop _ hr', State.setTop_of_frames _ hr', State.setFrames_setFrames, hr]
      rfl
    show Steps p.tables e below _ (((({ U with heap := s₂.heap, slotsUsed := s₂.slotsUsed } : State).setVm s₂.vm).setTop gf).pushFrame (.throwing x))
    rw [← hs₂]
    exact hsteps
end RBC
/-- A CALL'S SITE: in the class own the instruction ins (len bytes) invokes y (code word cw) with np arguments; rc: the receiver's class -/
def rb_Go (own : String) (ins : Instr) (len : Nat) (y : MethodName) (cw : Cond) (rc : Option Nat) (np : Nat) : Prop := rb_cw y cw ∧
  ∀ g : rb_G, rb_GW g → ∀ (p : Program) (e : Env) (R : Room) (s : State) (m : MethodId) (args : Array Value) (below : List Frame) (meth : Method) (c : Code) (T : State) (locs : List Loc) (cells slots : Nat), p.tables.exec = Jvm.exec → g.2.1.WarmedH s.vm → s.vm.findClass own = some m.cls →
    Stand p g.1 e R s m args below meth c T locs cells slots → ∀ (gf : JFrame) (as rest : List Value), gf.method = m → as.length = np → gf.stack = as.reverse ++ rest →
    (∀ ci, rc = some ci → ∃ (b : Nat) (As : List Value) (q : vw_C) (cell : Cell), as = .ref b :: As ∧ rb_cl[ci]? = some q ∧ T.heap[b]? = some cell ∧ cell.vm.isStatics = false ∧ s.vm.findClass q.1 = some cell.cls ∧ ClassAt s q.1 cell.cls) →
    decode c.code gf.pc = .ok (ins, len) →
    ∃ (vm₁ : Vm) (mk : MethodId), Stand p g.1 e R s m args below meth c (T.setVm vm₁) locs cells slots ∧ (T.setVm vm₁).methodNamed? y = some mk ∧
      ∀ target, Steps p.tables e below (doInvoke e ((T.setVm vm₁).setTop { gf with stack := rest }) [] mk as.toArray).1 target → Steps p.tables e below (T.setTop gf) target
/-- a throw on its way, in the method's own frame -/
def rb_Th (κ : rb_K) (μ : rb_M) (n : Nat × Nat) (M : rb_H) (pc : Nat) (ls : List (Option Value)) (a : Nat) : Prop :=
  rb_GW κ.1 → ∀ (p : Program) (e : Env) (s : State) (m : MethodId) (args : Array Value) (below : List Frame) (meth : Method) (c : Code), rb_Cx κ.1 μ p s m meth c →
    ∀ (T : State) (locs : List Loc) (lsA : Array Slot) (st : List Value), rb_Hp κ.1 M T.heap → (∀ q ∈ locs, κ.1.2.1.heap.size ≤ q.base) → rb_ls lsA μ.2.2.1 ls →
      Stand p κ.1.1 e κ.2.1 s m args below meth c T locs n.1 n.2 → ∃ t, Steps p.tables e below ((T.setTop (F0 m pc lsA st)).pushFrame (.throwing a)) t ∧ rb_Q κ s below t
/-- how a body goes on behind a call -/
def rb_Af (κ : rb_K) (μ : rb_M) (n : Nat × Nat) (M : rb_H) (pc len : Nat) (ls : List (Option Value)) (rest : List Value) (o : Outcome) : Prop := match o with
  | .returned v => rb_Bd κ μ n M (pc + len) ls (v.toList ++ rest)
  | .threw a => rb_Th κ μ n M pc ls a
section RB5
variable {κ : rb_K} {μ : rb_M} {n : Nat × Nat} {M : rb_H} {pc : Nat} {ls : List (Option Value)} {st : List Value}
theorem rb_Th.out {a : Nat} (ho : rb_nh μ.2.2.2.2.2 pc = true) (h1 : n.1 ≤ κ.2.2.2.1) (h2 : n.2 ≤ κ.2.2.2.2) (hp : κ.2.2.1 (.threw a) M) : rb_Th κ μ n M pc ls a := by
  intro hg p e s m args below meth c hC T locs lsA st hH hL hl X
  obtain ⟨w1, w2, w3, w4, w5⟩ := X.leaveThrown a (g := F0 m pc lsA st) rfl rfl rfl (rb_nh_ok ho hC.2.2.2.2.2.2.2.1) (hlocks := hC.2.2.2.2.2.1)
  exact ⟨_, w1, _, w2, w3, ⟨M, hp, hH⟩, w4, locs, w5.mono h1 h2, hL⟩
/-- A CALL -/
theorem rb_call {ins : Instr} {len : Nat} {y : MethodName} {cw : Cond} {rc : Option Nat} {np d : Nat} {n' : Nat × Nat} {as rest : List Value} {Post : Outcome → rb_H → Prop} (hs : rb_Go μ.1 ins len y cw rc np) (ct : rb_Ct κ.1 y cw d n' as M Post) (hnp : as.length = np) (hst : st = as.reverse ++ rest)
    (hrc : ∀ ci, rc = some ci → ∃ (b : Nat) (As fs : List Value), as = .ref b :: As ∧ M.2 b = some (rb_O ci fs)) (hW : (rest.map fun v => v.category).sum ≤ 8) (hfr : d + 1 ≤ κ.2.1.frames) (hlo : 40 * (d + 1) ≤ κ.2.1.locals) (hc : n.1 + n'.1 ≤ κ.2.1.cells) (hsl : n.2 + n'.2 ≤ κ.2.1.slots)
    (dd : decode μ.2.1 pc = .ok (ins, len)) (k : ∀ (o : Outcome) (M' : rb_H), Post o M' → rb_Af κ μ (n.1 + n'.1, n.2 + n'.2) M' pc len ls rest o) : rb_Bd κ μ n M pc ls st := by
  subst hst
  intro hg p e s m args below meth c hC H locs lsA hH hL hl
  intro T hT X
  have hWs := hC.2.2.2.2.2.2.2.2
  have hHT : rb_Hp κ.1 M T.heap := by rw [hT]; exact hH
  have hK := rb_KK hg hWs
  obtain ⟨vm₁, mk, X₁, hn, hstep⟩ := hs.2 κ.1 hg p e κ.2.1 s m args below meth c T locs n.1 n.2 hC.1 hWs hC.2.2.2.2.1 X (F0 m pc lsA (as.reverse ++ rest)) as rest rfl hnp rfl (fun ci hci => by
    obtain ⟨b, As, fs, h1, h2⟩ := hrc ci hci
    obtain ⟨r, hr, cell, q1, q2, q3, -⟩ := (hHT.2.2.2 b _ h2).2
    have hk := (hK.1 ci r hr).2
    exact ⟨b, As, r, cell, h1, hr, q1, by rw [q3]; rfl, by rw [q2]; exact hk.1, by rw [q2]; exact hk⟩) (by rw [hC.2.1]; exact dd)
  obtain ⟨o, U', L, M', X', hLq, hpost, hH', hbeh⟩ := rb_inv ct hg hs.1 X₁ hWs hHT (gf := F0 m pc lsA rest) rfl (hl.1.trans hC.2.2.1.symm) (by rw [hC.2.1]; exact dd) (by have : (F0 m pc lsA rest).monitorRoom = 0 := rfl; rw [this]; simpa using hW) hn hfr hlo hc hsl
  have hL' : ∀ q ∈ locs ++ L, κ.1.2.1.heap.size ≤ q.base := fun q hq => by
    rcases List.mem_append.mp hq with h | h
    · exact hL q h
    · exact hLq q h
  have kk := k o M' hpost
  cases o with
  | returned v =>
    obtain ⟨t, a1, b1⟩ := kk hg p e s m args below meth c hC U'.heap (locs ++ L) lsA hH' hL' hl U' rfl X'
    exact ⟨t, hstep t (Steps.trans hbeh a1), b1⟩
  | threw x =>
    obtain ⟨t, a1, b1⟩ := kk hg p e s m args below meth c hC U' (locs ++ L) lsA rest hH' hL' hl X'
    exact ⟨t, hstep t (Steps.trans hbeh a1), b1⟩
end RB5
