set_option maxRecDepth 100000
/-- in the class own the entry index is the class ci, that can be made -/
def rb_NW (own : String) (index ci : Nat) : Prop := ∃ q : vw_C, rb_cl[ci]? = some q ∧ Cond.classLink own index q.1 ∈ lw_all ∧ Cond.instantiable q.1 q.2.2 ∈ lw_all ∧ Cond.initialized q.1 ∈ lw_all
def rb_sz (ci : Nat) : Nat := match rb_cl[ci]? with
  | some q => q.2.2
  | none => 0
/-- an object's fields when it is made -/
def rb_df (ci : Nat) : List Value := (List.range (rb_sz ci)).map fun k => defaultValue (rb_ty ci k)
section RB4
variable {κ : rb_K} {μ : rb_M} {n : Nat × Nat} {M : rb_H} {pc : Nat} {ls : List (Option Value)} {st : List Value}
theorem rb_new {ci index : Nat} {fs : List Value} (hw : rb_NW μ.1 index ci) (hfs : rb_df ci = fs) (h1 : n.1 + 1 ≤ κ.2.1.cells) (h2 : n.2 + rb_sz ci ≤ κ.2.1.slots) (d : decode μ.2.1 pc = .ok (.new index, 3)) (k : rb_Bd κ μ (n.1 + 1, n.2 + rb_sz ci) (rb_nw M (rb_O ci fs)) (pc + 3) ls (.ref M.1 :: st)) : rb_Bd κ μ n M pc ls st := by
  intro hg p e s m args below meth c hC H locs lsA hH hL hl
  obtain ⟨q, hq, w1, w2, w3⟩ := hw
  have hW := hC.2.2.2.2.2.2.2.2
  have hK := rb_KK hg hW
  have hKn := hK.1 ci q hq
  have hts : ∀ w ∈ lw_all, w.before args s = true := fun w hw => rb_word hg hW hw
  have hsz : rb_sz ci = q.2.2 := by simp [rb_sz, hq]
  rw [hsz] at h2 k
  refine W.newcK hC.1 hC.2.1 hC.2.2.2.2.1 (hts _ w1) (hts _ w2) (hts _ w3) rfl d h1 h2 hKn.2.1 (h := M.1) hH.1 fun H1 kC hkC e1 z1 o1 => ?_
  refine k hg p e s m args below meth c hC H1 locs lsA (hH.new (by rw [z1, hH.1]) (fun b hb => o1 b (by rw [← hH.1]; exact hb)) ⟨q, hq, ?_⟩) hL hl
  refine (u_born (rb_ty ci) hts (rb_cl_in ci (rb_cl_lt hq) q hq) hKn hkC e1 (rb_cl_ty ci (rb_cl_lt hq) q hq)).to fun j hj => ?_
  subst hfs
  simp [vp_V, rb_df, hsz, hj, List.getD]
def rb_NA (ty : FieldType) : Nat := match ty with
  | .int => 0 | .long => 1 | _ => 2
/-- arrays of ints, longs, booleans -/
theorem rb_newa {atype : ArrayType} {t N : Nat} {x : Int32} {e0 : rb_E} (ht : (t, newarray.typeOf atype) = (0, .int) ∨ (t, newarray.typeOf atype) = (1, .long) ∨ (t, newarray.typeOf atype) = (2, .boolean)) (ha : Cond.arrayClass (newarray.typeOf atype) ∈ lw_all) (hx : x = nI N) (hN : N ≤ 67108864) (he : e0 = (if t = 1 then rb_L N (fun _ => 0) else .inl (t, N, .inl (fun _ => 0)))) (h1 : n.1 + 1 ≤ κ.2.1.cells) (h2 : n.2 + N ≤ κ.2.1.slots) (d : decode μ.2.1 pc = .ok (.newarray atype, 2)) (k : rb_Bd κ μ (n.1 + 1, n.2 + N) (rb_nw M e0) (pc + 2) ls (.ref M.1 :: st)) : rb_Bd κ μ n M pc ls (.int x :: st) := by
  subst hx
  intro hg p e s m args below meth c hC H locs lsA hH hL hl
  have hW := hC.2.2.2.2.2.2.2.2
  have hK := rb_KK hg hW
  have hNs : N < 2 ^ 31 := Nat.lt_of_le_of_lt hN (by decide)
  have hcb : componentBytes (newarray.typeOf atype) ≤ 8 := by cases atype <;> decide
  refine va_newaK hC.1 hC.2.1 (rb_word hg hW ha) rfl d rfl (nI_pos hNs) (nI_clamp hNs) (Nat.le_trans (Nat.mul_le_mul hN hcb) (by decide)) h1 h2 (h := M.1) hH.1 fun H1 cA e1 z1 o1 hAr hNm => ?_
  refine k hg p e s m args below meth c hC H1 locs lsA (hH.new (by rw [z1, hH.1]) (fun b hb => o1 b (by rw [← hH.1]; exact hb)) ?_) hL hl
  rcases ht with h | h | h
  · obtain ⟨rfl, hty⟩ := Prod.mk.inj h
    rw [hty] at hNm e1
    have hcA : cA = κ.1.2.2.2.2 0 := Option.some.inj (hNm.symm.trans (hK.2 0 _ rfl).2)
    subst hcA; subst he
    exact e1
  · obtain ⟨rfl, hty⟩ := Prod.mk.inj h
    rw [hty] at hNm e1
    have hcA : cA = κ.1.2.2.2.2 1 := Option.some.inj (hNm.symm.trans (hK.2 1 _ rfl).2)
    subst hcA; subst he
    exact e1
  · obtain ⟨rfl, hty⟩ := Prod.mk.inj h
    rw [hty] at hNm e1
    have hcA : cA = κ.1.2.2.2.2 2 := Option.some.inj (hNm.symm.trans (hK.2 2 _ rfl).2)
    subst hcA; subst he
    exact e1
theorem rb_anew {t N index : Nat} {x : Int32} (h3 : 3 ≤ t) (h6 : t ≤ 6) (hc : Cond.classLink μ.1 index (rb_ec t) ∈ lw_all) (ho : Cond.arrayOver (.object (rb_ec t)) ∈ lw_tbl) (hx : x = nI N) (hN : N ≤ 67108864) (h1 : n.1 + 1 ≤ κ.2.1.cells) (h2 : n.2 + N ≤ κ.2.1.slots) (d : decode μ.2.1 pc = .ok (.anewarray index, 3)) (k : rb_Bd κ μ (n.1 + 1, n.2 + N) (rb_nw M (rb_R t N (fun _ => none))) (pc + 3) ls (.ref M.1 :: st)) : rb_Bd κ μ n M pc ls (.int x :: st) := by
  subst hx
  intro hg p e s m args below meth c hC H locs lsA hH hL hl
  have hW := hC.2.2.2.2.2.2.2.2
  have hK := rb_KK hg hW
  have hNs : N < 2 ^ 31 := Nat.lt_of_le_of_lt hN (by decide)
  have hcl : (nI N).toNatClampNeg = N := nI_clamp hNs
  refine W.anew hC.1 hC.2.1 hC.2.2.2.2.1 (rb_word hg hW hc) (va_AO.use (va_AO.moved hW.alike (va_AO.of (hg.1 _ ho)))) rfl d rfl (nI_pos hNs) (by rw [hcl]; omega) h1 (by rw [hcl]; exact h2) fun cA kA comp f1 f2 f3 f4 => ?_
  rw [hcl]
  obtain ⟨kA', comp', k1, k2, k3, k4⟩ := (hK.2 t _ (rb_tysR _ h3 h6)).2
  have hcA : cA = κ.1.2.2.2.2 t := Option.some.inj (f1.symm.trans k4)
  subst hcA
  have hsz : H.size = M.1 := hH.1
  rw [hsz]
  refine k hg p e s m args below meth c hC _ locs lsA (hH.new (by simp) (fun b hb => by rw [Array.getElem?_push, if_neg (Nat.ne_of_lt hb)]) ?_) hL hl
  show (H.push ({ cls := κ.1.2.2.2.2 t, slots := Array.replicate N Value.null } : Cell))[M.1]? = some (arrV (κ.1.2.2.2.2 t) N (fun j => va_rf none))
  rw [← hsz, Array.getElem?_push_size, arrV_new]
  rfl
theorem rb_cast {a ci index : Nat} {fs : List Value} {nm : String} (hl' : Cond.classLink μ.1 index nm ∈ lw_all) (hM : M.2 a = some (rb_O ci fs)) (hc : ∃ q : vw_C, rb_cl[ci]? = some q ∧ (q.1 = nm ∨ Cond.castable q.1 nm ∈ lw_tbl)) (d : decode μ.2.1 pc = .ok (.checkcast index, 3)) (k : rb_Bd κ μ n M (pc + 3) ls (.ref a :: st)) : rb_Bd κ μ n M pc ls (.ref a :: st) := by
  intro hg p e s m args below meth c hC H locs lsA hH hL hl
  have hW := hC.2.2.2.2.2.2.2.2
  have hK := rb_KK hg hW
  obtain ⟨q, hq, hc⟩ := hc
  have hr := va_recv hK (rb_P1 hH hM) hq (q0 := 0) rfl
  have go := k hg p e s m args below meth c hC H locs lsA hH hL hl
  rcases hc with rfl | hc
  · exact va_castS hC.1 hC.2.1 hC.2.2.2.2.1 (rb_word hg hW hl') (hK.1 ci q hq).2 hr d go
  · exact va_castY hC.1 hC.2.1 hC.2.2.2.2.1 (rb_word hg hW hl') (va_Nw.warmC hW (va_Nw.of rfl (hg.1 _ hc))) hr d go
/-- Object's constructor -/
theorem rb_objInit {a index : Nat} (h1 : Cond.methodLink μ.1 index Lib.objectInit ∈ lw_all) (h2 : Cond.instanceMethod Lib.objectInit ∈ lw_all) (h3 : Cond.code Lib.objectInit ⟨#[0xb1]⟩ 1 none ∈ lw_all) (hf : 1 ≤ κ.2.1.frames) (hlo : (st.map fun v => v.category).sum + 12 ≤ κ.2.1.locals) (d : decode μ.2.1 pc = .ok (.invokespecial index, 3)) (k : rb_Bd κ μ n M (pc + 3) ls st) : rb_Bd κ μ n M pc ls (.ref a :: st) := by
  intro hg p e s m args below meth c hC H locs lsA hH hL hl
  have hW := hC.2.2.2.2.2.2.2.2
  refine W.objInit hC.1 hC.2.1 hC.2.2.2.2.1 (rb_word hg hW h1) (rb_word hg hW h2) (rb_word hg hW h3) rfl (by rw [hC.2.2.1]; exact hl.1) rfl d hf ?_ (k hg p e s m args below meth c hC H locs lsA hH hL hl)
  have : (F0 m pc lsA (.ref a :: st)).monitorRoom = 0 := rfl
  omega
/-! the ends -/
theorem rb_end {p : Program} {e : Env} {s : State} {m : MethodId} {args : Array Value} {below : List Frame} {meth : Method} {c : Code} {H : Heap} {locs : List Loc} {g : JFrame} {o : Outcome} (h1 : n.1 ≤ κ.2.2.2.1) (h2 : n.2 ≤ κ.2.2.2.2) (hp : κ.2.2.1 o M) (hL : ∀ q ∈ locs, κ.1.2.1.heap.size ≤ q.base)
    (w : W p κ.1.1 e κ.2.1 s m args below meth c H locs n.1 n.2 (MQ below (fun _ _ o' t => o' = o ∧ rb_Hp κ.1 M t.heap) args s n.1 n.2 (fun q => κ.1.2.1.heap.size ≤ q)) g) : W p κ.1.1 e κ.2.1 s m args below meth c H locs n.1 n.2 (rb_Q κ s below) g := by
  intro T hT X
  obtain ⟨t, st', o', hr, he, ⟨rfl, hh⟩, L, ⟨hv, hW, hs⟩, hLq⟩ := w T hT X
  exact ⟨t, st', o', hr, he, ⟨M, hp, hh⟩, hW, L, hs.mono h1 h2, hLq⟩
theorem rb_iret {x : Int32} {ty : FieldType} (ht : μ.2.2.2.1 = some ty) (hn : narrow ty (.int x) = .int x) (h1 : n.1 ≤ κ.2.2.2.1) (h2 : n.2 ≤ κ.2.2.2.2) (d : decode μ.2.1 pc = .ok (.ireturn, 1)) (hp : κ.2.2.1 (.returned (some (.int x))) M) : rb_Bd κ μ n M pc ls [.int x] := by
  intro hg p e s m args below meth c hC H locs lsA hH hL hl
  exact rb_end h1 h2 hp hL (W.zret (v := x) hC.1 hC.2.1 (hC.2.2.2.1.trans ht) hn (fun t hT _ => ⟨rfl, by rw [hT]; exact hH⟩) hL d (hlocks := hC.2.2.2.2.2.1))
theorem rb_lret {x : Int64} (ht : μ.2.2.2.1 = some .long) (h1 : n.1 ≤ κ.2.2.2.1) (h2 : n.2 ≤ κ.2.2.2.2) (d : decode μ.2.1 pc = .ok (.lreturn, 1)) (hp : κ.2.2.1 (.returned (some (.long x))) M) : rb_Bd κ μ n M pc ls [.long x] := by
  intro hg p e s m args below meth c hC H locs lsA hH hL hl
  exact rb_end h1 h2 hp hL (W.lret (v := x) hC.1 hC.2.1 (hC.2.2.2.1.trans ht) (fun t hT _ => ⟨rfl, by rw [hT]; exact hH⟩) hL d (hlocks := hC.2.2.2.2.2.1))
theorem rb_aret {v : Value} {ty : FieldType} (ht : μ.2.2.2.1 = some ty) (hty : (∃ n, ty = .object n) ∨ ∃ t, ty = .array t) (hv : rb_isR v) (h1 : n.1 ≤ κ.2.2.2.1) (h2 : n.2 ≤ κ.2.2.2.2) (d : decode μ.2.1 pc = .ok (.areturn, 1)) (hp : κ.2.2.1 (.returned (some v)) M) : rb_Bd κ μ n M pc ls [v] := by
  intro hg p e s m args below meth c hC H locs lsA hH hL hl
  exact rb_end h1 h2 hp hL (W.aret (v := v) hC.1 hC.2.1 (hC.2.2.2.1.trans ht) hty hv (fun t hT _ => ⟨rfl, by rw [hT]; exact hH⟩) hL d (hlocks := hC.2.2.2.2.2.1))
theorem rb_vret (ht : μ.2.2.2.1 = none) (h1 : n.1 ≤ κ.2.2.2.1) (h2 : n.2 ≤ κ.2.2.2.2) (d : decode μ.2.1 pc = .ok (.return_, 1)) (hp : κ.2.2.1 (.returned none) M) : rb_Bd κ μ n M pc ls [] := by
  intro hg p e s m args below meth c hC H locs lsA hH hL hl
  exact rb_end h1 h2 hp hL (W.vret hC.1 hC.2.1 (hC.2.2.2.1.trans ht) (fun t hT _ => ⟨rfl, by rw [hT]; exact hH⟩) hL d (hlocks := hC.2.2.2.2.2.1))
/-- no handler of the method covers pc -/
def rb_nh (hh : List (Nat × Nat × Nat × Nat)) (pc : Nat) : Bool := hh.all fun h => !(decide (h.1 ≤ pc) && decide (pc < h.2.1))
theorem rb_nh_ok {c : Code} {hh : List (Nat × Nat × Nat × Nat)} {pc : Nat} (h : rb_nh hh pc = true) (hc : c.exceptionTable.toList.map (fun h => (h.startPc, h.endPc, h.handlerPc, h.catchType)) = hh) : ∀ x ∈ c.exceptionTable.toList, covers x pc = false := by
  intro x hx
  have h1 : (x.startPc, x.endPc, x.handlerPc, x.catchType) ∈ hh := by rw [← hc]; exact List.mem_map.mpr ⟨x, hx, rfl⟩
  have h2 := List.all_eq_true.mp h _ h1
  simp only [Bool.not_eq_true', Bool.and_eq_false_iff, decide_eq_false_iff_not] at h2
  simp only [covers, Bool.and_eq_false_iff, decide_eq_false_iff_not]
  exact h2
theorem rb_athrow {a : Nat} (ho : rb_nh μ.2.2.2.2.2 pc = true) (h1 : n.1 ≤ κ.2.2.2.1) (h2 : n.2 ≤ κ.2.2.2.2) (d : decode μ.2.1 pc = .ok (.athrow, 1)) (hp : κ.2.2.1 (.threw a) M) : rb_Bd κ μ n M pc ls (.ref a :: st) := by
  intro hg p e s m args below meth c hC H locs lsA hH hL hl
  intro T hT X
  obtain ⟨w1, w2, w3, w4, w5⟩ := X.athrowLeaves hC.1 (g := F0 m pc lsA (.ref a :: st)) rfl rfl rfl (rb_nh_ok ho hC.2.2.2.2.2.2.2.1) rfl (by rw [hC.2.1]; exact d) (hlocks := hC.2.2.2.2.2.1)
  exact ⟨_, w1, _, w2, w3, ⟨M, hp, by subst hT; exact hH⟩, w4, locs, w5.mono h1 h2, hL⟩
end RB4
/-- the locals at a method's entry -/
def rb_en (as : List Value) (nL : Nat) : List (Option Value) := ((as.flatMap fun (v : Value) => if v.category = 2 then [some v, none] else [some v]) ++ List.replicate nL none).take nL
theorem rb_en_ok {as : List Value} {nL : Nat} (i : Nat) (v : Value) (h : (rb_en as nL)[i]? = some (some v)) : (lg_sl as ++ List.replicate (nL - (lg_sl as).length) Slot.unset).toArray[i]? = some (.val v) := by
  have key : ∀ (as : List Value) (i : Nat), ((as.flatMap fun (v : Value) => if v.category = 2 then [some v, none] else [some v]) ++ List.replicate nL none)[i]? = some (some v) → (lg_sl as)[i]? = some (.val v) := by
    intro as
    induction as with
    | nil =>
      intro i h
      simp only [List.flatMap_nil, List.nil_append, List.getElem?_replicate] at h
      split at h <;> simp at h
    | cons w t ih =>
      intro i h
      unfold lg_sl
      rw [List.flatMap_cons] at h ⊢
      by_cases hw : w.category = 2
      · rw [if_pos hw] at h ⊢
        match i, h with
        | 0, h => simp at h; simp [h]
        | 1, h => simp at h
        | i + 2, h => exact ih i (by simpa using h)
      · rw [if_neg hw] at h ⊢
        match i, h with
        | 0, h => simp at h; simp [h]
        | i + 1, h => exact ih i (by simpa using h)
  unfold rb_en at h
  rw [List.getElem?_take] at h
  split at h
  · have h2 := key as i h
    have hlt := (List.getElem?_eq_some_iff.mp h2).1
    rw [List.getElem?_toArray, List.getElem?_append_left hlt]
    exact h2
  · cases h
/-- a contract out of its body -/
theorem rb_Ct.of {g : rb_G} {y : MethodName} {cc : ByteArray} {nL : Nat} {ret : Option FieldType} {d : Nat} {n : Nat × Nat} {as : List Value} {M : rb_H} {Post : Outcome → rb_H → Prop} (hy : plainFor y = true) (hlen : (lg_sl as).length ≤ nL) {ls : List (Option Value)} (hls : rb_en as nL = ls)
    (b : rb_Bd (g, rb_rm d n, Post, n) (y.cls, cc, nL, ret, y.name, []) (0, 0) M 0 ls []) : rb_Ct g y (.code y cc nL ret) d n as M Post := by
  intro hg
  refine MetFree.of_bodySF (code := cc) (maxLocals := nL) (ret := ret) hy ?_ ?_
  · intro args s m h hn
    obtain ⟨meth, c, h1, h2, h3, h4, h5, h6, -, -⟩ := Cond.code_spec hn (atoms_spec (ws := [Cond.code y cc nL ret]) h _ List.mem_cons_self)
    exact ⟨meth, c, h1, h2, h3, h4, h5, h6⟩
  · intro p e s m args below meth c s₁ B hml hP _
    obtain ⟨rfl, hW, hH⟩ := hP
    obtain ⟨meth', c', h1, h2, h3, h4, h5, h6, h7, -⟩ := Cond.code_spec B.named (atoms_spec (ws := [Cond.code y cc nL ret]) B.pre _ List.mem_cons_self)
    cases B.method.symm.trans h1
    have hX := Stand.of_body B
    cases hX.code.symm.trans h2
    have hh0 : s₁.heap = s.heap := by rw [B.state]; rfl
    have hcx : rb_Cx g (y.cls, cc, nL, ret, y.name, []) p s m meth c := ⟨B.exec, B.bytes, hml, B.returns, findClass_of_methodNamed B.named, B.notSynchronized, (name_of_methodNamed B.named B.method).1, by simp at h7; simp [h7], hW⟩
    have hl := lv_entry as (n := nL) hlen
    obtain ⟨t, a1, o, b1, b2, b3, b4, b5⟩ := b hg p e s m as.toArray below meth c hcx s.heap [] _ hH (fun q hq => by cases hq) ⟨hl.1, hl.2.1, fun i v hi => rb_en_ok (as := as) i v (by rw [hls]; exact hi)⟩ s₁ hh0 hX
    rw [lg_entry_eq]
    exact ⟨t, o, a1, b1, b2, b3, b4, b5⟩
theorem rb_Ct.ofW {g : rb_G} {y : MethodName} {cc : ByteArray} {nL : Nat} {ret : Option FieldType} {hh : List (Nat × Nat × Nat × Nat)} {d : Nat} {n : Nat × Nat} {as : List Value} {M : rb_H} {Post : Outcome → rb_H → Prop} (hy : plainFor y = true) (hlen : (lg_sl as).length ≤ nL) {ls : List (Option Value)} (hls : rb_en as nL = ls)
    (b : rb_Bd (g, rb_rm d n, Post, n) (y.cls, cc, nL, ret, y.name, hh) (0, 0) M 0 ls []) : rb_Ct g y (.codeWith y cc nL ret hh) d n as M Post := by
  intro hg
  refine MetFree.of_bodySF (code := cc) (maxLocals := nL) (ret := ret) hy ?_ ?_
  · intro args s m h hn
    obtain ⟨m9, meth, c, hn9, h1, h2, h3, h4, -, h5, h6, -⟩ := Cond.codeWith_spec (atoms_spec (ws := [Cond.codeWith y cc nL ret hh]) h _ List.mem_cons_self)
    cases hn.symm.trans hn9
    exact ⟨meth, c, h1, h2, h3, h4, h5, h6⟩
  · intro p e s m args below meth c s₁ B hml hP _
    obtain ⟨rfl, hW, hH⟩ := hP
    obtain ⟨m9, meth', c', hn9, h1, h2, h3, h4, h7, h5, h6, -⟩ := Cond.codeWith_spec (atoms_spec (ws := [Cond.codeWith y cc nL ret hh]) B.pre _ List.mem_cons_self)
    cases B.named.symm.trans hn9
    cases B.method.symm.trans h1
    have hX := Stand.of_body B
    cases hX.code.symm.trans h2
    have hh0 : s₁.heap = s.heap := by rw [B.state]; rfl
    have hcx : rb_Cx g (y.cls, cc, nL, ret, y.name, hh) p s m meth c := ⟨B.exec, B.bytes, hml, B.returns, findClass_of_methodNamed B.named, B.notSynchronized, (name_of_methodNamed B.named B.method).1, h7, hW⟩
    have hl := lv_entry as (n := nL) hlen
    obtain ⟨t, a1, o, b1, b2, b3, b4, b5⟩ := b hg p e s m as.toArray below meth c hcx s.heap [] _ hH (fun q hq => by cases hq) ⟨hl.1, hl.2.1, fun i v hi => rb_en_ok (as := as) i v (by rw [hls]; exact hi)⟩ s₁ hh0 hX
    rw [lg_entry_eq]
    exact ⟨t, o, a1, b1, b2, b3, b4, b5⟩
