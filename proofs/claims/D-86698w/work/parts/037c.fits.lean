set_option maxRecDepth 100000
section RBD
variable {κ : rb_K} {μ : rb_M} {n : Nat × Nat} {M : rb_H} {pc : Nat} {ls : List (Option Value)} {st : List Value}
/-- the interface's own default: true -/
theorem rb_fitsD {index count ci b : Nat} {w : Value} {q : vw_C} (hb' : rb_ob M b ci) (hq : rb_cl[ci]? = some q) (h1 : Cond.methodLink μ.1 index ⟨"RoleLoom$Does", "fits", "(LRoleLoom$Part;)Z"⟩ ∈ lw_all) (h2 : Cond.instanceMethod ⟨"RoleLoom$Does", "fits", "(LRoleLoom$Part;)Z"⟩ ∈ lw_all) (h5 : Cond.code ⟨"RoleLoom$Does", "fits", "(LRoleLoom$Part;)Z"⟩ cX30_fits 2 (some .boolean) ∈ lw_all)
    (h3 : Cond.landsInDefault q.1 ⟨"RoleLoom$Does", "fits", "(LRoleLoom$Part;)Z"⟩ ⟨"RoleLoom$Does", "fits", "(LRoleLoom$Part;)Z"⟩ ∈ flatC (Jvm.Cond.and given_1 narrow_1))
    (w1 : Cond.declares ⟨"RoleLoom$Does", "fits", "(LRoleLoom$Part;)Z"⟩ ∈ lw_tbl) (w2 : Cond.interfaceMethod "RoleLoom$Does" "RoleLoom$Does" "fits" "(LRoleLoom$Part;)Z" ∈ lw_tbl) (w3 : Cond.publicMethod ⟨"RoleLoom$Does", "fits", "(LRoleLoom$Part;)Z"⟩ ∈ lw_tbl) (w4 : Cond.unhidden q.1 "fits" "(LRoleLoom$Part;)Z" ∈ lw_tbl) (w5 : Cond.castable q.1 "RoleLoom$Does" ∈ lw_tbl)
    (hW : (st.map fun v => v.category).sum ≤ 8) (hf : 1 ≤ κ.2.1.frames) (hlo : 40 ≤ κ.2.1.locals) (d : decode μ.2.1 pc = .ok (.invokeinterface index count, 5)) (k : rb_Bd κ μ n M (pc + 5) ls (.int 1 :: st)) : rb_Bd κ μ n M pc ls (w :: .ref b :: st) := by
  intro hg p e s m args below meth c hC H locs lsA hH hL hl
  intro T hT X
  have hWs := hC.2.2.2.2.2.2.2.2
  have hK := rb_KK hg hWs
  obtain ⟨fs, hob⟩ := hb'
  obtain ⟨r', hr', cellB, q1, q2, q3, -⟩ := (hH.2.2.2 b _ hob).2
  cases hq.symm.trans hr'
  obtain ⟨hfc, kC, hkC, hkind⟩ := (hK.1 ci q hq).2
  have hcls : s.vm.findClass q.1 = some cellB.cls := by rw [q2]; exact hfc
  have hkB : s.vm.classes[cellB.cls]? = some kC := by rw [q2]; exact hkC
  have hx : rb_nm "RoleLoom$Does" := ⟨by decide, by decide⟩
  have hF : va_Fw q.1 ⟨"RoleLoom$Does", "fits", "(LRoleLoom$Part;)Z"⟩ ⟨"RoleLoom$Does", "fits", "(LRoleLoom$Part;)Z"⟩ s := va_Fw.moved (x := ⟨"RoleLoom$Does", "fits", "(LRoleLoom$Part;)Z"⟩) hx hWs.alike (va_Fw.of (hg.1 _ w1) (hg.1 _ w2) (hg.1 _ w3) (hg.1 _ w4) (hg.1 _ w5))
  obtain ⟨hdecl, hface, hpub, hunh, hcast⟩ := hF
  obtain ⟨r0, r, hn, hrm, hstR, hsigR⟩ := Cond.declares_spec hdecl
  obtain ⟨cL, kL, r1, hcL, hkL, hiL, hfoundL, hn1⟩ := Cond.interfaceMethod_spec hface
  cases hn.symm.trans hn1
  have hr0cls : r0.cls = cL := Option.some.inj ((findClass_of_methodNamed hn).symm.trans hcL)
  obtain ⟨hnameR, hdescR⟩ := name_of_methodNamed hn hrm
  obtain ⟨mk, methM, hnamed, hmethM, -, habM⟩ := Cond.instanceMethod_spec (rb_word (args := args) hg hWs h2)
  cases hn.symm.trans hnamed
  have hsel : selectMethod {} s.vm cellB.cls r0 = .method r0 := by
    have hl := rb_flat hg h3
    have f1 : κ.1.2.1.vm.findClass q.1 = some cellB.cls := by rw [← hWs.alike.findClass]; exact hcls
    have f2 : κ.1.2.1.methodFound? "RoleLoom$Does" "fits" "(LRoleLoom$Part;)Z" = some r0 := by rw [← State.methodFound?_setVm hWs.alike]; exact hfoundL
    have f3 : κ.1.2.1.methodNamed? ⟨"RoleLoom$Does", "fits", "(LRoleLoom$Part;)Z"⟩ = some r0 := by rw [← State.methodNamed?_setVm hWs.alike]; exact hnamed
    have f4 : κ.1.2.1.vm.method? r0 = some r := by rw [← hWs.alike.method?]; exact hrm
    simp only [Cond.before, Cond.holds, Cond.value, f1, f2, f3, f4, Option.map_some] at hl
    rw [hWs.alike.selectMethod]
    cases hsm : selectMethod {} κ.1.2.1.vm cellB.cls r0 with
    | method m' =>
      rw [hsm] at hl
      simp at hl
      rw [hl.1.1.1.1]
    | _ => rw [hsm] at hl; simp at hl
  have hselP : selectMethod e.platform s.vm cellB.cls r0 = .method r0 := by rw [Launch.admits_selectMethod X.admits]; exact hsel
  have hpubM : hasFlag methM.accessFlags Acc.public_ = true := Cond.publicMethod_spec hnamed hmethM hpub
  have hway : ((cellB.cls :: s.vm.superclasses cellB.cls).any fun k => (declaredIn s.vm r.name r.desc k).any fun (_, z) => z.isPrivate || z.isStatic) = false := by
    rw [hnameR, hdescR]; exact Cond.unhidden_spec hcls hunh
  obtain ⟨c3, t3, v1, v2, v3⟩ := Cond.castable_spec hcast
  cases hcls.symm.trans v1
  cases hcL.symm.trans v2
  obtain ⟨methY, cY, hmY, hcY, hbY, hlY, hrY, hloY, -, -⟩ := Cond.code_spec hn (rb_word (args := args) hg hWs h5)
  cases hrm.symm.trans hmY
  obtain ⟨vm₁, X₁, hstep₁⟩ := X.invokeinterface hC.1 hC.2.2.2.2.1 (rb_word hg hWs h1) hn hrm hstR (by rw [hr0cls]; exact hkL) hiL hx (a := b) (cell := cellB) (kcell := kC) (by rw [hT]; exact q1)
    (fun z h => by rw [q3] at h; cases h) hkB (by rw [hr0cls]; exact v3) hselP hmethM hway hpubM habM (g := F0 m pc lsA (w :: .ref b :: st)) rfl (argsL := [w]) (rest := st) (by rw [← rb_np_sig (y := ⟨"RoleLoom$Does", "fits", "(LRoleLoom$Part;)Z"⟩) (k := 1) (by decide) hsigR]; rfl) rfl (by rw [hC.2.1]; exact d)
  obtain ⟨t, a1, b1⟩ := k hg p e s m args below meth c hC H locs lsA hH hL hl (T.setVm vm₁) hT X₁
  have hm1 : (T.setVm vm₁).vm.method? r0 = some r := by
    have := X₁.warmed.alike.method? r0
    rw [this]; exact hrm
  refine ⟨t, hstep₁ _ fun acts => ?_, b1⟩
  rw [doInvoke_state]
  refine rb_inl X₁ (gf := F0 m pc lsA st) rfl (hl.1.trans hC.2.2.1.symm) (by rw [hC.2.1]; exact d) (by have : (F0 m pc lsA st).monitorRoom = 0 := rfl; rw [this]; simpa using hW) (y := ⟨"RoleLoom$Does", "fits", "(LRoleLoom$Part;)Z"⟩) (by decide +kernel) (X₁.named hn) hm1 hcY hloY (by omega) hf hlo _ (v := some (.int 1)) ?_ a1
  intro V hV hA hret
  exact rb_fits_walk hC.1 hbY (by rw [hV]; exact hm1) hrY _ hA hret
end RBD
/-- how long the array at a is: one of the heap, or the shared empty one -/
def rb_ln (g : rb_G) (M : rb_H) (a : Nat) (x : Int32) : Prop := (a = rb_dc g ∧ x = 0) ∨ ∃ (t : Nat) (y : vp_A), M.2 a = some (.inl (t, y)) ∧ t ≤ 6 ∧ Int32.ofNat y.1 = x
theorem rc_alen {κ : rb_K} {μ : rb_M} {n : Nat × Nat} {M : rb_H} {pc : Nat} {ls : List (Option Value)} {st : List Value} {a : Nat} {x : Int32} (h : rb_ln κ.1 M a x) (d : decode μ.2.1 pc = .ok (.arraylength, 1)) (k : rb_Bd κ μ n M (pc + 1) ls (.int x :: st)) : rb_Bd κ μ n M pc ls (.ref a :: st) := by
  rcases h with ⟨rfl, rfl⟩ | ⟨t, y, h1, h2, h3⟩
  · exact rb_lenDC d k
  · exact rb_alen h1 h2 h3 d k
theorem rb_fitsE {κ : rb_K} {μ : rb_M} {n : Nat × Nat} {M : rb_H} {pc : Nat} {ls : List (Option Value)} {st : List Value} {ci b : Nat} {w : Value} (hci : ci = 9 ∨ ci = 16 ∨ ci = 21) (hb : rb_ob M b ci) (hμ : μ.1 = "RoleLoom") (hW : (st.map fun v => v.category).sum ≤ 8) (hd : rb_dp κ 0) (d : decode μ.2.1 pc = .ok (.invokeinterface 254 2, 5)) (k : rb_Bd κ μ n M (pc + 5) ls (.int 1 :: st)) : rb_Bd κ μ n M pc ls (w :: .ref b :: st) := by
  rcases hci with rfl | rfl | rfl
  · exact rb_fitsD hb rfl (by rw [hμ]; exact q964) q985 q987 (by decide +kernel) q966 q965 q986 q984 q983 hW hd.1 (Nat.le_trans (by decide) hd.2) d k
  · exact rb_fitsD hb rfl (by rw [hμ]; exact q964) q985 q987 (by decide +kernel) q966 q965 q986 q1044 q1043 hW hd.1 (Nat.le_trans (by decide) hd.2) d k
  · exact rb_fitsD hb rfl (by rw [hμ]; exact q964) q985 q987 (by decide +kernel) q966 q965 q986 q1042 q1041 hW hd.1 (Nat.le_trans (by decide) hd.2) d k
