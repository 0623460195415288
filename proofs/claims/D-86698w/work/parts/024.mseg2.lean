set_option maxRecDepth 100000
theorem sgX4_startedAt_0 {κ : rb_K} {M0 : rb_H} {h : Nat} {ms : mm_S} {a1 : Int32} {a2 : Int32} (K : (∃ (x1 : Int32) (ms2 : mm_S) (d3 : Nat), mm_C κ.1 yX4_stepOf wX4_stepOf d3 h M0 ms [.ref h, .int a1, .int a2] (some (.int x1)) ms2 ∧ rb_dp κ d3 ∧ (vp_in (((24 : Int32) * x1) + a2) (mm_l 32) ∧ (κ.2.2.1 (.returned (some (.int (ms2.1 32 ((((24 : Int32) * x1) + a2)).toNatClampNeg)))) (mm_H h ms2 M0))))) : rb_Bd κ mX4_startedAt (0, 0) (mm_H h ms M0) 0 [some (.ref h), some (.int a1), some (.int a2)] [] := by
  refine rb_aload_n 0 rfl rfl (rb_isR_ref _) dX4_startedAt_0 ?_
  refine mm_getA (t := 2) fl_X4_93 rfl (by decide) dX4_startedAt_1 ?_
  refine rb_bipush (v := (24 : Int32)) (by decide) dX4_startedAt_4 ?_
  refine rb_aload_n 0 rfl rfl (rb_isR_ref _) dX4_startedAt_6 ?_
  refine rb_iload_n 1 rfl rfl dX4_startedAt_7 ?_
  refine rb_iload_n 2 rfl rfl dX4_startedAt_8 ?_
  obtain ⟨x1, ms2, d3, h1, h2, Kx1⟩ := K
  refine mm_call st_X4_278 (rest := [.int (24 : Int32), .ref (h + mm_p 32)]) h1 rfl rfl mm_rc (Nat.le_of_ble_eq_true rfl) h2 dX4_startedAt_9 ?_
  show rb_Bd κ mX4_startedAt (0, 0) (mm_H h ms2 M0) 12 [some (.ref h), some (.int a1), some (.int a2)] [.int x1, .int (24 : Int32), .ref (h + mm_p 32)]
  refine rb_imul (z := ((24 : Int32) * x1)) rfl dX4_startedAt_12 ?_
  refine rb_iload_n 2 rfl rfl dX4_startedAt_13 ?_
  refine rb_iadd (z := (((24 : Int32) * x1) + a2)) rfl dX4_startedAt_14 ?_
  refine mm_iald (k := 32) (v := (ms2.1 32 ((((24 : Int32) * x1) + a2)).toNatClampNeg)) rfl rfl (Kx1).1 dX4_startedAt_15 ?_
  exact rb_iret rfl rfl (Nat.zero_le _) (Nat.zero_le _) dX4_startedAt_16 (Kx1).2
theorem sgX4_object_0 {κ : rb_K} {M0 : rb_H} {h : Nat} {ms : mm_S} {a1 : Int32} (K : (∃ (x1 : Int32) (ms2 : mm_S) (d3 : Nat), mm_C κ.1 yX4_isRole wX4_isRole d3 h M0 ms [.ref h, .int a1] (some (.int x1)) ms2 ∧ rb_dp κ d3 ∧ ((¬ x1 = 0 → ((¬ (ms2.1 40 0) = (100 : Int32) → (∃ (ms7 : mm_S) (d8 : Nat), mm_C κ.1 yX4_begins wX4_begins d8 h M0 ms2 [.ref h] (none) ms7 ∧ rb_dp κ d8 ∧ (∃ (x9 : Int32) (ms10 : mm_S) (d11 : Nat), mm_C κ.1 yX4_start wX4_start d11 h M0 ms7 [.ref h, .int a1] (some (.int x9)) ms10 ∧ rb_dp κ d11 ∧ ((0 ≤ x9 → (vp_in (ms10.1 40 0) (mm_l 41) ∧ rb_Bd κ mX4_object (0, 0) (mm_H h (mm_sI ms10 41 ((ms10.1 40 0)).toNatClampNeg a1) M0) 50 [some (.ref h), some (.int a1), some (.int x9), some (.int (0 : Int32))] [])) ∧ (x9 < 0 → (κ.2.2.1 (.returned (some (.int x9))) (mm_H h ms10 M0))))))) ∧ ((ms2.1 40 0) = (100 : Int32) → (κ.2.2.1 (.returned (some (.int (-2 : Int32)))) (mm_H h ms2 M0))))) ∧ (x1 = 0 → (κ.2.2.1 (.returned (some (.int (-1 : Int32)))) (mm_H h ms2 M0)))))) : rb_Bd κ mX4_object (0, 0) (mm_H h ms M0) 0 [some (.ref h), some (.int a1), none, none] [] := by
  refine rb_aload_n 0 rfl rfl (rb_isR_ref _) dX4_object_0 ?_
  refine rb_iload_n 1 rfl rfl dX4_object_1 ?_
  obtain ⟨x1, ms2, d3, h1, h2, Kx1⟩ := K
  refine mm_call st_X4_269 (rest := []) h1 rfl rfl mm_rc (Nat.le_of_ble_eq_true rfl) h2 dX4_object_2 ?_
  show rb_Bd κ mX4_object (0, 0) (mm_H h ms2 M0) 5 [some (.ref h), some (.int a1), none, none] [.int x1]
  refine rb_ifne 10 (by decide) dX4_object_5 (fun c4 => ?_) (fun c4 => ?_)
  · skip
    refine rb_aload_n 0 rfl rfl (rb_isR_ref _) dX4_object_10 ?_
    refine mm_getI (v := (ms2.1 40 0)) rfl fl_X4_366 rfl dX4_object_11 ?_
    refine rb_bipush (v := (100 : Int32)) (by decide) dX4_object_14 ?_
    refine rb_icne 22 (by decide) dX4_object_16 (fun c5 => ?_) (fun c5 => ?_)
    · skip
      refine rb_aload_n 0 rfl rfl (rb_isR_ref _) dX4_object_22 ?_
      obtain ⟨ms7, d8, h1, h2, Kx6⟩ := ((((Kx1).1 c4)).1 c5)
      refine mm_call st_X4_369 (rest := []) h1 rfl rfl mm_rc (Nat.le_of_ble_eq_true rfl) h2 dX4_object_23 ?_
      show rb_Bd κ mX4_object (0, 0) (mm_H h ms7 M0) 26 [some (.ref h), some (.int a1), none, none] []
      refine rb_aload_n 0 rfl rfl (rb_isR_ref _) dX4_object_26 ?_
      refine rb_iload_n 1 rfl rfl dX4_object_27 ?_
      obtain ⟨x9, ms10, d11, h1, h2, Kx9⟩ := Kx6
      refine mm_call st_X4_372 (rest := []) h1 rfl rfl mm_rc (Nat.le_of_ble_eq_true rfl) h2 dX4_object_28 ?_
      show rb_Bd κ mX4_object (0, 0) (mm_H h ms10 M0) 31 [some (.ref h), some (.int a1), none, none] [.int x9]
      refine rb_istore_n 2 rfl (ls' := [some (.ref h), some (.int a1), some (.int x9), none]) (by decide) rfl rfl dX4_object_31 ?_
      refine rb_iload_n 2 rfl rfl dX4_object_32 ?_
      refine rb_ifge 38 (by decide) dX4_object_33 (fun c12 => ?_) (fun c12 => ?_)
      · skip
        refine rb_aload_n 0 rfl rfl (rb_isR_ref _) dX4_object_38 ?_
        refine mm_getA (t := 2) fl_X4_114 rfl (by decide) dX4_object_39 ?_
        refine rb_aload_n 0 rfl rfl (rb_isR_ref _) dX4_object_42 ?_
        refine mm_getI (v := (ms10.1 40 0)) rfl fl_X4_366 rfl dX4_object_43 ?_
        refine rb_iload_n 1 rfl rfl dX4_object_46 ?_
        refine mm_iast (k := 41) rfl (((Kx9).1 c12)).1 dX4_object_47 ?_
        refine rb_iconst (v := (0 : Int32)) (by decide) dX4_object_48 ?_
        refine rb_istore_n 3 rfl (ls' := [some (.ref h), some (.int a1), some (.int x9), some (.int (0 : Int32))]) (by decide) rfl rfl dX4_object_49 ?_
        exact (((Kx9).1 c12)).2
      · skip
        refine rb_iload_n 2 rfl rfl dX4_object_36 ?_
        exact rb_iret rfl rfl (Nat.zero_le _) (Nat.zero_le _) dX4_object_37 ((Kx9).2 c12)
    · skip
      refine rb_bipush (v := (-2 : Int32)) (by decide) dX4_object_19 ?_
      exact rb_iret rfl rfl (Nat.zero_le _) (Nat.zero_le _) dX4_object_21 ((((Kx1).1 c4)).2 c5)
  · skip
    refine rb_iconst (v := (-1 : Int32)) (by decide) dX4_object_8 ?_
    exact rb_iret rfl rfl (Nat.zero_le _) (Nat.zero_le _) dX4_object_9 ((Kx1).2 c4)
theorem sgX4_object_50 {κ : rb_K} {M0 : rb_H} {h : Nat} {ms : mm_S} {a1 : Int32} {a2 : Int32} {a3 : Int32} (K : (vp_in a1 (mm_l 25) ∧ (((ms.1 25 (a1).toNatClampNeg) ≤ a3 → (κ.2.2.1 (.returned (some (.int (((ms.1 40 0) + (1 : Int32)) - (1 : Int32))))) (mm_H h (mm_sI ms 40 0 ((ms.1 40 0) + (1 : Int32))) M0))) ∧ (a3 < (ms.1 25 (a1).toNatClampNeg) → (∃ (ms3 : mm_S) (d4 : Nat), mm_C κ.1 yX4_clear wX4_clear d4 h M0 ms [.ref h, .int (ms.1 40 0), .int a3] (none) ms3 ∧ rb_dp κ d4 ∧ rb_Bd κ mX4_object (0, 0) (mm_H h ms3 M0) 50 [some (.ref h), some (.int a1), some (.int a2), some (.int (a3 + (1 : Int32)))] []))))) : rb_Bd κ mX4_object (0, 0) (mm_H h ms M0) 50 [some (.ref h), some (.int a1), some (.int a2), some (.int a3)] [] := by
  refine rb_iload_n 3 rfl rfl dX4_object_50 ?_
  refine rb_aload_n 0 rfl rfl (rb_isR_ref _) dX4_object_51 ?_
  refine mm_getA (t := 2) fl_X4_72 rfl (by decide) dX4_object_52 ?_
  refine rb_iload_n 1 rfl rfl dX4_object_55 ?_
  refine mm_iald (k := 25) (v := (ms.1 25 (a1).toNatClampNeg)) rfl rfl (K).1 dX4_object_56 ?_
  refine rb_icge 75 (by decide) dX4_object_57 (fun c1 => ?_) (fun c1 => ?_)
  · skip
    refine rb_aload_n 0 rfl rfl (rb_isR_ref _) dX4_object_75 ?_
    refine rb_dup rfl dX4_object_76 ?_
    refine mm_getI (v := (ms.1 40 0)) rfl fl_X4_366 rfl dX4_object_77 ?_
    refine rb_iconst (v := (1 : Int32)) (by decide) dX4_object_80 ?_
    refine rb_iadd (z := ((ms.1 40 0) + (1 : Int32))) rfl dX4_object_81 ?_
    refine mm_putI fl_X4_366 rfl dX4_object_82 ?_
    refine rb_aload_n 0 rfl rfl (rb_isR_ref _) dX4_object_85 ?_
    refine mm_getI (v := ((ms.1 40 0) + (1 : Int32))) rfl fl_X4_366 rfl dX4_object_86 ?_
    refine rb_iconst (v := (1 : Int32)) (by decide) dX4_object_89 ?_
    refine rb_isub (z := (((ms.1 40 0) + (1 : Int32)) - (1 : Int32))) rfl dX4_object_90 ?_
    exact rb_iret rfl rfl (Nat.zero_le _) (Nat.zero_le _) dX4_object_91 (((K).2).1 c1)
  · skip
    refine rb_aload_n 0 rfl rfl (rb_isR_ref _) dX4_object_60 ?_
    refine rb_aload_n 0 rfl rfl (rb_isR_ref _) dX4_object_61 ?_
    refine mm_getI (v := (ms.1 40 0)) rfl fl_X4_366 rfl dX4_object_62 ?_
    refine rb_iload_n 3 rfl rfl dX4_object_65 ?_
    obtain ⟨ms3, d4, h1, h2, Kx2⟩ := (((K).2).2 c1)
    refine mm_call st_X4_360 (rest := []) h1 rfl rfl mm_rc (Nat.le_of_ble_eq_true rfl) h2 dX4_object_66 ?_
    show rb_Bd κ mX4_object (0, 0) (mm_H h ms3 M0) 69 [some (.ref h), some (.int a1), some (.int a2), some (.int a3)] []
    refine rb_iinc (ls' := [some (.ref h), some (.int a1), some (.int a2), some (.int (a3 + (1 : Int32)))]) (v := (a3 + (1 : Int32))) rfl rfl (by decide) rfl rfl dX4_object_69 ?_
    refine rb_goto 50 (by decide) dX4_object_72 ?_
    exact Kx2
theorem sgX4_begins_0 {κ : rb_K} {M0 : rb_H} {h : Nat} {ms : mm_S}  (K : (∃ (ms2 : mm_S) (d3 : Nat), mm_C κ.1 yX4_noThrow wX4_noThrow d3 h M0 (mm_sI (mm_sI (mm_sI ms 50 0 (0 : Int32)) 60 0 (0 : Int32)) 68 0 (0 : Int32)) [.ref h] (none) ms2 ∧ rb_dp κ d3 ∧ (κ.2.2.1 (.returned none) (mm_H h ms2 M0)))) : rb_Bd κ mX4_begins (0, 0) (mm_H h ms M0) 0 [some (.ref h)] [] := by
  refine rb_aload_n 0 rfl rfl (rb_isR_ref _) dX4_begins_0 ?_
  refine rb_iconst (v := (0 : Int32)) (by decide) dX4_begins_1 ?_
  refine mm_putI fl_X4_285 rfl dX4_begins_2 ?_
  refine rb_aload_n 0 rfl rfl (rb_isR_ref _) dX4_begins_5 ?_
  refine rb_iconst (v := (0 : Int32)) (by decide) dX4_begins_6 ?_
  refine mm_putI fl_X4_288 rfl dX4_begins_7 ?_
  refine rb_aload_n 0 rfl rfl (rb_isR_ref _) dX4_begins_10 ?_
  refine rb_iconst (v := (0 : Int32)) (by decide) dX4_begins_11 ?_
  refine mm_putI fl_X4_291 rfl dX4_begins_12 ?_
  refine rb_aload_n 0 rfl rfl (rb_isR_ref _) dX4_begins_15 ?_
  obtain ⟨ms2, d3, h1, h2, Kx1⟩ := K
  refine mm_call st_X4_294 (rest := []) h1 rfl rfl mm_rc (Nat.le_of_ble_eq_true rfl) h2 dX4_begins_16 ?_
  show rb_Bd κ mX4_begins (0, 0) (mm_H h ms2 M0) 19 [some (.ref h)] []
  exact rb_vret rfl (Nat.zero_le _) (Nat.zero_le _) dX4_begins_19 Kx1
theorem sgX4_noThrow_0 {κ : rb_K} {M0 : rb_H} {h : Nat} {ms : mm_S}  (K : (κ.2.2.1 (.returned none) (mm_H h (mm_sL (mm_sI (mm_sI (mm_sI ms 64 0 (-9 : Int32)) 65 0 (-9 : Int32)) 66 0 (-9 : Int32)) 67 0 (0 : Int64)) M0))) : rb_Bd κ mX4_noThrow (0, 0) (mm_H h ms M0) 0 [some (.ref h)] [] := by
  refine rb_aload_n 0 rfl rfl (rb_isR_ref _) dX4_noThrow_0 ?_
  refine rb_bipush (v := (-9 : Int32)) (by decide) dX4_noThrow_1 ?_
  refine mm_putI fl_X4_164 rfl dX4_noThrow_3 ?_
  refine rb_aload_n 0 rfl rfl (rb_isR_ref _) dX4_noThrow_6 ?_
  refine rb_bipush (v := (-9 : Int32)) (by decide) dX4_noThrow_7 ?_
  refine mm_putI fl_X4_167 rfl dX4_noThrow_9 ?_
  refine rb_aload_n 0 rfl rfl (rb_isR_ref _) dX4_noThrow_12 ?_
  refine rb_bipush (v := (-9 : Int32)) (by decide) dX4_noThrow_13 ?_
  refine mm_putI fl_X4_170 rfl dX4_noThrow_15 ?_
  refine rb_aload_n 0 rfl rfl (rb_isR_ref _) dX4_noThrow_18 ?_
  refine rb_lconst (v := (0 : Int64)) (by decide) dX4_noThrow_19 ?_
  refine mm_putL fl_X4_297 rfl dX4_noThrow_20 ?_
  exact rb_vret rfl (Nat.zero_le _) (Nat.zero_le _) dX4_noThrow_23 K
theorem sgX4_start_0 {κ : rb_K} {M0 : rb_H} {h : Nat} {ms : mm_S} {a1 : Int32} (K : rb_Bd κ mX4_start (0, 0) (mm_H h ms M0) 2 [some (.ref h), some (.int a1), some (.int (0 : Int32)), none, none] []) : rb_Bd κ mX4_start (0, 0) (mm_H h ms M0) 0 [some (.ref h), some (.int a1), none, none, none] [] := by
  refine rb_iconst (v := (0 : Int32)) (by decide) dX4_start_0 ?_
  refine rb_istore_n 2 rfl (ls' := [some (.ref h), some (.int a1), some (.int (0 : Int32)), none, none]) (by decide) rfl rfl dX4_start_1 ?_
  exact K
theorem sgX4_start_2 {κ : rb_K} {M0 : rb_H} {h : Nat} {ms : mm_S} {a1 : Int32} {a2 : Int32} (K : (vp_in a1 (mm_l 25) ∧ (((ms.1 25 (a1).toNatClampNeg) ≤ a2 → (κ.2.2.1 (.returned (some (.int (0 : Int32)))) (mm_H h ms M0))) ∧ (a2 < (ms.1 25 (a1).toNatClampNeg) → (∃ (x2 : Int32) (ms3 : mm_S) (d4 : Nat), mm_C κ.1 yX4_stepOf wX4_stepOf d4 h M0 ms [.ref h, .int a1, .int a2] (some (.int x2)) ms3 ∧ rb_dp κ d4 ∧ (vp_in (((24 : Int32) * a1) + a2) (mm_l 26) ∧ (vp_in (((24 : Int32) * x2) + a2) (mm_l 32) ∧ ((¬ (ms3.1 32 ((((24 : Int32) * x2) + a2)).toNatClampNeg) = (2 : Int32) → (vp_in (((24 : Int32) * x2) + a2) (mm_l 32) ∧ ((¬ (ms3.1 32 ((((24 : Int32) * x2) + a2)).toNatClampNeg) = 0 → rb_Bd κ mX4_start (0, 0) (mm_H h ms3 M0) 2 [some (.ref h), some (.int a1), some (.int (a2 + (1 : Int32))), some (.int (((24 : Int32) * x2) + a2)), some (.int (ms3.1 26 ((((24 : Int32) * a1) + a2)).toNatClampNeg))] []) ∧ ((ms3.1 32 ((((24 : Int32) * x2) + a2)).toNatClampNeg) = 0 → (∃ (x7 : Int32) (ms8 : mm_S) (d9 : Nat), mm_C κ.1 yX4_isStarted wX4_isStarted d9 h M0 ms3 [.ref h, .int (ms3.1 26 ((((24 : Int32) * a1) + a2)).toNatClampNeg)] (some (.int x7)) ms8 ∧ rb_dp κ d9 ∧ ((x7 = 0 → (vp_in (((24 : Int32) * x2) + a2) (mm_l 32) ∧ (vp_in (((24 : Int32) * x2) + a2) (mm_l 32) ∧ ((¬ ((mm_sI ms8 32 ((((24 : Int32) * x2) + a2)).toNatClampNeg (2 : Int32)).1 32 ((((24 : Int32) * x2) + a2)).toNatClampNeg) = (2 : Int32) → rb_Bd κ mX4_start (0, 0) (mm_H h (mm_sI ms8 32 ((((24 : Int32) * x2) + a2)).toNatClampNeg (2 : Int32)) M0) 2 [some (.ref h), some (.int a1), some (.int (a2 + (1 : Int32))), some (.int (((24 : Int32) * x2) + a2)), some (.int (ms3.1 26 ((((24 : Int32) * a1) + a2)).toNatClampNeg))] []) ∧ (((mm_sI ms8 32 ((((24 : Int32) * x2) + a2)).toNatClampNeg (2 : Int32)).1 32 ((((24 : Int32) * x2) + a2)).toNatClampNeg) = (2 : Int32) → (κ.2.2.1 (.returned (some (.int (-15 : Int32)))) (mm_H h (mm_sI ms8 32 ((((24 : Int32) * x2) + a2)).toNatClampNeg (2 : Int32)) M0))))))) ∧ (¬ x7 = 0 → (vp_in (((24 : Int32) * x2) + a2) (mm_l 32) ∧ (vp_in (((24 : Int32) * x2) + a2) (mm_l 32) ∧ ((¬ ((mm_sI ms8 32 ((((24 : Int32) * x2) + a2)).toNatClampNeg (1 : Int32)).1 32 ((((24 : Int32) * x2) + a2)).toNatClampNeg) = (2 : Int32) → rb_Bd κ mX4_start (0, 0) (mm_H h (mm_sI ms8 32 ((((24 : Int32) * x2) + a2)).toNatClampNeg (1 : Int32)) M0) 2 [some (.ref h), some (.int a1), some (.int (a2 + (1 : Int32))), some (.int (((24 : Int32) * x2) + a2)), some (.int (ms3.1 26 ((((24 : Int32) * a1) + a2)).toNatClampNeg))] []) ∧ (((mm_sI ms8 32 ((((24 : Int32) * x2) + a2)).toNatClampNeg (1 : Int32)).1 32 ((((24 : Int32) * x2) + a2)).toNatClampNeg) = (2 : Int32) → (κ.2.2.1 (.returned (some (.int (-15 : Int32)))) (mm_H h (mm_sI ms8 32 ((((24 : Int32) * x2) + a2)).toNatClampNeg (1 : Int32)) M0))))))))))))) ∧ ((ms3.1 32 ((((24 : Int32) * x2) + a2)).toNatClampNeg) = (2 : Int32) → (κ.2.2.1 (.returned (some (.int (-16 : Int32)))) (mm_H h ms3 M0))))))))))) : rb_Bd κ mX4_start (0, 0) (mm_H h ms M0) 2 [some (.ref h), some (.int a1), some (.int a2), none, none] [] := by
  refine rb_iload_n 2 rfl rfl dX4_start_2 ?_
  refine rb_aload_n 0 rfl rfl (rb_isR_ref _) dX4_start_3 ?_
  refine mm_getA (t := 2) fl_X4_72 rfl (by decide) dX4_start_4 ?_
  refine rb_iload_n 1 rfl rfl dX4_start_7 ?_
  refine mm_iald (k := 25) (v := (ms.1 25 (a1).toNatClampNeg)) rfl rfl (K).1 dX4_start_8 ?_
  refine rb_icge 98 (by decide) dX4_start_9 (fun c1 => ?_) (fun c1 => ?_)
  · skip
    refine rb_iconst (v := (0 : Int32)) (by decide) dX4_start_98 ?_
    exact rb_iret rfl rfl (Nat.zero_le _) (Nat.zero_le _) dX4_start_99 (((K).2).1 c1)
  · skip
    refine rb_bipush (v := (24 : Int32)) (by decide) dX4_start_12 ?_
    refine rb_aload_n 0 rfl rfl (rb_isR_ref _) dX4_start_14 ?_
    refine rb_iload_n 1 rfl rfl dX4_start_15 ?_
    refine rb_iload_n 2 rfl rfl dX4_start_16 ?_
    obtain ⟨x2, ms3, d4, h1, h2, Kx2⟩ := (((K).2).2 c1)
    refine mm_call st_X4_278 (rest := [.int (24 : Int32)]) h1 rfl rfl mm_rc (Nat.le_of_ble_eq_true rfl) h2 dX4_start_17 ?_
    show rb_Bd κ mX4_start (0, 0) (mm_H h ms3 M0) 20 [some (.ref h), some (.int a1), some (.int a2), none, none] [.int x2, .int (24 : Int32)]
    refine rb_imul (z := ((24 : Int32) * x2)) rfl dX4_start_20 ?_
    refine rb_iload_n 2 rfl rfl dX4_start_21 ?_
    refine rb_iadd (z := (((24 : Int32) * x2) + a2)) rfl dX4_start_22 ?_
    refine rb_istore_n 3 rfl (ls' := [some (.ref h), some (.int a1), some (.int a2), some (.int (((24 : Int32) * x2) + a2)), none]) (by decide) rfl rfl dX4_start_23 ?_
    refine rb_aload_n 0 rfl rfl (rb_isR_ref _) dX4_start_24 ?_
    refine mm_getA (t := 2) fl_X4_75 rfl (by decide) dX4_start_25 ?_
    refine rb_bipush (v := (24 : Int32)) (by decide) dX4_start_28 ?_
    refine rb_iload_n 1 rfl rfl dX4_start_30 ?_
    refine rb_imul (z := ((24 : Int32) * a1)) rfl dX4_start_31 ?_
    refine rb_iload_n 2 rfl rfl dX4_start_32 ?_
    refine rb_iadd (z := (((24 : Int32) * a1) + a2)) rfl dX4_start_33 ?_
    refine mm_iald (k := 26) (v := (ms3.1 26 ((((24 : Int32) * a1) + a2)).toNatClampNeg)) rfl rfl (Kx2).1 dX4_start_34 ?_
    refine rb_istore (ls' := [some (.ref h), some (.int a1), some (.int a2), some (.int (((24 : Int32) * x2) + a2)), some (.int (ms3.1 26 ((((24 : Int32) * a1) + a2)).toNatClampNeg))]) (by decide) rfl rfl dX4_start_35 ?_
    refine rb_aload_n 0 rfl rfl (rb_isR_ref _) dX4_start_37 ?_
    refine mm_getA (t := 2) fl_X4_93 rfl (by decide) dX4_start_38 ?_
    refine rb_iload_n 3 rfl rfl dX4_start_41 ?_
    refine mm_iald (k := 32) (v := (ms3.1 32 ((((24 : Int32) * x2) + a2)).toNatClampNeg)) rfl rfl ((Kx2).2).1 dX4_start_42 ?_
    refine rb_iconst (v := (2 : Int32)) (by decide) dX4_start_43 ?_
    refine rb_icne 50 (by decide) dX4_start_44 (fun c5 => ?_) (fun c5 => ?_)
    · skip
      refine rb_aload_n 0 rfl rfl (rb_isR_ref _) dX4_start_50 ?_
      refine mm_getA (t := 2) fl_X4_93 rfl (by decide) dX4_start_51 ?_
      refine rb_iload_n 3 rfl rfl dX4_start_54 ?_
      refine mm_iald (k := 32) (v := (ms3.1 32 ((((24 : Int32) * x2) + a2)).toNatClampNeg)) rfl rfl (((((Kx2).2).2).1 c5)).1 dX4_start_55 ?_
      refine rb_ifne 92 (by decide) dX4_start_56 (fun c6 => ?_) (fun c6 => ?_)
      · skip
        refine rb_iinc (ls' := [some (.ref h), some (.int a1), some (.int (a2 + (1 : Int32))), some (.int (((24 : Int32) * x2) + a2)), some (.int (ms3.1 26 ((((24 : Int32) * a1) + a2)).toNatClampNeg))]) (v := (a2 + (1 : Int32))) rfl rfl (by decide) rfl rfl dX4_start_92 ?_
        refine rb_goto 2 (by decide) dX4_start_95 ?_
        exact (((((((Kx2).2).2).1 c5)).2).1 c6)
      · skip
        refine rb_aload_n 0 rfl rfl (rb_isR_ref _) dX4_start_59 ?_
        refine mm_getA (t := 2) fl_X4_93 rfl (by decide) dX4_start_60 ?_
        refine rb_iload_n 3 rfl rfl dX4_start_63 ?_
        refine rb_aload_n 0 rfl rfl (rb_isR_ref _) dX4_start_64 ?_
        refine rb_iload rfl dX4_start_65 ?_
        obtain ⟨x7, ms8, d9, h1, h2, Kx7⟩ := (((((((Kx2).2).2).1 c5)).2).2 c6)
        refine mm_call st_X4_357 (rest := [.int (((24 : Int32) * x2) + a2), .ref (h + mm_p 32)]) h1 rfl rfl mm_rc (Nat.le_of_ble_eq_true rfl) h2 dX4_start_67 ?_
        show rb_Bd κ mX4_start (0, 0) (mm_H h ms8 M0) 70 [some (.ref h), some (.int a1), some (.int a2), some (.int (((24 : Int32) * x2) + a2)), some (.int (ms3.1 26 ((((24 : Int32) * a1) + a2)).toNatClampNeg))] [.int x7, .int (((24 : Int32) * x2) + a2), .ref (h + mm_p 32)]
        refine rb_ifeq 77 (by decide) dX4_start_70 (fun c10 => ?_) (fun c10 => ?_)
        · skip
          refine rb_iconst (v := (2 : Int32)) (by decide) dX4_start_77 ?_
          refine mm_iast (k := 32) rfl (((Kx7).1 c10)).1 dX4_start_78 ?_
          refine rb_aload_n 0 rfl rfl (rb_isR_ref _) dX4_start_79 ?_
          refine mm_getA (t := 2) fl_X4_93 rfl (by decide) dX4_start_80 ?_
          refine rb_iload_n 3 rfl rfl dX4_start_83 ?_
          refine mm_iald (k := 32) (v := ((mm_sI ms8 32 ((((24 : Int32) * x2) + a2)).toNatClampNeg (2 : Int32)).1 32 ((((24 : Int32) * x2) + a2)).toNatClampNeg)) rfl rfl ((((Kx7).1 c10)).2).1 dX4_start_84 ?_
          refine rb_iconst (v := (2 : Int32)) (by decide) dX4_start_85 ?_
          refine rb_icne 92 (by decide) dX4_start_86 (fun c11 => ?_) (fun c11 => ?_)
          · skip
            refine rb_iinc (ls' := [some (.ref h), some (.int a1), some (.int (a2 + (1 : Int32))), some (.int (((24 : Int32) * x2) + a2)), some (.int (ms3.1 26 ((((24 : Int32) * a1) + a2)).toNatClampNeg))]) (v := (a2 + (1 : Int32))) rfl rfl (by decide) rfl rfl dX4_start_92 ?_
            refine rb_goto 2 (by decide) dX4_start_95 ?_
            exact ((((((Kx7).1 c10)).2).2).1 c11)
          · skip
            refine rb_bipush (v := (-15 : Int32)) (by decide) dX4_start_89 ?_
            exact rb_iret rfl rfl (Nat.zero_le _) (Nat.zero_le _) dX4_start_91 ((((((Kx7).1 c10)).2).2).2 c11)
        · skip
          refine rb_iconst (v := (1 : Int32)) (by decide) dX4_start_73 ?_
          refine rb_goto 78 (by decide) dX4_start_74 ?_
          refine mm_iast (k := 32) rfl (((Kx7).2 c10)).1 dX4_start_78 ?_
          refine rb_aload_n 0 rfl rfl (rb_isR_ref _) dX4_start_79 ?_
          refine mm_getA (t := 2) fl_X4_93 rfl (by decide) dX4_start_80 ?_
          refine rb_iload_n 3 rfl rfl dX4_start_83 ?_
          refine mm_iald (k := 32) (v := ((mm_sI ms8 32 ((((24 : Int32) * x2) + a2)).toNatClampNeg (1 : Int32)).1 32 ((((24 : Int32) * x2) + a2)).toNatClampNeg)) rfl rfl ((((Kx7).2 c10)).2).1 dX4_start_84 ?_
          refine rb_iconst (v := (2 : Int32)) (by decide) dX4_start_85 ?_
          refine rb_icne 92 (by decide) dX4_start_86 (fun c12 => ?_) (fun c12 => ?_)
          · skip
            refine rb_iinc (ls' := [some (.ref h), some (.int a1), some (.int (a2 + (1 : Int32))), some (.int (((24 : Int32) * x2) + a2)), some (.int (ms3.1 26 ((((24 : Int32) * a1) + a2)).toNatClampNeg))]) (v := (a2 + (1 : Int32))) rfl rfl (by decide) rfl rfl dX4_start_92 ?_
            refine rb_goto 2 (by decide) dX4_start_95 ?_
            exact ((((((Kx7).2 c10)).2).2).1 c12)
          · skip
            refine rb_bipush (v := (-15 : Int32)) (by decide) dX4_start_89 ?_
            exact rb_iret rfl rfl (Nat.zero_le _) (Nat.zero_le _) dX4_start_91 ((((((Kx7).2 c10)).2).2).2 c12)
    · skip
      refine rb_bipush (v := (-16 : Int32)) (by decide) dX4_start_47 ?_
      exact rb_iret rfl rfl (Nat.zero_le _) (Nat.zero_le _) dX4_start_49 ((((Kx2).2).2).2 c5)
theorem sgX4_isStarted_0 {κ : rb_K} {M0 : rb_H} {h : Nat} {ms : mm_S} {a1 : Int32} (K : (∃ (x1 : Int32) (ms2 : mm_S) (d3 : Nat), mm_C κ.1 yX4_bodyOf wX4_bodyOf d3 h M0 ms [.int a1, .int (2 : Int32), .int (0 : Int32)] (some (.int x1)) ms2 ∧ rb_dp κ d3 ∧ (vp_in x1 (mm_l 10) ∧ ((0 ≤ (ms2.1 10 (x1).toNatClampNeg) → (∃ (ms6 : mm_S) (d7 : Nat), mm_C κ.1 yX4_clear wX4_clear d7 h M0 ms2 [.ref h, .int (100 : Int32), .int (0 : Int32)] (none) ms6 ∧ rb_dp κ d7 ∧ (∃ (ms9 : mm_S) (d10 : Nat), mm_C κ.1 yX4_enter wX4_enter d10 h M0 (mm_sI ms6 61 0 (0 : Int32)) [.ref h, .int x1, .int (100 : Int32), .int (0 : Int32), .int (-9 : Int32), .int (-9 : Int32), .long (0 : Int64)] (none) ms9 ∧ rb_dp κ d10 ∧ (∃ (ms12 : mm_S) (d13 : Nat), mm_C κ.1 yX4_goes wX4_goes d13 h M0 ms9 [.ref h] (none) ms12 ∧ rb_dp κ d13 ∧ ((¬ (ms12.1 61 0) = 0 → (κ.2.2.1 (.returned (some (.int (0 : Int32)))) (mm_H h ms12 M0))) ∧ ((ms12.1 61 0) = 0 → (κ.2.2.1 (.returned (some (.int (1 : Int32)))) (mm_H h ms12 M0)))))))) ∧ ((ms2.1 10 (x1).toNatClampNeg) < 0 → (κ.2.2.1 (.returned (some (.int (1 : Int32)))) (mm_H h ms2 M0))))))) : rb_Bd κ mX4_isStarted (0, 0) (mm_H h ms M0) 0 [some (.ref h), some (.int a1), none] [] := by
  refine rb_iload_n 1 rfl rfl dX4_isStarted_0 ?_
  refine rb_iconst (v := (2 : Int32)) (by decide) dX4_isStarted_1 ?_
  refine rb_iconst (v := (0 : Int32)) (by decide) dX4_isStarted_2 ?_
  obtain ⟨x1, ms2, d3, h1, h2, Kx1⟩ := K
  refine mm_call st_X4_209 (rest := []) h1 rfl rfl mm_rn (Nat.le_of_ble_eq_true rfl) h2 dX4_isStarted_3 ?_
  show rb_Bd κ mX4_isStarted (0, 0) (mm_H h ms2 M0) 6 [some (.ref h), some (.int a1), none] [.int x1]
  refine rb_istore_n 2 rfl (ls' := [some (.ref h), some (.int a1), some (.int x1)]) (by decide) rfl rfl dX4_isStarted_6 ?_
  refine rb_aload_n 0 rfl rfl (rb_isR_ref _) dX4_isStarted_7 ?_
  refine mm_getA (t := 2) fl_X4_35 rfl (by decide) dX4_isStarted_8 ?_
  refine rb_iload_n 2 rfl rfl dX4_isStarted_11 ?_
  refine mm_iald (k := 10) (v := (ms2.1 10 (x1).toNatClampNeg)) rfl rfl (Kx1).1 dX4_isStarted_12 ?_
  refine rb_ifge 18 (by decide) dX4_isStarted_13 (fun c4 => ?_) (fun c4 => ?_)
  · skip
    refine rb_aload_n 0 rfl rfl (rb_isR_ref _) dX4_isStarted_18 ?_
    refine rb_bipush (v := (100 : Int32)) (by decide) dX4_isStarted_19 ?_
    refine rb_iconst (v := (0 : Int32)) (by decide) dX4_isStarted_21 ?_
    obtain ⟨ms6, d7, h1, h2, Kx5⟩ := (((Kx1).2).1 c4)
    refine mm_call st_X4_360 (rest := []) h1 rfl rfl mm_rc (Nat.le_of_ble_eq_true rfl) h2 dX4_isStarted_22 ?_
    show rb_Bd κ mX4_isStarted (0, 0) (mm_H h ms6 M0) 25 [some (.ref h), some (.int a1), some (.int x1)] []
    refine rb_aload_n 0 rfl rfl (rb_isR_ref _) dX4_isStarted_25 ?_
    refine rb_iconst (v := (0 : Int32)) (by decide) dX4_isStarted_26 ?_
    refine mm_putI fl_X4_301 rfl dX4_isStarted_27 ?_
    refine rb_aload_n 0 rfl rfl (rb_isR_ref _) dX4_isStarted_30 ?_
    refine rb_iload_n 2 rfl rfl dX4_isStarted_31 ?_
    refine rb_bipush (v := (100 : Int32)) (by decide) dX4_isStarted_32 ?_
    refine rb_iconst (v := (0 : Int32)) (by decide) dX4_isStarted_34 ?_
    refine rb_bipush (v := (-9 : Int32)) (by decide) dX4_isStarted_35 ?_
    refine rb_bipush (v := (-9 : Int32)) (by decide) dX4_isStarted_37 ?_
    refine rb_lconst (v := (0 : Int64)) (by decide) dX4_isStarted_39 ?_
    obtain ⟨ms9, d10, h1, h2, Kx8⟩ := Kx5
    refine mm_call st_X4_308 (rest := []) h1 rfl rfl mm_rc (Nat.le_of_ble_eq_true rfl) h2 dX4_isStarted_40 ?_
    show rb_Bd κ mX4_isStarted (0, 0) (mm_H h ms9 M0) 43 [some (.ref h), some (.int a1), some (.int x1)] []
    refine rb_aload_n 0 rfl rfl (rb_isR_ref _) dX4_isStarted_43 ?_
    obtain ⟨ms12, d13, h1, h2, Kx11⟩ := Kx8
    refine mm_call st_X4_363 (rest := []) h1 rfl rfl mm_rc (Nat.le_of_ble_eq_true rfl) h2 dX4_isStarted_44 ?_
    show rb_Bd κ mX4_isStarted (0, 0) (mm_H h ms12 M0) 47 [some (.ref h), some (.int a1), some (.int x1)] []
    refine rb_aload_n 0 rfl rfl (rb_isR_ref _) dX4_isStarted_47 ?_
    refine mm_getI (v := (ms12.1 61 0)) rfl fl_X4_301 rfl dX4_isStarted_48 ?_
    refine rb_ifne 58 (by decide) dX4_isStarted_51 (fun c14 => ?_) (fun c14 => ?_)
    · skip
      refine rb_iconst (v := (0 : Int32)) (by decide) dX4_isStarted_58 ?_
      exact rb_iret rfl (by decide) (Nat.zero_le _) (Nat.zero_le _) dX4_isStarted_59 ((Kx11).1 c14)
    · skip
      refine rb_iconst (v := (1 : Int32)) (by decide) dX4_isStarted_54 ?_
      refine rb_goto 59 (by decide) dX4_isStarted_55 ?_
      exact rb_iret rfl (by decide) (Nat.zero_le _) (Nat.zero_le _) dX4_isStarted_59 ((Kx11).2 c14)
  · skip
    refine rb_iconst (v := (1 : Int32)) (by decide) dX4_isStarted_16 ?_
    exact rb_iret rfl (by decide) (Nat.zero_le _) (Nat.zero_le _) dX4_isStarted_17 (((Kx1).2).2 c4)
theorem sgX4_clear_0 {κ : rb_K} {M0 : rb_H} {h : Nat} {ms : mm_S} {a1 : Int32} {a2 : Int32} (K : rb_Bd κ mX4_clear (0, 0) (mm_H h ms M0) 10 [some (.ref h), some (.int a1), some (.int a2), some (.int (((24 : Int32) * a1) + a2)), some (.int (0 : Int32))] []) : rb_Bd κ mX4_clear (0, 0) (mm_H h ms M0) 0 [some (.ref h), some (.int a1), some (.int a2), none, none] [] := by
  refine rb_bipush (v := (24 : Int32)) (by decide) dX4_clear_0 ?_
  refine rb_iload_n 1 rfl rfl dX4_clear_2 ?_
  refine rb_imul (z := ((24 : Int32) * a1)) rfl dX4_clear_3 ?_
  refine rb_iload_n 2 rfl rfl dX4_clear_4 ?_
  refine rb_iadd (z := (((24 : Int32) * a1) + a2)) rfl dX4_clear_5 ?_
  refine rb_istore_n 3 rfl (ls' := [some (.ref h), some (.int a1), some (.int a2), some (.int (((24 : Int32) * a1) + a2)), none]) (by decide) rfl rfl dX4_clear_6 ?_
  refine rb_iconst (v := (0 : Int32)) (by decide) dX4_clear_7 ?_
  refine rb_istore (ls' := [some (.ref h), some (.int a1), some (.int a2), some (.int (((24 : Int32) * a1) + a2)), some (.int (0 : Int32))]) (by decide) rfl rfl dX4_clear_8 ?_
  exact K
theorem sgX4_clear_10 {κ : rb_K} {M0 : rb_H} {h : Nat} {ms : mm_S} {a1 : Int32} {a2 : Int32} {a3 : Int32} {a4 : Int32} (K : (((4 : Int32) ≤ a4 → rb_Bd κ mX4_clear (0, 0) (mm_H h ms M0) 37 [some (.ref h), some (.int a1), some (.int a2), some (.int a3), some (.int (0 : Int32))] []) ∧ (a4 < (4 : Int32) → (vp_in (((4 : Int32) * a3) + a4) (mm_l 42) ∧ rb_Bd κ mX4_clear (0, 0) (mm_H h (mm_sL ms 42 ((((4 : Int32) * a3) + a4)).toNatClampNeg (0 : Int64)) M0) 10 [some (.ref h), some (.int a1), some (.int a2), some (.int a3), some (.int (a4 + (1 : Int32)))] [])))) : rb_Bd κ mX4_clear (0, 0) (mm_H h ms M0) 10 [some (.ref h), some (.int a1), some (.int a2), some (.int a3), some (.int a4)] [] := by
  refine rb_iload rfl dX4_clear_10 ?_
  refine rb_iconst (v := (4 : Int32)) (by decide) dX4_clear_12 ?_
  refine rb_icge 34 (by decide) dX4_clear_13 (fun c1 => ?_) (fun c1 => ?_)
  · skip
    refine rb_iconst (v := (0 : Int32)) (by decide) dX4_clear_34 ?_
    refine rb_istore (ls' := [some (.ref h), some (.int a1), some (.int a2), some (.int a3), some (.int (0 : Int32))]) (by decide) rfl rfl dX4_clear_35 ?_
    exact ((K).1 c1)
  · skip
    refine rb_aload_n 0 rfl rfl (rb_isR_ref _) dX4_clear_16 ?_
    refine mm_getA (t := 3) fl_X4_117 rfl (by decide) dX4_clear_17 ?_
    refine rb_iconst (v := (4 : Int32)) (by decide) dX4_clear_20 ?_
    refine rb_iload_n 3 rfl rfl dX4_clear_21 ?_
    refine rb_imul (z := ((4 : Int32) * a3)) rfl dX4_clear_22 ?_
    refine rb_iload rfl dX4_clear_23 ?_
    refine rb_iadd (z := (((4 : Int32) * a3) + a4)) rfl dX4_clear_25 ?_
    refine rb_lconst (v := (0 : Int64)) (by decide) dX4_clear_26 ?_
    refine mm_last (k := 42) rfl (((K).2 c1)).1 dX4_clear_27 ?_
    refine rb_iinc (ls' := [some (.ref h), some (.int a1), some (.int a2), some (.int a3), some (.int (a4 + (1 : Int32)))]) (v := (a4 + (1 : Int32))) rfl rfl (by decide) rfl rfl dX4_clear_28 ?_
    refine rb_goto 10 (by decide) dX4_clear_31 ?_
    exact (((K).2 c1)).2
theorem sgX4_clear_37 {κ : rb_K} {M0 : rb_H} {h : Nat} {ms : mm_S} {a1 : Int32} {a2 : Int32} {a3 : Int32} {a4 : Int32} (K : (((2 : Int32) ≤ a4 → (κ.2.2.1 (.returned none) (mm_H h ms M0))) ∧ (a4 < (2 : Int32) → (vp_in (((2 : Int32) * a3) + a4) (mm_l 43) ∧ (vp_in (((2 : Int32) * a3) + a4) (mm_l 45) ∧ rb_Bd κ mX4_clear (0, 0) (mm_H h (mm_sI (mm_sI ms 43 ((((2 : Int32) * a3) + a4)).toNatClampNeg (-9 : Int32)) 45 ((((2 : Int32) * a3) + a4)).toNatClampNeg (-9 : Int32)) M0) 37 [some (.ref h), some (.int a1), some (.int a2), some (.int a3), some (.int (a4 + (1 : Int32)))] []))))) : rb_Bd κ mX4_clear (0, 0) (mm_H h ms M0) 37 [some (.ref h), some (.int a1), some (.int a2), some (.int a3), some (.int a4)] [] := by
  refine rb_iload rfl dX4_clear_37 ?_
  refine rb_iconst (v := (2 : Int32)) (by decide) dX4_clear_39 ?_
  refine rb_icge 75 (by decide) dX4_clear_40 (fun c1 => ?_) (fun c1 => ?_)
  · skip
    exact rb_vret rfl (Nat.zero_le _) (Nat.zero_le _) dX4_clear_75 ((K).1 c1)
  · skip
    refine rb_aload_n 0 rfl rfl (rb_isR_ref _) dX4_clear_43 ?_
    refine mm_getA (t := 2) fl_X4_121 rfl (by decide) dX4_clear_44 ?_
    refine rb_iconst (v := (2 : Int32)) (by decide) dX4_clear_47 ?_
    refine rb_iload_n 3 rfl rfl dX4_clear_48 ?_
    refine rb_imul (z := ((2 : Int32) * a3)) rfl dX4_clear_49 ?_
    refine rb_iload rfl dX4_clear_50 ?_
    refine rb_iadd (z := (((2 : Int32) * a3) + a4)) rfl dX4_clear_52 ?_
    refine rb_bipush (v := (-9 : Int32)) (by decide) dX4_clear_53 ?_
    refine mm_iast (k := 43) rfl (((K).2 c1)).1 dX4_clear_55 ?_
    refine rb_aload_n 0 rfl rfl (rb_isR_ref _) dX4_clear_56 ?_
    refine mm_getA (t := 2) fl_X4_128 rfl (by decide) dX4_clear_57 ?_
    refine rb_iconst (v := (2 : Int32)) (by decide) dX4_clear_60 ?_
    refine rb_iload_n 3 rfl rfl dX4_clear_61 ?_
    refine rb_imul (z := ((2 : Int32) * a3)) rfl dX4_clear_62 ?_
    refine rb_iload rfl dX4_clear_63 ?_
    refine rb_iadd (z := (((2 : Int32) * a3) + a4)) rfl dX4_clear_65 ?_
    refine rb_bipush (v := (-9 : Int32)) (by decide) dX4_clear_66 ?_
    refine mm_iast (k := 45) rfl ((((K).2 c1)).2).1 dX4_clear_68 ?_
    refine rb_iinc (ls' := [some (.ref h), some (.int a1), some (.int a2), some (.int a3), some (.int (a4 + (1 : Int32)))]) (v := (a4 + (1 : Int32))) rfl rfl (by decide) rfl rfl dX4_clear_69 ?_
    refine rb_goto 37 (by decide) dX4_clear_72 ?_
    exact ((((K).2 c1)).2).2
theorem sgX4_enter_0 {κ : rb_K} {M0 : rb_H} {h : Nat} {ms : mm_S} {a1 : Int32} {a2 : Int32} {a3 : Int32} {a4 : Int32} {a5 : Int32} {a6 : Int64} (K : ((¬ (ms.1 50 0) = (40 : Int32) → (vp_in (ms.1 50 0) (mm_l 51) ∧ (vp_in (ms.1 50 0) (mm_l 52) ∧ (vp_in (ms.1 50 0) (mm_l 53) ∧ (vp_in (ms.1 50 0) (mm_l 54) ∧ (vp_in (ms.1 50 0) (mm_l 55) ∧ (vp_in (ms.1 50 0) (mm_l 56) ∧ (vp_in (ms.1 50 0) (mm_l 57) ∧ (vp_in (ms.1 50 0) (mm_l 58) ∧ (vp_in (ms.1 50 0) (mm_l 59) ∧ (((60 : Int32) ≤ (ms.1 68 0) → (κ.2.2.1 (.returned none) (mm_H h (mm_sI (mm_sI (mm_sL (mm_sL (mm_sI (mm_sI (mm_sI (mm_sI (mm_sI (mm_sI ms 51 ((ms.1 50 0)).toNatClampNeg a1) 52 ((ms.1 50 0)).toNatClampNeg a2) 53 ((ms.1 50 0)).toNatClampNeg a3) 54 ((ms.1 50 0)).toNatClampNeg a4) 55 ((ms.1 50 0)).toNatClampNeg a5) 56 ((ms.1 50 0)).toNatClampNeg (0 : Int32)) 57 ((ms.1 50 0)).toNatClampNeg a6) 58 ((ms.1 50 0)).toNatClampNeg a6) 59 ((ms.1 50 0)).toNatClampNeg (0 : Int32)) 50 0 ((ms.1 50 0) + (1 : Int32))) M0))) ∧ ((ms.1 68 0) < (60 : Int32) → (vp_in (ms.1 68 0) (mm_l 69) ∧ ((¬ (a1 - a1 / (25 : Int32) * (25 : Int32)) = (24 : Int32) → (∃ (x4 : Int32) (ms5 : mm_S) (d6 : Nat), mm_C κ.1 yX4_isGiven wX4_isGiven d6 h M0 (mm_sI (mm_sI (mm_sI (mm_sL (mm_sL (mm_sI (mm_sI (mm_sI (mm_sI (mm_sI (mm_sI ms 51 ((ms.1 50 0)).toNatClampNeg a1) 52 ((ms.1 50 0)).toNatClampNeg a2) 53 ((ms.1 50 0)).toNatClampNeg a3) 54 ((ms.1 50 0)).toNatClampNeg a4) 55 ((ms.1 50 0)).toNatClampNeg a5) 56 ((ms.1 50 0)).toNatClampNeg (0 : Int32)) 57 ((ms.1 50 0)).toNatClampNeg a6) 58 ((ms.1 50 0)).toNatClampNeg a6) 59 ((ms.1 50 0)).toNatClampNeg (0 : Int32)) 50 0 ((ms.1 50 0) + (1 : Int32))) 69 ((ms.1 68 0)).toNatClampNeg (a1 / (25 : Int32))) [.int a1] (some (.int x4)) ms5 ∧ rb_dp κ d6 ∧ ((x4 = 0 → (vp_in (ms.1 68 0) (mm_l 70) ∧ ((¬ (a1 - a1 / (25 : Int32) * (25 : Int32)) = (24 : Int32) → (vp_in (ms5.1 68 0) (mm_l 71) ∧ (vp_in (ms5.1 68 0) (mm_l 72) ∧ (κ.2.2.1 (.returned none) (mm_H h (mm_sI (mm_sI (mm_sI (mm_sI ms5 70 ((ms.1 68 0)).toNatClampNeg (1 : Int32)) 71 ((ms5.1 68 0)).toNatClampNeg ((a1 - a1 / (25 : Int32) * (25 : Int32)) - (a1 - a1 / (25 : Int32) * (25 : Int32)) / (12 : Int32) * (12 : Int32))) 72 ((ms5.1 68 0)).toNatClampNeg (ms5.1 50 0)) 68 0 ((ms5.1 68 0) + (1 : Int32))) M0))))) ∧ ((a1 - a1 / (25 : Int32) * (25 : Int32)) = (24 : Int32) → (vp_in (ms5.1 68 0) (mm_l 71) ∧ (vp_in (ms5.1 68 0) (mm_l 72) ∧ (κ.2.2.1 (.returned none) (mm_H h (mm_sI (mm_sI (mm_sI (mm_sI ms5 70 ((ms.1 68 0)).toNatClampNeg (1 : Int32)) 71 ((ms5.1 68 0)).toNatClampNeg (-9 : Int32)) 72 ((ms5.1 68 0)).toNatClampNeg (ms5.1 50 0)) 68 0 ((ms5.1 68 0) + (1 : Int32))) M0)))))))) ∧ (¬ x4 = 0 → (vp_in (ms.1 68 0) (mm_l 70) ∧ ((¬ (a1 - a1 / (25 : Int32) * (25 : Int32)) = (24 : Int32) → (vp_in (ms5.1 68 0) (mm_l 71) ∧ (vp_in (ms5.1 68 0) (mm_l 72) ∧ (κ.2.2.1 (.returned none) (mm_H h (mm_sI (mm_sI (mm_sI (mm_sI ms5 70 ((ms.1 68 0)).toNatClampNeg (0 : Int32)) 71 ((ms5.1 68 0)).toNatClampNeg ((a1 - a1 / (25 : Int32) * (25 : Int32)) - (a1 - a1 / (25 : Int32) * (25 : Int32)) / (12 : Int32) * (12 : Int32))) 72 ((ms5.1 68 0)).toNatClampNeg (ms5.1 50 0)) 68 0 ((ms5.1 68 0) + (1 : Int32))) M0))))) ∧ ((a1 - a1 / (25 : Int32) * (25 : Int32)) = (24 : Int32) → (vp_in (ms5.1 68 0) (mm_l 71) ∧ (vp_in (ms5.1 68 0) (mm_l 72) ∧ (κ.2.2.1 (.returned none) (mm_H h (mm_sI (mm_sI (mm_sI (mm_sI ms5 70 ((ms.1 68 0)).toNatClampNeg (0 : Int32)) 71 ((ms5.1 68 0)).toNatClampNeg (-9 : Int32)) 72 ((ms5.1 68 0)).toNatClampNeg (ms5.1 50 0)) 68 0 ((ms5.1 68 0) + (1 : Int32))) M0))))))))))) ∧ ((a1 - a1 / (25 : Int32) * (25 : Int32)) = (24 : Int32) → (vp_in (ms.1 68 0) (mm_l 70) ∧ ((¬ (a1 - a1 / (25 : Int32) * (25 : Int32)) = (24 : Int32) → (vp_in (ms.1 68 0) (mm_l 71) ∧ (vp_in (ms.1 68 0) (mm_l 72) ∧ (κ.2.2.1 (.returned none) (mm_H h (mm_sI (mm_sI (mm_sI (mm_sI (mm_sI (mm_sI (mm_sI (mm_sL (mm_sL (mm_sI (mm_sI (mm_sI (mm_sI (mm_sI (mm_sI ms 51 ((ms.1 50 0)).toNatClampNeg a1) 52 ((ms.1 50 0)).toNatClampNeg a2) 53 ((ms.1 50 0)).toNatClampNeg a3) 54 ((ms.1 50 0)).toNatClampNeg a4) 55 ((ms.1 50 0)).toNatClampNeg a5) 56 ((ms.1 50 0)).toNatClampNeg (0 : Int32)) 57 ((ms.1 50 0)).toNatClampNeg a6) 58 ((ms.1 50 0)).toNatClampNeg a6) 59 ((ms.1 50 0)).toNatClampNeg (0 : Int32)) 50 0 ((ms.1 50 0) + (1 : Int32))) 69 ((ms.1 68 0)).toNatClampNeg (a1 / (25 : Int32))) 70 ((ms.1 68 0)).toNatClampNeg (2 : Int32)) 71 ((ms.1 68 0)).toNatClampNeg ((a1 - a1 / (25 : Int32) * (25 : Int32)) - (a1 - a1 / (25 : Int32) * (25 : Int32)) / (12 : Int32) * (12 : Int32))) 72 ((ms.1 68 0)).toNatClampNeg ((ms.1 50 0) + (1 : Int32))) 68 0 ((ms.1 68 0) + (1 : Int32))) M0))))) ∧ ((a1 - a1 / (25 : Int32) * (25 : Int32)) = (24 : Int32) → (vp_in (ms.1 68 0) (mm_l 71) ∧ (vp_in (ms.1 68 0) (mm_l 72) ∧ (κ.2.2.1 (.returned none) (mm_H h (mm_sI (mm_sI (mm_sI (mm_sI (mm_sI (mm_sI (mm_sI (mm_sL (mm_sL (mm_sI (mm_sI (mm_sI (mm_sI (mm_sI (mm_sI ms 51 ((ms.1 50 0)).toNatClampNeg a1) 52 ((ms.1 50 0)).toNatClampNeg a2) 53 ((ms.1 50 0)).toNatClampNeg a3) 54 ((ms.1 50 0)).toNatClampNeg a4) 55 ((ms.1 50 0)).toNatClampNeg a5) 56 ((ms.1 50 0)).toNatClampNeg (0 : Int32)) 57 ((ms.1 50 0)).toNatClampNeg a6) 58 ((ms.1 50 0)).toNatClampNeg a6) 59 ((ms.1 50 0)).toNatClampNeg (0 : Int32)) 50 0 ((ms.1 50 0) + (1 : Int32))) 69 ((ms.1 68 0)).toNatClampNeg (a1 / (25 : Int32))) 70 ((ms.1 68 0)).toNatClampNeg (2 : Int32)) 71 ((ms.1 68 0)).toNatClampNeg (-9 : Int32)) 72 ((ms.1 68 0)).toNatClampNeg ((ms.1 50 0) + (1 : Int32))) 68 0 ((ms.1 68 0) + (1 : Int32))) M0)))))))))))))))))))))) ∧ ((ms.1 50 0) = (40 : Int32) → (κ.2.2.1 (.returned none) (mm_H h (mm_sI (mm_sI ms 61 0 (4 : Int32)) 50 0 (0 : Int32)) M0))))) : rb_Bd κ mX4_enter (0, 0) (mm_H h ms M0) 0 [some (.ref h), some (.int a1), some (.int a2), some (.int a3), some (.int a4), some (.int a5), some (.long a6), none] [] := by
  refine rb_aload_n 0 rfl rfl (rb_isR_ref _) dX4_enter_0 ?_
  refine mm_getI (v := (ms.1 50 0)) rfl fl_X4_285 rfl dX4_enter_1 ?_
  refine rb_bipush (v := (40 : Int32)) (by decide) dX4_enter_4 ?_
  refine rb_icne 20 (by decide) dX4_enter_6 (fun c1 => ?_) (fun c1 => ?_)
  · skip
    refine rb_aload_n 0 rfl rfl (rb_isR_ref _) dX4_enter_20 ?_
    refine mm_getA (t := 2) fl_X4_137 rfl (by decide) dX4_enter_21 ?_
    refine rb_aload_n 0 rfl rfl (rb_isR_ref _) dX4_enter_24 ?_
    refine mm_getI (v := (ms.1 50 0)) rfl fl_X4_285 rfl dX4_enter_25 ?_
    refine rb_iload_n 1 rfl rfl dX4_enter_28 ?_
    refine mm_iast (k := 51) rfl (((K).1 c1)).1 dX4_enter_29 ?_
    refine rb_aload_n 0 rfl rfl (rb_isR_ref _) dX4_enter_30 ?_
    refine mm_getA (t := 2) fl_X4_140 rfl (by decide) dX4_enter_31 ?_
    refine rb_aload_n 0 rfl rfl (rb_isR_ref _) dX4_enter_34 ?_
    refine mm_getI (v := (ms.1 50 0)) rfl fl_X4_285 rfl dX4_enter_35 ?_
    refine rb_iload_n 2 rfl rfl dX4_enter_38 ?_
    refine mm_iast (k := 52) rfl ((((K).1 c1)).2).1 dX4_enter_39 ?_
    refine rb_aload_n 0 rfl rfl (rb_isR_ref _) dX4_enter_40 ?_
    refine mm_getA (t := 2) fl_X4_143 rfl (by decide) dX4_enter_41 ?_
    refine rb_aload_n 0 rfl rfl (rb_isR_ref _) dX4_enter_44 ?_
    refine mm_getI (v := (ms.1 50 0)) rfl fl_X4_285 rfl dX4_enter_45 ?_
    refine rb_iload_n 3 rfl rfl dX4_enter_48 ?_
    refine mm_iast (k := 53) rfl (((((K).1 c1)).2).2).1 dX4_enter_49 ?_
    refine rb_aload_n 0 rfl rfl (rb_isR_ref _) dX4_enter_50 ?_
    refine mm_getA (t := 2) fl_X4_146 rfl (by decide) dX4_enter_51 ?_
    refine rb_aload_n 0 rfl rfl (rb_isR_ref _) dX4_enter_54 ?_
    refine mm_getI (v := (ms.1 50 0)) rfl fl_X4_285 rfl dX4_enter_55 ?_
    refine rb_iload rfl dX4_enter_58 ?_
    refine mm_iast (k := 54) rfl ((((((K).1 c1)).2).2).2).1 dX4_enter_60 ?_
    refine rb_aload_n 0 rfl rfl (rb_isR_ref _) dX4_enter_61 ?_
    refine mm_getA (t := 2) fl_X4_149 rfl (by decide) dX4_enter_62 ?_
    refine rb_aload_n 0 rfl rfl (rb_isR_ref _) dX4_enter_65 ?_
    refine mm_getI (v := (ms.1 50 0)) rfl fl_X4_285 rfl dX4_enter_66 ?_
    refine rb_iload rfl dX4_enter_69 ?_
    refine mm_iast (k := 55) rfl (((((((K).1 c1)).2).2).2).2).1 dX4_enter_71 ?_
    refine rb_aload_n 0 rfl rfl (rb_isR_ref _) dX4_enter_72 ?_
    refine mm_getA (t := 2) fl_X4_152 rfl (by decide) dX4_enter_73 ?_
    refine rb_aload_n 0 rfl rfl (rb_isR_ref _) dX4_enter_76 ?_
    refine mm_getI (v := (ms.1 50 0)) rfl fl_X4_285 rfl dX4_enter_77 ?_
    refine rb_iconst (v := (0 : Int32)) (by decide) dX4_enter_80 ?_
    refine mm_iast (k := 56) rfl ((((((((K).1 c1)).2).2).2).2).2).1 dX4_enter_81 ?_
    refine rb_aload_n 0 rfl rfl (rb_isR_ref _) dX4_enter_82 ?_
    refine mm_getA (t := 3) fl_X4_155 rfl (by decide) dX4_enter_83 ?_
    refine rb_aload_n 0 rfl rfl (rb_isR_ref _) dX4_enter_86 ?_
    refine mm_getI (v := (ms.1 50 0)) rfl fl_X4_285 rfl dX4_enter_87 ?_
    refine rb_lload rfl dX4_enter_90 ?_
    refine mm_last (k := 57) rfl (((((((((K).1 c1)).2).2).2).2).2).2).1 dX4_enter_92 ?_
    refine rb_aload_n 0 rfl rfl (rb_isR_ref _) dX4_enter_93 ?_
    refine mm_getA (t := 3) fl_X4_158 rfl (by decide) dX4_enter_94 ?_
    refine rb_aload_n 0 rfl rfl (rb_isR_ref _) dX4_enter_97 ?_
    refine mm_getI (v := (ms.1 50 0)) rfl fl_X4_285 rfl dX4_enter_98 ?_
    refine rb_lload rfl dX4_enter_101 ?_
    refine mm_last (k := 58) rfl ((((((((((K).1 c1)).2).2).2).2).2).2).2).1 dX4_enter_103 ?_
    refine rb_aload_n 0 rfl rfl (rb_isR_ref _) dX4_enter_104 ?_
    refine mm_getA (t := 4) fl_X4_161 rfl (by decide) dX4_enter_105 ?_
    refine rb_aload_n 0 rfl rfl (rb_isR_ref _) dX4_enter_108 ?_
    refine mm_getI (v := (ms.1 50 0)) rfl fl_X4_285 rfl dX4_enter_109 ?_
    refine rb_iconst (v := (0 : Int32)) (by decide) dX4_enter_112 ?_
    refine mm_zast (k := 59) (y := (0 : Int32)) rfl (((((((((((K).1 c1)).2).2).2).2).2).2).2).2).1 (by decide) dX4_enter_113 ?_
    refine rb_aload_n 0 rfl rfl (rb_isR_ref _) dX4_enter_114 ?_
    refine rb_dup rfl dX4_enter_115 ?_
    refine mm_getI (v := (ms.1 50 0)) rfl fl_X4_285 rfl dX4_enter_116 ?_
    refine rb_iconst (v := (1 : Int32)) (by decide) dX4_enter_119 ?_
    refine rb_iadd (z := ((ms.1 50 0) + (1 : Int32))) rfl dX4_enter_120 ?_
    refine mm_putI fl_X4_285 rfl dX4_enter_121 ?_
    refine rb_aload_n 0 rfl rfl (rb_isR_ref _) dX4_enter_124 ?_
    refine mm_getI (v := (ms.1 68 0)) rfl fl_X4_291 rfl dX4_enter_125 ?_
    refine rb_bipush (v := (60 : Int32)) (by decide) dX4_enter_128 ?_
    refine rb_icge 233 (by decide) dX4_enter_130 (fun c2 => ?_) (fun c2 => ?_)
    · skip
      exact rb_vret rfl (Nat.zero_le _) (Nat.zero_le _) dX4_enter_233 (((((((((((((K).1 c1)).2).2).2).2).2).2).2).2).2).1 c2)
    · skip
      refine rb_aload_n 0 rfl rfl (rb_isR_ref _) dX4_enter_133 ?_
      refine mm_getA (t := 2) fl_X4_173 rfl (by decide) dX4_enter_134 ?_
      refine rb_aload_n 0 rfl rfl (rb_isR_ref _) dX4_enter_137 ?_
      refine mm_getI (v := (ms.1 68 0)) rfl fl_X4_291 rfl dX4_enter_138 ?_
      refine rb_iload_n 1 rfl rfl dX4_enter_141 ?_
      refine rb_bipush (v := (25 : Int32)) (by decide) dX4_enter_142 ?_
      refine rb_idiv (z := (a1 / (25 : Int32))) (by decide) rfl dX4_enter_144 ?_
      refine mm_iast (k := 69) rfl ((((((((((((((K).1 c1)).2).2).2).2).2).2).2).2).2).2 c2)).1 dX4_enter_145 ?_
      refine rb_aload_n 0 rfl rfl (rb_isR_ref _) dX4_enter_146 ?_
      refine mm_getA (t := 2) fl_X4_176 rfl (by decide) dX4_enter_147 ?_
      refine rb_aload_n 0 rfl rfl (rb_isR_ref _) dX4_enter_150 ?_
      refine mm_getI (v := (ms.1 68 0)) rfl fl_X4_291 rfl dX4_enter_151 ?_
      refine rb_iload_n 1 rfl rfl dX4_enter_154 ?_
      refine rb_bipush (v := (25 : Int32)) (by decide) dX4_enter_155 ?_
      refine rb_irem (z := (a1 - a1 / (25 : Int32) * (25 : Int32))) (by decide) rfl dX4_enter_157 ?_
      refine rb_bipush (v := (24 : Int32)) (by decide) dX4_enter_158 ?_
      refine rb_icne 167 (by decide) dX4_enter_160 (fun c3 => ?_) (fun c3 => ?_)
      · skip
        refine rb_iload_n 1 rfl rfl dX4_enter_167 ?_
        obtain ⟨x4, ms5, d6, h1, h2, Kx4⟩ := ((((((((((((((((K).1 c1)).2).2).2).2).2).2).2).2).2).2 c2)).2).1 c3)
        refine mm_call st_X4_246 (rest := [.int (ms.1 68 0), .ref (h + mm_p 70)]) h1 rfl rfl mm_rn (Nat.le_of_ble_eq_true rfl) h2 dX4_enter_168 ?_
        show rb_Bd κ mX4_enter (0, 0) (mm_H h ms5 M0) 171 [some (.ref h), some (.int a1), some (.int a2), some (.int a3), some (.int a4), some (.int a5), some (.long a6), none] [.int x4, .int (ms.1 68 0), .ref (h + mm_p 70)]
        refine rb_ifeq 178 (by decide) dX4_enter_171 (fun c7 => ?_) (fun c7 => ?_)
        · skip
          refine rb_iconst (v := (1 : Int32)) (by decide) dX4_enter_178 ?_
          refine mm_iast (k := 70) rfl (((Kx4).1 c7)).1 dX4_enter_179 ?_
          refine rb_aload_n 0 rfl rfl (rb_isR_ref _) dX4_enter_180 ?_
          refine mm_getA (t := 2) fl_X4_179 rfl (by decide) dX4_enter_181 ?_
          refine rb_aload_n 0 rfl rfl (rb_isR_ref _) dX4_enter_184 ?_
          refine mm_getI (v := (ms5.1 68 0)) rfl fl_X4_291 rfl dX4_enter_185 ?_
          refine rb_iload_n 1 rfl rfl dX4_enter_188 ?_
          refine rb_bipush (v := (25 : Int32)) (by decide) dX4_enter_189 ?_
          refine rb_irem (z := (a1 - a1 / (25 : Int32) * (25 : Int32))) (by decide) rfl dX4_enter_191 ?_
          refine rb_bipush (v := (24 : Int32)) (by decide) dX4_enter_192 ?_
          refine rb_icne 202 (by decide) dX4_enter_194 (fun c8 => ?_) (fun c8 => ?_)
          · skip
            refine rb_iload_n 1 rfl rfl dX4_enter_202 ?_
            refine rb_bipush (v := (25 : Int32)) (by decide) dX4_enter_203 ?_
            refine rb_irem (z := (a1 - a1 / (25 : Int32) * (25 : Int32))) (by decide) rfl dX4_enter_205 ?_
            refine rb_bipush (v := (12 : Int32)) (by decide) dX4_enter_206 ?_
            refine rb_irem (z := ((a1 - a1 / (25 : Int32) * (25 : Int32)) - (a1 - a1 / (25 : Int32) * (25 : Int32)) / (12 : Int32) * (12 : Int32))) (by decide) rfl dX4_enter_208 ?_
            refine mm_iast (k := 71) rfl ((((((Kx4).1 c7)).2).1 c8)).1 dX4_enter_209 ?_
            refine rb_aload_n 0 rfl rfl (rb_isR_ref _) dX4_enter_210 ?_
            refine mm_getA (t := 2) fl_X4_182 rfl (by decide) dX4_enter_211 ?_
            refine rb_aload_n 0 rfl rfl (rb_isR_ref _) dX4_enter_214 ?_
            refine mm_getI (v := (ms5.1 68 0)) rfl fl_X4_291 rfl dX4_enter_215 ?_
            refine rb_aload_n 0 rfl rfl (rb_isR_ref _) dX4_enter_218 ?_
            refine mm_getI (v := (ms5.1 50 0)) rfl fl_X4_285 rfl dX4_enter_219 ?_
            refine mm_iast (k := 72) rfl (((((((Kx4).1 c7)).2).1 c8)).2).1 dX4_enter_222 ?_
            refine rb_aload_n 0 rfl rfl (rb_isR_ref _) dX4_enter_223 ?_
            refine rb_dup rfl dX4_enter_224 ?_
            refine mm_getI (v := (ms5.1 68 0)) rfl fl_X4_291 rfl dX4_enter_225 ?_
            refine rb_iconst (v := (1 : Int32)) (by decide) dX4_enter_228 ?_
            refine rb_iadd (z := ((ms5.1 68 0) + (1 : Int32))) rfl dX4_enter_229 ?_
            refine mm_putI fl_X4_291 rfl dX4_enter_230 ?_
            exact rb_vret rfl (Nat.zero_le _) (Nat.zero_le _) dX4_enter_233 (((((((Kx4).1 c7)).2).1 c8)).2).2
          · skip
            refine rb_bipush (v := (-9 : Int32)) (by decide) dX4_enter_197 ?_
            refine rb_goto 209 (by decide) dX4_enter_199 ?_
            refine mm_iast (k := 71) rfl ((((((Kx4).1 c7)).2).2 c8)).1 dX4_enter_209 ?_
            refine rb_aload_n 0 rfl rfl (rb_isR_ref _) dX4_enter_210 ?_
            refine mm_getA (t := 2) fl_X4_182 rfl (by decide) dX4_enter_211 ?_
            refine rb_aload_n 0 rfl rfl (rb_isR_ref _) dX4_enter_214 ?_
            refine mm_getI (v := (ms5.1 68 0)) rfl fl_X4_291 rfl dX4_enter_215 ?_
            refine rb_aload_n 0 rfl rfl (rb_isR_ref _) dX4_enter_218 ?_
            refine mm_getI (v := (ms5.1 50 0)) rfl fl_X4_285 rfl dX4_enter_219 ?_
            refine mm_iast (k := 72) rfl (((((((Kx4).1 c7)).2).2 c8)).2).1 dX4_enter_222 ?_
            refine rb_aload_n 0 rfl rfl (rb_isR_ref _) dX4_enter_223 ?_
            refine rb_dup rfl dX4_enter_224 ?_
            refine mm_getI (v := (ms5.1 68 0)) rfl fl_X4_291 rfl dX4_enter_225 ?_
            refine rb_iconst (v := (1 : Int32)) (by decide) dX4_enter_228 ?_
            refine rb_iadd (z := ((ms5.1 68 0) + (1 : Int32))) rfl dX4_enter_229 ?_
            refine mm_putI fl_X4_291 rfl dX4_enter_230 ?_
            exact rb_vret rfl (Nat.zero_le _) (Nat.zero_le _) dX4_enter_233 (((((((Kx4).1 c7)).2).2 c8)).2).2
        · skip
          refine rb_iconst (v := (0 : Int32)) (by decide) dX4_enter_174 ?_
          refine rb_goto 179 (by decide) dX4_enter_175 ?_
          refine mm_iast (k := 70) rfl (((Kx4).2 c7)).1 dX4_enter_179 ?_
          refine rb_aload_n 0 rfl rfl (rb_isR_ref _) dX4_enter_180 ?_
          refine mm_getA (t := 2) fl_X4_179 rfl (by decide) dX4_enter_181 ?_
          refine rb_aload_n 0 rfl rfl (rb_isR_ref _) dX4_enter_184 ?_
          refine mm_getI (v := (ms5.1 68 0)) rfl fl_X4_291 rfl dX4_enter_185 ?_
          refine rb_iload_n 1 rfl rfl dX4_enter_188 ?_
          refine rb_bipush (v := (25 : Int32)) (by decide) dX4_enter_189 ?_
          refine rb_irem (z := (a1 - a1 / (25 : Int32) * (25 : Int32))) (by decide) rfl dX4_enter_191 ?_
          refine rb_bipush (v := (24 : Int32)) (by decide) dX4_enter_192 ?_
          refine rb_icne 202 (by decide) dX4_enter_194 (fun c9 => ?_) (fun c9 => ?_)
          · skip
            refine rb_iload_n 1 rfl rfl dX4_enter_202 ?_
            refine rb_bipush (v := (25 : Int32)) (by decide) dX4_enter_203 ?_
            refine rb_irem (z := (a1 - a1 / (25 : Int32) * (25 : Int32))) (by decide) rfl dX4_enter_205 ?_
            refine rb_bipush (v := (12 : Int32)) (by decide) dX4_enter_206 ?_
            refine rb_irem (z := ((a1 - a1 / (25 : Int32) * (25 : Int32)) - (a1 - a1 / (25 : Int32) * (25 : Int32)) / (12 : Int32) * (12 : Int32))) (by decide) rfl dX4_enter_208 ?_
            refine mm_iast (k := 71) rfl ((((((Kx4).2 c7)).2).1 c9)).1 dX4_enter_209 ?_
            refine rb_aload_n 0 rfl rfl (rb_isR_ref _) dX4_enter_210 ?_
            refine mm_getA (t := 2) fl_X4_182 rfl (by decide) dX4_enter_211 ?_
            refine rb_aload_n 0 rfl rfl (rb_isR_ref _) dX4_enter_214 ?_
            refine mm_getI (v := (ms5.1 68 0)) rfl fl_X4_291 rfl dX4_enter_215 ?_
            refine rb_aload_n 0 rfl rfl (rb_isR_ref _) dX4_enter_218 ?_
            refine mm_getI (v := (ms5.1 50 0)) rfl fl_X4_285 rfl dX4_enter_219 ?_
            refine mm_iast (k := 72) rfl (((((((Kx4).2 c7)).2).1 c9)).2).1 dX4_enter_222 ?_
            refine rb_aload_n 0 rfl rfl (rb_isR_ref _) dX4_enter_223 ?_
            refine rb_dup rfl dX4_enter_224 ?_
            refine mm_getI (v := (ms5.1 68 0)) rfl fl_X4_291 rfl dX4_enter_225 ?_
            refine rb_iconst (v := (1 : Int32)) (by decide) dX4_enter_228 ?_
            refine rb_iadd (z := ((ms5.1 68 0) + (1 : Int32))) rfl dX4_enter_229 ?_
            refine mm_putI fl_X4_291 rfl dX4_enter_230 ?_
            exact rb_vret rfl (Nat.zero_le _) (Nat.zero_le _) dX4_enter_233 (((((((Kx4).2 c7)).2).1 c9)).2).2
          · skip
            refine rb_bipush (v := (-9 : Int32)) (by decide) dX4_enter_197 ?_
            refine rb_goto 209 (by decide) dX4_enter_199 ?_
            refine mm_iast (k := 71) rfl ((((((Kx4).2 c7)).2).2 c9)).1 dX4_enter_209 ?_
            refine rb_aload_n 0 rfl rfl (rb_isR_ref _) dX4_enter_210 ?_
            refine mm_getA (t := 2) fl_X4_182 rfl (by decide) dX4_enter_211 ?_
            refine rb_aload_n 0 rfl rfl (rb_isR_ref _) dX4_enter_214 ?_
            refine mm_getI (v := (ms5.1 68 0)) rfl fl_X4_291 rfl dX4_enter_215 ?_
            refine rb_aload_n 0 rfl rfl (rb_isR_ref _) dX4_enter_218 ?_
            refine mm_getI (v := (ms5.1 50 0)) rfl fl_X4_285 rfl dX4_enter_219 ?_
            refine mm_iast (k := 72) rfl (((((((Kx4).2 c7)).2).2 c9)).2).1 dX4_enter_222 ?_
            refine rb_aload_n 0 rfl rfl (rb_isR_ref _) dX4_enter_223 ?_
            refine rb_dup rfl dX4_enter_224 ?_
            refine mm_getI (v := (ms5.1 68 0)) rfl fl_X4_291 rfl dX4_enter_225 ?_
            refine rb_iconst (v := (1 : Int32)) (by decide) dX4_enter_228 ?_
            refine rb_iadd (z := ((ms5.1 68 0) + (1 : Int32))) rfl dX4_enter_229 ?_
            refine mm_putI fl_X4_291 rfl dX4_enter_230 ?_
            exact rb_vret rfl (Nat.zero_le _) (Nat.zero_le _) dX4_enter_233 (((((((Kx4).2 c7)).2).2 c9)).2).2
      · skip
        refine rb_iconst (v := (2 : Int32)) (by decide) dX4_enter_163 ?_
        refine rb_goto 179 (by decide) dX4_enter_164 ?_
        refine mm_iast (k := 70) rfl (((((((((((((((((K).1 c1)).2).2).2).2).2).2).2).2).2).2 c2)).2).2 c3)).1 dX4_enter_179 ?_
        refine rb_aload_n 0 rfl rfl (rb_isR_ref _) dX4_enter_180 ?_
        refine mm_getA (t := 2) fl_X4_179 rfl (by decide) dX4_enter_181 ?_
        refine rb_aload_n 0 rfl rfl (rb_isR_ref _) dX4_enter_184 ?_
        refine mm_getI (v := (ms.1 68 0)) rfl fl_X4_291 rfl dX4_enter_185 ?_
        refine rb_iload_n 1 rfl rfl dX4_enter_188 ?_
        refine rb_bipush (v := (25 : Int32)) (by decide) dX4_enter_189 ?_
        refine rb_irem (z := (a1 - a1 / (25 : Int32) * (25 : Int32))) (by decide) rfl dX4_enter_191 ?_
        refine rb_bipush (v := (24 : Int32)) (by decide) dX4_enter_192 ?_
        refine rb_icne 202 (by decide) dX4_enter_194 (fun c10 => ?_) (fun c10 => ?_)
        · skip
          refine rb_iload_n 1 rfl rfl dX4_enter_202 ?_
          refine rb_bipush (v := (25 : Int32)) (by decide) dX4_enter_203 ?_
          refine rb_irem (z := (a1 - a1 / (25 : Int32) * (25 : Int32))) (by decide) rfl dX4_enter_205 ?_
          refine rb_bipush (v := (12 : Int32)) (by decide) dX4_enter_206 ?_
          refine rb_irem (z := ((a1 - a1 / (25 : Int32) * (25 : Int32)) - (a1 - a1 / (25 : Int32) * (25 : Int32)) / (12 : Int32) * (12 : Int32))) (by decide) rfl dX4_enter_208 ?_
          refine mm_iast (k := 71) rfl ((((((((((((((((((((K).1 c1)).2).2).2).2).2).2).2).2).2).2 c2)).2).2 c3)).2).1 c10)).1 dX4_enter_209 ?_
          refine rb_aload_n 0 rfl rfl (rb_isR_ref _) dX4_enter_210 ?_
          refine mm_getA (t := 2) fl_X4_182 rfl (by decide) dX4_enter_211 ?_
          refine rb_aload_n 0 rfl rfl (rb_isR_ref _) dX4_enter_214 ?_
          refine mm_getI (v := (ms.1 68 0)) rfl fl_X4_291 rfl dX4_enter_215 ?_
          refine rb_aload_n 0 rfl rfl (rb_isR_ref _) dX4_enter_218 ?_
          refine mm_getI (v := ((ms.1 50 0) + (1 : Int32))) rfl fl_X4_285 rfl dX4_enter_219 ?_
          refine mm_iast (k := 72) rfl (((((((((((((((((((((K).1 c1)).2).2).2).2).2).2).2).2).2).2 c2)).2).2 c3)).2).1 c10)).2).1 dX4_enter_222 ?_
          refine rb_aload_n 0 rfl rfl (rb_isR_ref _) dX4_enter_223 ?_
          refine rb_dup rfl dX4_enter_224 ?_
          refine mm_getI (v := (ms.1 68 0)) rfl fl_X4_291 rfl dX4_enter_225 ?_
          refine rb_iconst (v := (1 : Int32)) (by decide) dX4_enter_228 ?_
          refine rb_iadd (z := ((ms.1 68 0) + (1 : Int32))) rfl dX4_enter_229 ?_
          refine mm_putI fl_X4_291 rfl dX4_enter_230 ?_
          exact rb_vret rfl (Nat.zero_le _) (Nat.zero_le _) dX4_enter_233 (((((((((((((((((((((K).1 c1)).2).2).2).2).2).2).2).2).2).2 c2)).2).2 c3)).2).1 c10)).2).2
        · skip
          refine rb_bipush (v := (-9 : Int32)) (by decide) dX4_enter_197 ?_
          refine rb_goto 209 (by decide) dX4_enter_199 ?_
          refine mm_iast (k := 71) rfl ((((((((((((((((((((K).1 c1)).2).2).2).2).2).2).2).2).2).2 c2)).2).2 c3)).2).2 c10)).1 dX4_enter_209 ?_
          refine rb_aload_n 0 rfl rfl (rb_isR_ref _) dX4_enter_210 ?_
          refine mm_getA (t := 2) fl_X4_182 rfl (by decide) dX4_enter_211 ?_
          refine rb_aload_n 0 rfl rfl (rb_isR_ref _) dX4_enter_214 ?_
          refine mm_getI (v := (ms.1 68 0)) rfl fl_X4_291 rfl dX4_enter_215 ?_
          refine rb_aload_n 0 rfl rfl (rb_isR_ref _) dX4_enter_218 ?_
          refine mm_getI (v := ((ms.1 50 0) + (1 : Int32))) rfl fl_X4_285 rfl dX4_enter_219 ?_
          refine mm_iast (k := 72) rfl (((((((((((((((((((((K).1 c1)).2).2).2).2).2).2).2).2).2).2 c2)).2).2 c3)).2).2 c10)).2).1 dX4_enter_222 ?_
          refine rb_aload_n 0 rfl rfl (rb_isR_ref _) dX4_enter_223 ?_
          refine rb_dup rfl dX4_enter_224 ?_
          refine mm_getI (v := (ms.1 68 0)) rfl fl_X4_291 rfl dX4_enter_225 ?_
          refine rb_iconst (v := (1 : Int32)) (by decide) dX4_enter_228 ?_
          refine rb_iadd (z := ((ms.1 68 0) + (1 : Int32))) rfl dX4_enter_229 ?_
          refine mm_putI fl_X4_291 rfl dX4_enter_230 ?_
          exact rb_vret rfl (Nat.zero_le _) (Nat.zero_le _) dX4_enter_233 (((((((((((((((((((((K).1 c1)).2).2).2).2).2).2).2).2).2).2 c2)).2).2 c3)).2).2 c10)).2).2
  · skip
    refine rb_aload_n 0 rfl rfl (rb_isR_ref _) dX4_enter_9 ?_
    refine rb_iconst (v := (4 : Int32)) (by decide) dX4_enter_10 ?_
    refine mm_putI fl_X4_301 rfl dX4_enter_11 ?_
    refine rb_aload_n 0 rfl rfl (rb_isR_ref _) dX4_enter_14 ?_
    refine rb_iconst (v := (0 : Int32)) (by decide) dX4_enter_15 ?_
    refine mm_putI fl_X4_285 rfl dX4_enter_16 ?_
    exact rb_vret rfl (Nat.zero_le _) (Nat.zero_le _) dX4_enter_19 ((K).2 c1)
theorem sgX4_goes_0 {κ : rb_K} {M0 : rb_H} {h : Nat} {ms : mm_S}  (K : (((ms.1 50 0) ≤ 0 → (κ.2.2.1 (.returned none) (mm_H h ms M0))) ∧ (0 < (ms.1 50 0) → (∃ (ms3 : mm_S) (d4 : Nat), mm_C κ.1 yX4_goOn wX4_goOn d4 h M0 ms [.ref h] (none) ms3 ∧ rb_dp κ d4 ∧ rb_Bd κ mX4_goes (0, 0) (mm_H h ms3 M0) 0 [some (.ref h)] [])))) : rb_Bd κ mX4_goes (0, 0) (mm_H h ms M0) 0 [some (.ref h)] [] := by
  refine rb_aload_n 0 rfl rfl (rb_isR_ref _) dX4_goes_0 ?_
  refine mm_getI (v := (ms.1 50 0)) rfl fl_X4_285 rfl dX4_goes_1 ?_
  refine rb_ifle 14 (by decide) dX4_goes_4 (fun c1 => ?_) (fun c1 => ?_)
  · skip
    exact rb_vret rfl (Nat.zero_le _) (Nat.zero_le _) dX4_goes_14 ((K).1 c1)
  · skip
    refine rb_aload_n 0 rfl rfl (rb_isR_ref _) dX4_goes_7 ?_
    obtain ⟨ms3, d4, h1, h2, Kx2⟩ := ((K).2 c1)
    refine mm_call st_X4_354 (rest := []) h1 rfl rfl mm_rc (Nat.le_of_ble_eq_true rfl) h2 dX4_goes_8 ?_
    show rb_Bd κ mX4_goes (0, 0) (mm_H h ms3 M0) 11 [some (.ref h)] []
    refine rb_goto 0 (by decide) dX4_goes_11 ?_
    exact Kx2
theorem sgX4_goOn_0 {κ : rb_K} {M0 : rb_H} {h : Nat} {ms : mm_S}  (K : (vp_in ((ms.1 50 0) - (1 : Int32)) (mm_l 51) ∧ (vp_in ((ms.1 50 0) - (1 : Int32)) (mm_l 56) ∧ (vp_in (ms.1 51 (((ms.1 50 0) - (1 : Int32))).toNatClampNeg) (mm_l 10) ∧ (((ms.1 56 (((ms.1 50 0) - (1 : Int32))).toNatClampNeg) < (ms.1 10 ((ms.1 51 (((ms.1 50 0) - (1 : Int32))).toNatClampNeg)).toNatClampNeg) → ((¬ (ms.1 60 0) = (1500 : Int32) → (vp_in ((ms.1 50 0) - (1 : Int32)) (mm_l 56) ∧ (vp_in ((ms.1 50 0) - (1 : Int32)) (mm_l 56) ∧ (vp_in ((ms.1 50 0) - (1 : Int32)) (mm_l 56) ∧ (vp_in (((10 : Int32) * (ms.1 51 (((ms.1 50 0) - (1 : Int32))).toNatClampNeg)) + (ms.1 56 (((ms.1 50 0) - (1 : Int32))).toNatClampNeg)) (mm_l 12) ∧ (((9 : Int32) ≤ (ms.1 12 ((((10 : Int32) * (ms.1 51 (((ms.1 50 0) - (1 : Int32))).toNatClampNeg)) + (ms.1 56 (((ms.1 50 0) - (1 : Int32))).toNatClampNeg))).toNatClampNeg) → (vp_in (((10 : Int32) * (ms.1 51 (((ms.1 50 0) - (1 : Int32))).toNatClampNeg)) + (ms.1 56 (((ms.1 50 0) - (1 : Int32))).toNatClampNeg)) (mm_l 12) ∧ (vp_in (((10 : Int32) * (ms.1 51 (((ms.1 50 0) - (1 : Int32))).toNatClampNeg)) + (ms.1 56 (((ms.1 50 0) - (1 : Int32))).toNatClampNeg)) (mm_l 13) ∧ (vp_in (((10 : Int32) * (ms.1 51 (((ms.1 50 0) - (1 : Int32))).toNatClampNeg)) + (ms.1 56 (((ms.1 50 0) - (1 : Int32))).toNatClampNeg)) (mm_l 14) ∧ (∃ (ms5 : mm_S) (d6 : Nat), mm_C κ.1 yX4_control wX4_control d6 h M0 (mm_sI (mm_sI ms 60 0 ((ms.1 60 0) + (1 : Int32))) 56 (((ms.1 50 0) - (1 : Int32))).toNatClampNeg ((ms.1 56 (((ms.1 50 0) - (1 : Int32))).toNatClampNeg) + (1 : Int32))) [.ref h, .int ((ms.1 50 0) - (1 : Int32)), .int (ms.1 12 ((((10 : Int32) * (ms.1 51 (((ms.1 50 0) - (1 : Int32))).toNatClampNeg)) + (ms.1 56 (((ms.1 50 0) - (1 : Int32))).toNatClampNeg))).toNatClampNeg), .int (ms.1 13 ((((10 : Int32) * (ms.1 51 (((ms.1 50 0) - (1 : Int32))).toNatClampNeg)) + (ms.1 56 (((ms.1 50 0) - (1 : Int32))).toNatClampNeg))).toNatClampNeg), .int (ms.1 14 ((((10 : Int32) * (ms.1 51 (((ms.1 50 0) - (1 : Int32))).toNatClampNeg)) + (ms.1 56 (((ms.1 50 0) - (1 : Int32))).toNatClampNeg))).toNatClampNeg)] (none) ms5 ∧ rb_dp κ d6 ∧ (κ.2.2.1 (.returned none) (mm_H h ms5 M0))))))) ∧ ((ms.1 12 ((((10 : Int32) * (ms.1 51 (((ms.1 50 0) - (1 : Int32))).toNatClampNeg)) + (ms.1 56 (((ms.1 50 0) - (1 : Int32))).toNatClampNeg))).toNatClampNeg) < (9 : Int32) → (vp_in (((10 : Int32) * (ms.1 51 (((ms.1 50 0) - (1 : Int32))).toNatClampNeg)) + (ms.1 56 (((ms.1 50 0) - (1 : Int32))).toNatClampNeg)) (mm_l 12) ∧ (vp_in (((10 : Int32) * (ms.1 51 (((ms.1 50 0) - (1 : Int32))).toNatClampNeg)) + (ms.1 56 (((ms.1 50 0) - (1 : Int32))).toNatClampNeg)) (mm_l 13) ∧ (∃ (ms8 : mm_S) (d9 : Nat), mm_C κ.1 yX4_reckon wX4_reckon d9 h M0 (mm_sI (mm_sI ms 60 0 ((ms.1 60 0) + (1 : Int32))) 56 (((ms.1 50 0) - (1 : Int32))).toNatClampNeg ((ms.1 56 (((ms.1 50 0) - (1 : Int32))).toNatClampNeg) + (1 : Int32))) [.ref h, .int ((ms.1 50 0) - (1 : Int32)), .int (ms.1 12 ((((10 : Int32) * (ms.1 51 (((ms.1 50 0) - (1 : Int32))).toNatClampNeg)) + (ms.1 56 (((ms.1 50 0) - (1 : Int32))).toNatClampNeg))).toNatClampNeg), .int (ms.1 13 ((((10 : Int32) * (ms.1 51 (((ms.1 50 0) - (1 : Int32))).toNatClampNeg)) + (ms.1 56 (((ms.1 50 0) - (1 : Int32))).toNatClampNeg))).toNatClampNeg)] (none) ms8 ∧ rb_dp κ d9 ∧ (κ.2.2.1 (.returned none) (mm_H h ms8 M0)))))))))))) ∧ ((ms.1 60 0) = (1500 : Int32) → (κ.2.2.1 (.returned none) (mm_H h (mm_sI (mm_sI ms 61 0 (3 : Int32)) 50 0 (0 : Int32)) M0))))) ∧ ((ms.1 10 ((ms.1 51 (((ms.1 50 0) - (1 : Int32))).toNatClampNeg)).toNatClampNeg) ≤ (ms.1 56 (((ms.1 50 0) - (1 : Int32))).toNatClampNeg) → (vp_in ((ms.1 50 0) - (1 : Int32)) (mm_l 57) ∧ ((¬ ((ms.1 50 0) - (1 : Int32)) = 0 → (vp_in (((ms.1 50 0) - (1 : Int32)) - (1 : Int32)) (mm_l 57) ∧ (κ.2.2.1 (.returned none) (mm_H h (mm_sL (mm_sI ms 50 0 ((ms.1 50 0) - (1 : Int32))) 57 ((((ms.1 50 0) - (1 : Int32)) - (1 : Int32))).toNatClampNeg (ms.2 57 (((ms.1 50 0) - (1 : Int32))).toNatClampNeg)) M0)))) ∧ (((ms.1 50 0) - (1 : Int32)) = 0 → (κ.2.2.1 (.returned none) (mm_H h (mm_sI (mm_sL (mm_sI ms 50 0 ((ms.1 50 0) - (1 : Int32))) 63 0 (ms.2 57 (((ms.1 50 0) - (1 : Int32))).toNatClampNeg)) 61 0 (0 : Int32)) M0))))))))))) : rb_Bd κ mX4_goOn (0, 0) (mm_H h ms M0) 0 [some (.ref h), none, none, none, none] [] := by
  refine rb_aload_n 0 rfl rfl (rb_isR_ref _) dX4_goOn_0 ?_
  refine mm_getI (v := (ms.1 50 0)) rfl fl_X4_285 rfl dX4_goOn_1 ?_
  refine rb_iconst (v := (1 : Int32)) (by decide) dX4_goOn_4 ?_
  refine rb_isub (z := ((ms.1 50 0) - (1 : Int32))) rfl dX4_goOn_5 ?_
  refine rb_istore_n 1 rfl (ls' := [some (.ref h), some (.int ((ms.1 50 0) - (1 : Int32))), none, none, none]) (by decide) rfl rfl dX4_goOn_6 ?_
  refine rb_aload_n 0 rfl rfl (rb_isR_ref _) dX4_goOn_7 ?_
  refine mm_getA (t := 2) fl_X4_137 rfl (by decide) dX4_goOn_8 ?_
  refine rb_iload_n 1 rfl rfl dX4_goOn_11 ?_
  refine mm_iald (k := 51) (v := (ms.1 51 (((ms.1 50 0) - (1 : Int32))).toNatClampNeg)) rfl rfl (K).1 dX4_goOn_12 ?_
  refine rb_istore_n 2 rfl (ls' := [some (.ref h), some (.int ((ms.1 50 0) - (1 : Int32))), some (.int (ms.1 51 (((ms.1 50 0) - (1 : Int32))).toNatClampNeg)), none, none]) (by decide) rfl rfl dX4_goOn_13 ?_
  refine rb_aload_n 0 rfl rfl (rb_isR_ref _) dX4_goOn_14 ?_
  refine mm_getA (t := 2) fl_X4_152 rfl (by decide) dX4_goOn_15 ?_
  refine rb_iload_n 1 rfl rfl dX4_goOn_18 ?_
  refine mm_iald (k := 56) (v := (ms.1 56 (((ms.1 50 0) - (1 : Int32))).toNatClampNeg)) rfl rfl ((K).2).1 dX4_goOn_19 ?_
  refine rb_aload_n 0 rfl rfl (rb_isR_ref _) dX4_goOn_20 ?_
  refine mm_getA (t := 2) fl_X4_35 rfl (by decide) dX4_goOn_21 ?_
  refine rb_iload_n 2 rfl rfl dX4_goOn_24 ?_
  refine mm_iald (k := 10) (v := (ms.1 10 ((ms.1 51 (((ms.1 50 0) - (1 : Int32))).toNatClampNeg)).toNatClampNeg)) rfl rfl (((K).2).2).1 dX4_goOn_25 ?_
  refine rb_iclt 79 (by decide) dX4_goOn_26 (fun c1 => ?_) (fun c1 => ?_)
  · skip
    refine rb_aload_n 0 rfl rfl (rb_isR_ref _) dX4_goOn_79 ?_
    refine mm_getI (v := (ms.1 60 0)) rfl fl_X4_288 rfl dX4_goOn_80 ?_
    refine rb_sipush (v := (1500 : Int32)) (by decide) dX4_goOn_83 ?_
    refine rb_icne 100 (by decide) dX4_goOn_86 (fun c2 => ?_) (fun c2 => ?_)
    · skip
      refine rb_aload_n 0 rfl rfl (rb_isR_ref _) dX4_goOn_100 ?_
      refine rb_dup rfl dX4_goOn_101 ?_
      refine mm_getI (v := (ms.1 60 0)) rfl fl_X4_288 rfl dX4_goOn_102 ?_
      refine rb_iconst (v := (1 : Int32)) (by decide) dX4_goOn_105 ?_
      refine rb_iadd (z := ((ms.1 60 0) + (1 : Int32))) rfl dX4_goOn_106 ?_
      refine mm_putI fl_X4_288 rfl dX4_goOn_107 ?_
      refine rb_bipush (v := (10 : Int32)) (by decide) dX4_goOn_110 ?_
      refine rb_iload_n 2 rfl rfl dX4_goOn_112 ?_
      refine rb_imul (z := ((10 : Int32) * (ms.1 51 (((ms.1 50 0) - (1 : Int32))).toNatClampNeg))) rfl dX4_goOn_113 ?_
      refine rb_aload_n 0 rfl rfl (rb_isR_ref _) dX4_goOn_114 ?_
      refine mm_getA (t := 2) fl_X4_152 rfl (by decide) dX4_goOn_115 ?_
      refine rb_iload_n 1 rfl rfl dX4_goOn_118 ?_
      refine mm_iald (k := 56) (v := (ms.1 56 (((ms.1 50 0) - (1 : Int32))).toNatClampNeg)) rfl rfl ((((((((K).2).2).2).1 c1)).1 c2)).1 dX4_goOn_119 ?_
      refine rb_iadd (z := (((10 : Int32) * (ms.1 51 (((ms.1 50 0) - (1 : Int32))).toNatClampNeg)) + (ms.1 56 (((ms.1 50 0) - (1 : Int32))).toNatClampNeg))) rfl dX4_goOn_120 ?_
      refine rb_istore_n 3 rfl (ls' := [some (.ref h), some (.int ((ms.1 50 0) - (1 : Int32))), some (.int (ms.1 51 (((ms.1 50 0) - (1 : Int32))).toNatClampNeg)), some (.int (((10 : Int32) * (ms.1 51 (((ms.1 50 0) - (1 : Int32))).toNatClampNeg)) + (ms.1 56 (((ms.1 50 0) - (1 : Int32))).toNatClampNeg))), none]) (by decide) rfl rfl dX4_goOn_121 ?_
      refine rb_aload_n 0 rfl rfl (rb_isR_ref _) dX4_goOn_122 ?_
      refine mm_getA (t := 2) fl_X4_152 rfl (by decide) dX4_goOn_123 ?_
      refine rb_iload_n 1 rfl rfl dX4_goOn_126 ?_
      refine rb_dup2 rfl rfl dX4_goOn_127 ?_
      refine mm_iald (k := 56) (v := (ms.1 56 (((ms.1 50 0) - (1 : Int32))).toNatClampNeg)) rfl rfl (((((((((K).2).2).2).1 c1)).1 c2)).2).1 dX4_goOn_128 ?_
      refine rb_iconst (v := (1 : Int32)) (by decide) dX4_goOn_129 ?_
      refine rb_iadd (z := ((ms.1 56 (((ms.1 50 0) - (1 : Int32))).toNatClampNeg) + (1 : Int32))) rfl dX4_goOn_130 ?_
      refine mm_iast (k := 56) rfl ((((((((((K).2).2).2).1 c1)).1 c2)).2).2).1 dX4_goOn_131 ?_
      refine rb_aload_n 0 rfl rfl (rb_isR_ref _) dX4_goOn_132 ?_
      refine mm_getA (t := 2) fl_X4_41 rfl (by decide) dX4_goOn_133 ?_
      refine rb_iload_n 3 rfl rfl dX4_goOn_136 ?_
      refine mm_iald (k := 12) (v := (ms.1 12 ((((10 : Int32) * (ms.1 51 (((ms.1 50 0) - (1 : Int32))).toNatClampNeg)) + (ms.1 56 (((ms.1 50 0) - (1 : Int32))).toNatClampNeg))).toNatClampNeg)) rfl rfl (((((((((((K).2).2).2).1 c1)).1 c2)).2).2).2).1 dX4_goOn_137 ?_
      refine rb_bipush (v := (9 : Int32)) (by decide) dX4_goOn_138 ?_
      refine rb_icge 163 (by decide) dX4_goOn_140 (fun c3 => ?_) (fun c3 => ?_)
      · skip
        refine rb_aload_n 0 rfl rfl (rb_isR_ref _) dX4_goOn_163 ?_
        refine rb_iload_n 1 rfl rfl dX4_goOn_164 ?_
        refine rb_aload_n 0 rfl rfl (rb_isR_ref _) dX4_goOn_165 ?_
        refine mm_getA (t := 2) fl_X4_41 rfl (by decide) dX4_goOn_166 ?_
        refine rb_iload_n 3 rfl rfl dX4_goOn_169 ?_
        refine mm_iald (k := 12) (v := (ms.1 12 ((((10 : Int32) * (ms.1 51 (((ms.1 50 0) - (1 : Int32))).toNatClampNeg)) + (ms.1 56 (((ms.1 50 0) - (1 : Int32))).toNatClampNeg))).toNatClampNeg)) rfl rfl ((((((((((((((K).2).2).2).1 c1)).1 c2)).2).2).2).2).1 c3)).1 dX4_goOn_170 ?_
        refine rb_aload_n 0 rfl rfl (rb_isR_ref _) dX4_goOn_171 ?_
        refine mm_getA (t := 2) fl_X4_44 rfl (by decide) dX4_goOn_172 ?_
        refine rb_iload_n 3 rfl rfl dX4_goOn_175 ?_
        refine mm_iald (k := 13) (v := (ms.1 13 ((((10 : Int32) * (ms.1 51 (((ms.1 50 0) - (1 : Int32))).toNatClampNeg)) + (ms.1 56 (((ms.1 50 0) - (1 : Int32))).toNatClampNeg))).toNatClampNeg)) rfl rfl (((((((((((((((K).2).2).2).1 c1)).1 c2)).2).2).2).2).1 c3)).2).1 dX4_goOn_176 ?_
        refine rb_aload_n 0 rfl rfl (rb_isR_ref _) dX4_goOn_177 ?_
        refine mm_getA (t := 2) fl_X4_47 rfl (by decide) dX4_goOn_178 ?_
        refine rb_iload_n 3 rfl rfl dX4_goOn_181 ?_
        refine mm_iald (k := 14) (v := (ms.1 14 ((((10 : Int32) * (ms.1 51 (((ms.1 50 0) - (1 : Int32))).toNatClampNeg)) + (ms.1 56 (((ms.1 50 0) - (1 : Int32))).toNatClampNeg))).toNatClampNeg)) rfl rfl ((((((((((((((((K).2).2).2).1 c1)).1 c2)).2).2).2).2).1 c3)).2).2).1 dX4_goOn_182 ?_
        obtain ⟨ms5, d6, h1, h2, Kx4⟩ := ((((((((((((((((K).2).2).2).1 c1)).1 c2)).2).2).2).2).1 c3)).2).2).2
        refine mm_call st_X4_323 (rest := []) h1 rfl rfl mm_rc (Nat.le_of_ble_eq_true rfl) h2 dX4_goOn_183 ?_
        show rb_Bd κ mX4_goOn (0, 0) (mm_H h ms5 M0) 186 [some (.ref h), some (.int ((ms.1 50 0) - (1 : Int32))), some (.int (ms.1 51 (((ms.1 50 0) - (1 : Int32))).toNatClampNeg)), some (.int (((10 : Int32) * (ms.1 51 (((ms.1 50 0) - (1 : Int32))).toNatClampNeg)) + (ms.1 56 (((ms.1 50 0) - (1 : Int32))).toNatClampNeg))), none] []
        exact rb_vret rfl (Nat.zero_le _) (Nat.zero_le _) dX4_goOn_186 Kx4
      · skip
        refine rb_aload_n 0 rfl rfl (rb_isR_ref _) dX4_goOn_143 ?_
        refine rb_iload_n 1 rfl rfl dX4_goOn_144 ?_
        refine rb_aload_n 0 rfl rfl (rb_isR_ref _) dX4_goOn_145 ?_
        refine mm_getA (t := 2) fl_X4_41 rfl (by decide) dX4_goOn_146 ?_
        refine rb_iload_n 3 rfl rfl dX4_goOn_149 ?_
        refine mm_iald (k := 12) (v := (ms.1 12 ((((10 : Int32) * (ms.1 51 (((ms.1 50 0) - (1 : Int32))).toNatClampNeg)) + (ms.1 56 (((ms.1 50 0) - (1 : Int32))).toNatClampNeg))).toNatClampNeg)) rfl rfl ((((((((((((((K).2).2).2).1 c1)).1 c2)).2).2).2).2).2 c3)).1 dX4_goOn_150 ?_
        refine rb_aload_n 0 rfl rfl (rb_isR_ref _) dX4_goOn_151 ?_
        refine mm_getA (t := 2) fl_X4_44 rfl (by decide) dX4_goOn_152 ?_
        refine rb_iload_n 3 rfl rfl dX4_goOn_155 ?_
        refine mm_iald (k := 13) (v := (ms.1 13 ((((10 : Int32) * (ms.1 51 (((ms.1 50 0) - (1 : Int32))).toNatClampNeg)) + (ms.1 56 (((ms.1 50 0) - (1 : Int32))).toNatClampNeg))).toNatClampNeg)) rfl rfl (((((((((((((((K).2).2).2).1 c1)).1 c2)).2).2).2).2).2 c3)).2).1 dX4_goOn_156 ?_
        obtain ⟨ms8, d9, h1, h2, Kx7⟩ := (((((((((((((((K).2).2).2).1 c1)).1 c2)).2).2).2).2).2 c3)).2).2
        refine mm_call st_X4_319 (rest := []) h1 rfl rfl mm_rc (Nat.le_of_ble_eq_true rfl) h2 dX4_goOn_157 ?_
        show rb_Bd κ mX4_goOn (0, 0) (mm_H h ms8 M0) 160 [some (.ref h), some (.int ((ms.1 50 0) - (1 : Int32))), some (.int (ms.1 51 (((ms.1 50 0) - (1 : Int32))).toNatClampNeg)), some (.int (((10 : Int32) * (ms.1 51 (((ms.1 50 0) - (1 : Int32))).toNatClampNeg)) + (ms.1 56 (((ms.1 50 0) - (1 : Int32))).toNatClampNeg))), none] []
        refine rb_goto 186 (by decide) dX4_goOn_160 ?_
        exact rb_vret rfl (Nat.zero_le _) (Nat.zero_le _) dX4_goOn_186 Kx7
    · skip
      refine rb_aload_n 0 rfl rfl (rb_isR_ref _) dX4_goOn_89 ?_
      refine rb_iconst (v := (3 : Int32)) (by decide) dX4_goOn_90 ?_
      refine mm_putI fl_X4_301 rfl dX4_goOn_91 ?_
      refine rb_aload_n 0 rfl rfl (rb_isR_ref _) dX4_goOn_94 ?_
      refine rb_iconst (v := (0 : Int32)) (by decide) dX4_goOn_95 ?_
      refine mm_putI fl_X4_285 rfl dX4_goOn_96 ?_
      exact rb_vret rfl (Nat.zero_le _) (Nat.zero_le _) dX4_goOn_99 (((((((K).2).2).2).1 c1)).2 c2)
  · skip
    refine rb_aload_n 0 rfl rfl (rb_isR_ref _) dX4_goOn_29 ?_
    refine mm_getA (t := 3) fl_X4_155 rfl (by decide) dX4_goOn_30 ?_
    refine rb_iload_n 1 rfl rfl dX4_goOn_33 ?_
    refine mm_lald (k := 57) (v := (ms.2 57 (((ms.1 50 0) - (1 : Int32))).toNatClampNeg)) rfl rfl ((((((K).2).2).2).2 c1)).1 dX4_goOn_34 ?_
    refine rb_lstore_n 3 rfl (ls' := [some (.ref h), some (.int ((ms.1 50 0) - (1 : Int32))), some (.int (ms.1 51 (((ms.1 50 0) - (1 : Int32))).toNatClampNeg)), some (.long (ms.2 57 (((ms.1 50 0) - (1 : Int32))).toNatClampNeg)), none]) (by decide) rfl rfl dX4_goOn_35 ?_
    refine rb_aload_n 0 rfl rfl (rb_isR_ref _) dX4_goOn_36 ?_
    refine rb_dup rfl dX4_goOn_37 ?_
    refine mm_getI (v := (ms.1 50 0)) rfl fl_X4_285 rfl dX4_goOn_38 ?_
    refine rb_iconst (v := (1 : Int32)) (by decide) dX4_goOn_41 ?_
    refine rb_isub (z := ((ms.1 50 0) - (1 : Int32))) rfl dX4_goOn_42 ?_
    refine mm_putI fl_X4_285 rfl dX4_goOn_43 ?_
    refine rb_aload_n 0 rfl rfl (rb_isR_ref _) dX4_goOn_46 ?_
    refine mm_getI (v := ((ms.1 50 0) - (1 : Int32))) rfl fl_X4_285 rfl dX4_goOn_47 ?_
    refine rb_ifne 66 (by decide) dX4_goOn_50 (fun c10 => ?_) (fun c10 => ?_)
    · skip
      refine rb_aload_n 0 rfl rfl (rb_isR_ref _) dX4_goOn_66 ?_
      refine mm_getA (t := 3) fl_X4_155 rfl (by decide) dX4_goOn_67 ?_
      refine rb_aload_n 0 rfl rfl (rb_isR_ref _) dX4_goOn_70 ?_
      refine mm_getI (v := ((ms.1 50 0) - (1 : Int32))) rfl fl_X4_285 rfl dX4_goOn_71 ?_
      refine rb_iconst (v := (1 : Int32)) (by decide) dX4_goOn_74 ?_
      refine rb_isub (z := (((ms.1 50 0) - (1 : Int32)) - (1 : Int32))) rfl dX4_goOn_75 ?_
      refine rb_lload_n 3 rfl rfl dX4_goOn_76 ?_
      refine mm_last (k := 57) rfl (((((((((K).2).2).2).2 c1)).2).1 c10)).1 dX4_goOn_77 ?_
      exact rb_vret rfl (Nat.zero_le _) (Nat.zero_le _) dX4_goOn_78 (((((((((K).2).2).2).2 c1)).2).1 c10)).2
    · skip
      refine rb_aload_n 0 rfl rfl (rb_isR_ref _) dX4_goOn_53 ?_
      refine rb_lload_n 3 rfl rfl dX4_goOn_54 ?_
      refine mm_putL fl_X4_316 rfl dX4_goOn_55 ?_
      refine rb_aload_n 0 rfl rfl (rb_isR_ref _) dX4_goOn_58 ?_
      refine rb_iconst (v := (0 : Int32)) (by decide) dX4_goOn_59 ?_
      refine mm_putI fl_X4_301 rfl dX4_goOn_60 ?_
      refine rb_goto 78 (by decide) dX4_goOn_63 ?_
      exact rb_vret rfl (Nat.zero_le _) (Nat.zero_le _) dX4_goOn_78 ((((((((K).2).2).2).2 c1)).2).2 c10)
theorem sgX4_reckon_0 {κ : rb_K} {M0 : rb_H} {h : Nat} {ms : mm_S} {a1 : Int32} {a2 : Int32} {a3 : Int32} (K : ((((a2).toInt < 0 ∨ 7 < (a2).toInt) → (vp_in a1 (mm_l 57) ∧ (vp_in a3 (mm_l 46) ∧ (κ.2.2.1 (.returned none) (mm_H h (mm_sL ms 46 (a3).toNatClampNeg (ms.2 57 (a1).toNatClampNeg)) M0))))) ∧ ((a2).toInt = 0 → (vp_in a1 (mm_l 57) ∧ (κ.2.2.1 (.returned none) (mm_H h (mm_sL ms 57 (a1).toNatClampNeg (a3).toInt64) M0)))) ∧ ((a2).toInt = 1 → (vp_in a1 (mm_l 58) ∧ (vp_in a1 (mm_l 57) ∧ (κ.2.2.1 (.returned none) (mm_H h (mm_sL ms 57 (a1).toNatClampNeg (ms.2 58 (a1).toNatClampNeg)) M0))))) ∧ ((a2).toInt = 2 → (vp_in a1 (mm_l 57) ∧ (vp_in a1 (mm_l 57) ∧ (κ.2.2.1 (.returned none) (mm_H h (mm_sL ms 57 (a1).toNatClampNeg ((ms.2 57 (a1).toNatClampNeg) + (a3).toInt64)) M0))))) ∧ ((a2).toInt = 3 → (vp_in a1 (mm_l 57) ∧ (vp_in a1 (mm_l 57) ∧ (κ.2.2.1 (.returned none) (mm_H h (mm_sL ms 57 (a1).toNatClampNeg ((ms.2 57 (a1).toNatClampNeg) * (a3).toInt64)) M0))))) ∧ ((a2).toInt = 4 → (∃ (x2 : Int32) (ms3 : mm_S) (d4 : Nat), mm_C κ.1 yX4_cellAt wX4_cellAt d4 h M0 ms [.ref h, .int a1, .int a3] (some (.int x2)) ms3 ∧ rb_dp κ d4 ∧ (vp_in x2 (mm_l 42) ∧ (vp_in a1 (mm_l 57) ∧ (κ.2.2.1 (.returned none) (mm_H h (mm_sL ms3 57 (a1).toNatClampNeg (ms3.2 42 (x2).toNatClampNeg)) M0)))))) ∧ ((a2).toInt = 5 → (∃ (x5 : Int32) (ms6 : mm_S) (d7 : Nat), mm_C κ.1 yX4_cellAt wX4_cellAt d7 h M0 ms [.ref h, .int a1, .int a3] (some (.int x5)) ms6 ∧ rb_dp κ d7 ∧ (vp_in a1 (mm_l 57) ∧ (vp_in x5 (mm_l 42) ∧ (κ.2.2.1 (.returned none) (mm_H h (mm_sL ms6 42 (x5).toNatClampNeg (ms6.2 57 (a1).toNatClampNeg)) M0)))))) ∧ ((a2).toInt = 6 → (∃ (x8 : Int32) (ms9 : mm_S) (d10 : Nat), mm_C κ.1 yX4_cellAt wX4_cellAt d10 h M0 ms [.ref h, .int a1, .int a3] (some (.int x8)) ms9 ∧ rb_dp κ d10 ∧ (vp_in x8 (mm_l 42) ∧ ((¬ (ms9.2 42 (x8).toNatClampNeg) = (0 : Int64) → (vp_in a1 (mm_l 57) ∧ ((¬ (ms9.2 42 (x8).toNatClampNeg) = 0) ∧ (vp_in a1 (mm_l 57) ∧ (κ.2.2.1 (.returned none) (mm_H h (mm_sL ms9 57 (a1).toNatClampNeg ((ms9.2 57 (a1).toNatClampNeg) / (ms9.2 42 (x8).toNatClampNeg))) M0)))))) ∧ ((ms9.2 42 (x8).toNatClampNeg) = (0 : Int64) → (∃ (ms13 : mm_S) (d14 : Nat), mm_C κ.1 yX4_raise wX4_raise d14 h M0 ms9 [.ref h, .int (10 : Int32), .long (0 : Int64)] (none) ms13 ∧ rb_dp κ d14 ∧ (κ.2.2.1 (.returned none) (mm_H h ms13 M0)))))))) ∧ ((a2).toInt = 7 → (vp_in a3 (mm_l 46) ∧ (vp_in a1 (mm_l 57) ∧ (κ.2.2.1 (.returned none) (mm_H h (mm_sL ms 57 (a1).toNatClampNeg (ms.2 46 (a3).toNatClampNeg)) M0))))))) : rb_Bd κ mX4_reckon (0, 0) (mm_H h ms M0) 0 [some (.ref h), some (.int a1), some (.int a2), some (.int a3), none, none] [] := by
  refine rb_iload_n 2 rfl rfl dX4_reckon_0 ?_
  rcases mm_sw7 (a2).toInt 0 with c1 | c1 | c1 | c1 | c1 | c1 | c1 | c1 | c1
  · skip
    refine rb_tableOut 201 (by omega) (by decide) dX4_reckon_1 ?_
    refine rb_aload_n 0 rfl rfl (rb_isR_ref _) dX4_reckon_201 ?_
    refine mm_getA (t := 3) fl_X4_131 rfl (by decide) dX4_reckon_202 ?_
    refine rb_iload_n 3 rfl rfl dX4_reckon_205 ?_
    refine rb_aload_n 0 rfl rfl (rb_isR_ref _) dX4_reckon_206 ?_
    refine mm_getA (t := 3) fl_X4_155 rfl (by decide) dX4_reckon_207 ?_
    refine rb_iload_n 1 rfl rfl dX4_reckon_210 ?_
    refine mm_lald (k := 57) (v := (ms.2 57 (a1).toNatClampNeg)) rfl rfl (((K).1 (by omega))).1 dX4_reckon_211 ?_
    refine mm_last (k := 46) rfl ((((K).1 (by omega))).2).1 dX4_reckon_212 ?_
    exact rb_vret rfl (Nat.zero_le _) (Nat.zero_le _) dX4_reckon_213 ((((K).1 (by omega))).2).2
  · skip
    refine rb_tableIn 48 (by omega) (by omega) (off := 47) (by rw [c1]; rfl) (by decide) dX4_reckon_1 ?_
    refine rb_aload_n 0 rfl rfl (rb_isR_ref _) dX4_reckon_48 ?_
    refine mm_getA (t := 3) fl_X4_155 rfl (by decide) dX4_reckon_49 ?_
    refine rb_iload_n 1 rfl rfl dX4_reckon_52 ?_
    refine rb_iload_n 3 rfl rfl dX4_reckon_53 ?_
    refine rb_i2l (z := (a3).toInt64) rfl dX4_reckon_54 ?_
    refine mm_last (k := 57) rfl (((K).2.1 c1)).1 dX4_reckon_55 ?_
    refine rb_goto 213 (by decide) dX4_reckon_56 ?_
    exact rb_vret rfl (Nat.zero_le _) (Nat.zero_le _) dX4_reckon_213 (((K).2.1 c1)).2
  · skip
    refine rb_tableIn 59 (by omega) (by omega) (off := 58) (by rw [c1]; rfl) (by decide) dX4_reckon_1 ?_
    refine rb_aload_n 0 rfl rfl (rb_isR_ref _) dX4_reckon_59 ?_
    refine mm_getA (t := 3) fl_X4_155 rfl (by decide) dX4_reckon_60 ?_
    refine rb_iload_n 1 rfl rfl dX4_reckon_63 ?_
    refine rb_aload_n 0 rfl rfl (rb_isR_ref _) dX4_reckon_64 ?_
    refine mm_getA (t := 3) fl_X4_158 rfl (by decide) dX4_reckon_65 ?_
    refine rb_iload_n 1 rfl rfl dX4_reckon_68 ?_
    refine mm_lald (k := 58) (v := (ms.2 58 (a1).toNatClampNeg)) rfl rfl (((K).2.2.1 c1)).1 dX4_reckon_69 ?_
    refine mm_last (k := 57) rfl ((((K).2.2.1 c1)).2).1 dX4_reckon_70 ?_
    refine rb_goto 213 (by decide) dX4_reckon_71 ?_
    exact rb_vret rfl (Nat.zero_le _) (Nat.zero_le _) dX4_reckon_213 ((((K).2.2.1 c1)).2).2
  · skip
    refine rb_tableIn 74 (by omega) (by omega) (off := 73) (by rw [c1]; rfl) (by decide) dX4_reckon_1 ?_
    refine rb_aload_n 0 rfl rfl (rb_isR_ref _) dX4_reckon_74 ?_
    refine mm_getA (t := 3) fl_X4_155 rfl (by decide) dX4_reckon_75 ?_
    refine rb_iload_n 1 rfl rfl dX4_reckon_78 ?_
    refine rb_dup2 rfl rfl dX4_reckon_79 ?_
    refine mm_lald (k := 57) (v := (ms.2 57 (a1).toNatClampNeg)) rfl rfl (((K).2.2.2.1 c1)).1 dX4_reckon_80 ?_
    refine rb_iload_n 3 rfl rfl dX4_reckon_81 ?_
    refine rb_i2l (z := (a3).toInt64) rfl dX4_reckon_82 ?_
    refine rb_ladd (z := ((ms.2 57 (a1).toNatClampNeg) + (a3).toInt64)) rfl dX4_reckon_83 ?_
    refine mm_last (k := 57) rfl ((((K).2.2.2.1 c1)).2).1 dX4_reckon_84 ?_
    refine rb_goto 213 (by decide) dX4_reckon_85 ?_
    exact rb_vret rfl (Nat.zero_le _) (Nat.zero_le _) dX4_reckon_213 ((((K).2.2.2.1 c1)).2).2
  · skip
    refine rb_tableIn 88 (by omega) (by omega) (off := 87) (by rw [c1]; rfl) (by decide) dX4_reckon_1 ?_
    refine rb_aload_n 0 rfl rfl (rb_isR_ref _) dX4_reckon_88 ?_
    refine mm_getA (t := 3) fl_X4_155 rfl (by decide) dX4_reckon_89 ?_
    refine rb_iload_n 1 rfl rfl dX4_reckon_92 ?_
    refine rb_dup2 rfl rfl dX4_reckon_93 ?_
    refine mm_lald (k := 57) (v := (ms.2 57 (a1).toNatClampNeg)) rfl rfl (((K).2.2.2.2.1 c1)).1 dX4_reckon_94 ?_
    refine rb_iload_n 3 rfl rfl dX4_reckon_95 ?_
    refine rb_i2l (z := (a3).toInt64) rfl dX4_reckon_96 ?_
    refine rb_lmul (z := ((ms.2 57 (a1).toNatClampNeg) * (a3).toInt64)) rfl dX4_reckon_97 ?_
    refine mm_last (k := 57) rfl ((((K).2.2.2.2.1 c1)).2).1 dX4_reckon_98 ?_
    refine rb_goto 213 (by decide) dX4_reckon_99 ?_
    exact rb_vret rfl (Nat.zero_le _) (Nat.zero_le _) dX4_reckon_213 ((((K).2.2.2.2.1 c1)).2).2
  · skip
    refine rb_tableIn 102 (by omega) (by omega) (off := 101) (by rw [c1]; rfl) (by decide) dX4_reckon_1 ?_
    refine rb_aload_n 0 rfl rfl (rb_isR_ref _) dX4_reckon_102 ?_
    refine mm_getA (t := 3) fl_X4_155 rfl (by decide) dX4_reckon_103 ?_
    refine rb_iload_n 1 rfl rfl dX4_reckon_106 ?_
    refine rb_aload_n 0 rfl rfl (rb_isR_ref _) dX4_reckon_107 ?_
    refine mm_getA (t := 3) fl_X4_117 rfl (by decide) dX4_reckon_108 ?_
    refine rb_aload_n 0 rfl rfl (rb_isR_ref _) dX4_reckon_111 ?_
    refine rb_iload_n 1 rfl rfl dX4_reckon_112 ?_
    refine rb_iload_n 3 rfl rfl dX4_reckon_113 ?_
    obtain ⟨x2, ms3, d4, h1, h2, Kx2⟩ := ((K).2.2.2.2.2.1 c1)
    refine mm_call st_X4_327 (rest := [.ref (h + mm_p 42), .int a1, .ref (h + mm_p 57)]) h1 rfl rfl mm_rc (Nat.le_of_ble_eq_true rfl) h2 dX4_reckon_114 ?_
    show rb_Bd κ mX4_reckon (0, 0) (mm_H h ms3 M0) 117 [some (.ref h), some (.int a1), some (.int a2), some (.int a3), none, none] [.int x2, .ref (h + mm_p 42), .int a1, .ref (h + mm_p 57)]
    refine mm_lald (k := 42) (v := (ms3.2 42 (x2).toNatClampNeg)) rfl rfl (Kx2).1 dX4_reckon_117 ?_
    refine mm_last (k := 57) rfl ((Kx2).2).1 dX4_reckon_118 ?_
    refine rb_goto 213 (by decide) dX4_reckon_119 ?_
    exact rb_vret rfl (Nat.zero_le _) (Nat.zero_le _) dX4_reckon_213 ((Kx2).2).2
  · skip
    refine rb_tableIn 122 (by omega) (by omega) (off := 121) (by rw [c1]; rfl) (by decide) dX4_reckon_1 ?_
    refine rb_aload_n 0 rfl rfl (rb_isR_ref _) dX4_reckon_122 ?_
    refine mm_getA (t := 3) fl_X4_117 rfl (by decide) dX4_reckon_123 ?_
    refine rb_aload_n 0 rfl rfl (rb_isR_ref _) dX4_reckon_126 ?_
    refine rb_iload_n 1 rfl rfl dX4_reckon_127 ?_
    refine rb_iload_n 3 rfl rfl dX4_reckon_128 ?_
    obtain ⟨x5, ms6, d7, h1, h2, Kx5⟩ := ((K).2.2.2.2.2.2.1 c1)
    refine mm_call st_X4_327 (rest := [.ref (h + mm_p 42)]) h1 rfl rfl mm_rc (Nat.le_of_ble_eq_true rfl) h2 dX4_reckon_129 ?_
    show rb_Bd κ mX4_reckon (0, 0) (mm_H h ms6 M0) 132 [some (.ref h), some (.int a1), some (.int a2), some (.int a3), none, none] [.int x5, .ref (h + mm_p 42)]
    refine rb_aload_n 0 rfl rfl (rb_isR_ref _) dX4_reckon_132 ?_
    refine mm_getA (t := 3) fl_X4_155 rfl (by decide) dX4_reckon_133 ?_
    refine rb_iload_n 1 rfl rfl dX4_reckon_136 ?_
    refine mm_lald (k := 57) (v := (ms6.2 57 (a1).toNatClampNeg)) rfl rfl (Kx5).1 dX4_reckon_137 ?_
    refine mm_last (k := 42) rfl ((Kx5).2).1 dX4_reckon_138 ?_
    refine rb_goto 213 (by decide) dX4_reckon_139 ?_
    exact rb_vret rfl (Nat.zero_le _) (Nat.zero_le _) dX4_reckon_213 ((Kx5).2).2
  · skip
    refine rb_tableIn 142 (by omega) (by omega) (off := 141) (by rw [c1]; rfl) (by decide) dX4_reckon_1 ?_
    refine rb_aload_n 0 rfl rfl (rb_isR_ref _) dX4_reckon_142 ?_
    refine mm_getA (t := 3) fl_X4_117 rfl (by decide) dX4_reckon_143 ?_
    refine rb_aload_n 0 rfl rfl (rb_isR_ref _) dX4_reckon_146 ?_
    refine rb_iload_n 1 rfl rfl dX4_reckon_147 ?_
    refine rb_iload_n 3 rfl rfl dX4_reckon_148 ?_
    obtain ⟨x8, ms9, d10, h1, h2, Kx8⟩ := ((K).2.2.2.2.2.2.2.1 c1)
    refine mm_call st_X4_327 (rest := [.ref (h + mm_p 42)]) h1 rfl rfl mm_rc (Nat.le_of_ble_eq_true rfl) h2 dX4_reckon_149 ?_
    show rb_Bd κ mX4_reckon (0, 0) (mm_H h ms9 M0) 152 [some (.ref h), some (.int a1), some (.int a2), some (.int a3), none, none] [.int x8, .ref (h + mm_p 42)]
    refine mm_lald (k := 42) (v := (ms9.2 42 (x8).toNatClampNeg)) rfl rfl (Kx8).1 dX4_reckon_152 ?_
    refine rb_lstore (ls' := [some (.ref h), some (.int a1), some (.int a2), some (.int a3), some (.long (ms9.2 42 (x8).toNatClampNeg)), none]) (by decide) rfl rfl dX4_reckon_153 ?_
    refine rb_lload rfl dX4_reckon_155 ?_
    refine rb_lconst (v := (0 : Int64)) (by decide) dX4_reckon_157 ?_
    refine rb_lc_ne 172 (by decide) dX4_reckon_158 dX4_reckon_159 (fun c11 => ?_) (fun c11 => ?_)
    · skip
      refine rb_aload_n 0 rfl rfl (rb_isR_ref _) dX4_reckon_172 ?_
      refine mm_getA (t := 3) fl_X4_155 rfl (by decide) dX4_reckon_173 ?_
      refine rb_iload_n 1 rfl rfl dX4_reckon_176 ?_
      refine rb_dup2 rfl rfl dX4_reckon_177 ?_
      refine mm_lald (k := 57) (v := (ms9.2 57 (a1).toNatClampNeg)) rfl rfl ((((Kx8).2).1 c11)).1 dX4_reckon_178 ?_
      refine rb_lload rfl dX4_reckon_179 ?_
      refine rb_ldiv (z := ((ms9.2 57 (a1).toNatClampNeg) / (ms9.2 42 (x8).toNatClampNeg))) (((((Kx8).2).1 c11)).2).1 rfl dX4_reckon_181 ?_
      refine mm_last (k := 57) rfl ((((((Kx8).2).1 c11)).2).2).1 dX4_reckon_182 ?_
      refine rb_goto 213 (by decide) dX4_reckon_183 ?_
      exact rb_vret rfl (Nat.zero_le _) (Nat.zero_le _) dX4_reckon_213 ((((((Kx8).2).1 c11)).2).2).2
    · skip
      refine rb_aload_n 0 rfl rfl (rb_isR_ref _) dX4_reckon_162 ?_
      refine rb_bipush (v := (10 : Int32)) (by decide) dX4_reckon_163 ?_
      refine rb_lconst (v := (0 : Int64)) (by decide) dX4_reckon_165 ?_
      obtain ⟨ms13, d14, h1, h2, Kx12⟩ := (((Kx8).2).2 c11)
      refine mm_call st_X4_304 (rest := []) h1 rfl rfl mm_rc (Nat.le_of_ble_eq_true rfl) h2 dX4_reckon_166 ?_
      show rb_Bd κ mX4_reckon (0, 0) (mm_H h ms13 M0) 169 [some (.ref h), some (.int a1), some (.int a2), some (.int a3), some (.long (ms9.2 42 (x8).toNatClampNeg)), none] []
      refine rb_goto 213 (by decide) dX4_reckon_169 ?_
      exact rb_vret rfl (Nat.zero_le _) (Nat.zero_le _) dX4_reckon_213 Kx12
  · skip
    refine rb_tableIn 186 (by omega) (by omega) (off := 185) (by rw [c1]; rfl) (by decide) dX4_reckon_1 ?_
    refine rb_aload_n 0 rfl rfl (rb_isR_ref _) dX4_reckon_186 ?_
    refine mm_getA (t := 3) fl_X4_155 rfl (by decide) dX4_reckon_187 ?_
    refine rb_iload_n 1 rfl rfl dX4_reckon_190 ?_
    refine rb_aload_n 0 rfl rfl (rb_isR_ref _) dX4_reckon_191 ?_
    refine mm_getA (t := 3) fl_X4_131 rfl (by decide) dX4_reckon_192 ?_
    refine rb_iload_n 3 rfl rfl dX4_reckon_195 ?_
    refine mm_lald (k := 46) (v := (ms.2 46 (a3).toNatClampNeg)) rfl rfl (((K).2.2.2.2.2.2.2.2 c1)).1 dX4_reckon_196 ?_
    refine mm_last (k := 57) rfl ((((K).2.2.2.2.2.2.2.2 c1)).2).1 dX4_reckon_197 ?_
    refine rb_goto 213 (by decide) dX4_reckon_198 ?_
    exact rb_vret rfl (Nat.zero_le _) (Nat.zero_le _) dX4_reckon_213 ((((K).2.2.2.2.2.2.2.2 c1)).2).2
theorem sgX4_cellAt_0 {κ : rb_K} {M0 : rb_H} {h : Nat} {ms : mm_S} {a1 : Int32} {a2 : Int32} (K : (vp_in a1 (mm_l 52) ∧ (vp_in a1 (mm_l 53) ∧ (κ.2.2.1 (.returned (some (.int (((4 : Int32) * (((24 : Int32) * (ms.1 52 (a1).toNatClampNeg)) + (ms.1 53 (a1).toNatClampNeg))) + a2)))) (mm_H h ms M0))))) : rb_Bd κ mX4_cellAt (0, 0) (mm_H h ms M0) 0 [some (.ref h), some (.int a1), some (.int a2)] [] := by
  refine rb_iconst (v := (4 : Int32)) (by decide) dX4_cellAt_0 ?_
  refine rb_bipush (v := (24 : Int32)) (by decide) dX4_cellAt_1 ?_
  refine rb_aload_n 0 rfl rfl (rb_isR_ref _) dX4_cellAt_3 ?_
  refine mm_getA (t := 2) fl_X4_140 rfl (by decide) dX4_cellAt_4 ?_
  refine rb_iload_n 1 rfl rfl dX4_cellAt_7 ?_
  refine mm_iald (k := 52) (v := (ms.1 52 (a1).toNatClampNeg)) rfl rfl (K).1 dX4_cellAt_8 ?_
  refine rb_imul (z := ((24 : Int32) * (ms.1 52 (a1).toNatClampNeg))) rfl dX4_cellAt_9 ?_
  refine rb_aload_n 0 rfl rfl (rb_isR_ref _) dX4_cellAt_10 ?_
  refine mm_getA (t := 2) fl_X4_143 rfl (by decide) dX4_cellAt_11 ?_
  refine rb_iload_n 1 rfl rfl dX4_cellAt_14 ?_
  refine mm_iald (k := 53) (v := (ms.1 53 (a1).toNatClampNeg)) rfl rfl ((K).2).1 dX4_cellAt_15 ?_
  refine rb_iadd (z := (((24 : Int32) * (ms.1 52 (a1).toNatClampNeg)) + (ms.1 53 (a1).toNatClampNeg))) rfl dX4_cellAt_16 ?_
  refine rb_imul (z := ((4 : Int32) * (((24 : Int32) * (ms.1 52 (a1).toNatClampNeg)) + (ms.1 53 (a1).toNatClampNeg)))) rfl dX4_cellAt_17 ?_
  refine rb_iload_n 2 rfl rfl dX4_cellAt_18 ?_
  refine rb_iadd (z := (((4 : Int32) * (((24 : Int32) * (ms.1 52 (a1).toNatClampNeg)) + (ms.1 53 (a1).toNatClampNeg))) + a2)) rfl dX4_cellAt_19 ?_
  exact rb_iret rfl rfl (Nat.zero_le _) (Nat.zero_le _) dX4_cellAt_20 ((K).2).2
theorem sgX4_raise_0 {κ : rb_K} {M0 : rb_H} {h : Nat} {ms : mm_S} {a1 : Int32} {a2 : Int64} (K : (vp_in ((ms.1 50 0) - (1 : Int32)) (mm_l 51) ∧ (vp_in ((ms.1 50 0) - (1 : Int32)) (mm_l 56) ∧ rb_Bd κ mX4_raise (0, 0) (mm_H h (mm_sL (mm_sI (mm_sI (mm_sI ms 64 0 a1) 65 0 ((ms.1 51 (((ms.1 50 0) - (1 : Int32))).toNatClampNeg) / (25 : Int32))) 66 0 ((ms.1 56 (((ms.1 50 0) - (1 : Int32))).toNatClampNeg) - (1 : Int32))) 67 0 a2) M0) 45 [some (.ref h), some (.int a1), some (.long a2), none, some (.int ((ms.1 50 0) - (1 : Int32)))] []))) : rb_Bd κ mX4_raise (0, 0) (mm_H h ms M0) 0 [some (.ref h), some (.int a1), some (.long a2), none, none] [] := by
  refine rb_aload_n 0 rfl rfl (rb_isR_ref _) dX4_raise_0 ?_
  refine mm_getI (v := (ms.1 50 0)) rfl fl_X4_285 rfl dX4_raise_1 ?_
  refine rb_iconst (v := (1 : Int32)) (by decide) dX4_raise_4 ?_
  refine rb_isub (z := ((ms.1 50 0) - (1 : Int32))) rfl dX4_raise_5 ?_
  refine rb_istore (ls' := [some (.ref h), some (.int a1), some (.long a2), none, some (.int ((ms.1 50 0) - (1 : Int32)))]) (by decide) rfl rfl dX4_raise_6 ?_
  refine rb_aload_n 0 rfl rfl (rb_isR_ref _) dX4_raise_8 ?_
  refine rb_iload_n 1 rfl rfl dX4_raise_9 ?_
  refine mm_putI fl_X4_164 rfl dX4_raise_10 ?_
  refine rb_aload_n 0 rfl rfl (rb_isR_ref _) dX4_raise_13 ?_
  refine rb_aload_n 0 rfl rfl (rb_isR_ref _) dX4_raise_14 ?_
  refine mm_getA (t := 2) fl_X4_137 rfl (by decide) dX4_raise_15 ?_
  refine rb_iload rfl dX4_raise_18 ?_
  refine mm_iald (k := 51) (v := (ms.1 51 (((ms.1 50 0) - (1 : Int32))).toNatClampNeg)) rfl rfl (K).1 dX4_raise_20 ?_
  refine rb_bipush (v := (25 : Int32)) (by decide) dX4_raise_21 ?_
  refine rb_idiv (z := ((ms.1 51 (((ms.1 50 0) - (1 : Int32))).toNatClampNeg) / (25 : Int32))) (by decide) rfl dX4_raise_23 ?_
  refine mm_putI fl_X4_167 rfl dX4_raise_24 ?_
  refine rb_aload_n 0 rfl rfl (rb_isR_ref _) dX4_raise_27 ?_
  refine rb_aload_n 0 rfl rfl (rb_isR_ref _) dX4_raise_28 ?_
  refine mm_getA (t := 2) fl_X4_152 rfl (by decide) dX4_raise_29 ?_
  refine rb_iload rfl dX4_raise_32 ?_
  refine mm_iald (k := 56) (v := (ms.1 56 (((ms.1 50 0) - (1 : Int32))).toNatClampNeg)) rfl rfl ((K).2).1 dX4_raise_34 ?_
  refine rb_iconst (v := (1 : Int32)) (by decide) dX4_raise_35 ?_
  refine rb_isub (z := ((ms.1 56 (((ms.1 50 0) - (1 : Int32))).toNatClampNeg) - (1 : Int32))) rfl dX4_raise_36 ?_
  refine mm_putI fl_X4_170 rfl dX4_raise_37 ?_
  refine rb_aload_n 0 rfl rfl (rb_isR_ref _) dX4_raise_40 ?_
  refine rb_lload_n 2 rfl rfl dX4_raise_41 ?_
  refine mm_putL fl_X4_297 rfl dX4_raise_42 ?_
  exact ((K).2).2
theorem sgX4_raise_45 {κ : rb_K} {M0 : rb_H} {h : Nat} {ms : mm_S} {a1 : Int32} {a2 : Int64} {a4 : Int32} (K : (((ms.1 50 0) ≤ 0 → (κ.2.2.1 (.returned none) (mm_H h (mm_sI ms 61 0 (1 : Int32)) M0))) ∧ (0 < (ms.1 50 0) → (vp_in ((ms.1 50 0) - (1 : Int32)) (mm_l 59) ∧ ((¬ (ms.1 59 (((ms.1 50 0) - (1 : Int32))).toNatClampNeg) = 0 → rb_Bd κ mX4_raise (0, 0) (mm_H h (mm_sI ms 50 0 ((ms.1 50 0) - (1 : Int32))) M0) 45 [some (.ref h), some (.int a1), some (.long a2), none, some (.int ((ms.1 50 0) - (1 : Int32)))] []) ∧ ((ms.1 59 (((ms.1 50 0) - (1 : Int32))).toNatClampNeg) = 0 → (vp_in ((ms.1 50 0) - (1 : Int32)) (mm_l 51) ∧ (vp_in (ms.1 51 (((ms.1 50 0) - (1 : Int32))).toNatClampNeg) (mm_l 11) ∧ ((¬ (ms.1 11 ((ms.1 51 (((ms.1 50 0) - (1 : Int32))).toNatClampNeg)).toNatClampNeg) = a1 → rb_Bd κ mX4_raise (0, 0) (mm_H h (mm_sI ms 50 0 ((ms.1 50 0) - (1 : Int32))) M0) 45 [some (.ref h), some (.int a1), some (.long a2), none, some (.int ((ms.1 50 0) - (1 : Int32)))] []) ∧ ((ms.1 11 ((ms.1 51 (((ms.1 50 0) - (1 : Int32))).toNatClampNeg)).toNatClampNeg) = a1 → (vp_in ((ms.1 50 0) - (1 : Int32)) (mm_l 59) ∧ (vp_in ((ms.1 50 0) - (1 : Int32)) (mm_l 57) ∧ (∃ (ms5 : mm_S) (d6 : Nat), mm_C κ.1 yX4_noThrow wX4_noThrow d6 h M0 (mm_sL (mm_sI ms 59 (((ms.1 50 0) - (1 : Int32))).toNatClampNeg (1 : Int32)) 57 (((ms.1 50 0) - (1 : Int32))).toNatClampNeg a2) [.ref h] (none) ms5 ∧ rb_dp κ d6 ∧ (κ.2.2.1 (.returned none) (mm_H h ms5 M0))))))))))))))) : rb_Bd κ mX4_raise (0, 0) (mm_H h ms M0) 45 [some (.ref h), some (.int a1), some (.long a2), none, some (.int a4)] [] := by
  refine rb_aload_n 0 rfl rfl (rb_isR_ref _) dX4_raise_45 ?_
  refine mm_getI (v := (ms.1 50 0)) rfl fl_X4_285 rfl dX4_raise_46 ?_
  refine rb_ifle 120 (by decide) dX4_raise_49 (fun c1 => ?_) (fun c1 => ?_)
  · skip
    refine rb_aload_n 0 rfl rfl (rb_isR_ref _) dX4_raise_120 ?_
    refine rb_iconst (v := (1 : Int32)) (by decide) dX4_raise_121 ?_
    refine mm_putI fl_X4_301 rfl dX4_raise_122 ?_
    exact rb_vret rfl (Nat.zero_le _) (Nat.zero_le _) dX4_raise_125 ((K).1 c1)
  · skip
    refine rb_aload_n 0 rfl rfl (rb_isR_ref _) dX4_raise_52 ?_
    refine mm_getI (v := (ms.1 50 0)) rfl fl_X4_285 rfl dX4_raise_53 ?_
    refine rb_iconst (v := (1 : Int32)) (by decide) dX4_raise_56 ?_
    refine rb_isub (z := ((ms.1 50 0) - (1 : Int32))) rfl dX4_raise_57 ?_
    refine rb_istore (ls' := [some (.ref h), some (.int a1), some (.long a2), none, some (.int ((ms.1 50 0) - (1 : Int32)))]) (by decide) rfl rfl dX4_raise_58 ?_
    refine rb_aload_n 0 rfl rfl (rb_isR_ref _) dX4_raise_60 ?_
    refine mm_getA (t := 4) fl_X4_161 rfl (by decide) dX4_raise_61 ?_
    refine rb_iload rfl dX4_raise_64 ?_
    refine mm_zald (k := 59) (v := (ms.1 59 (((ms.1 50 0) - (1 : Int32))).toNatClampNeg)) rfl rfl (((K).2 c1)).1 dX4_raise_66 ?_
    refine rb_ifne 107 (by decide) dX4_raise_67 (fun c2 => ?_) (fun c2 => ?_)
    · skip
      refine rb_aload_n 0 rfl rfl (rb_isR_ref _) dX4_raise_107 ?_
      refine rb_dup rfl dX4_raise_108 ?_
      refine mm_getI (v := (ms.1 50 0)) rfl fl_X4_285 rfl dX4_raise_109 ?_
      refine rb_iconst (v := (1 : Int32)) (by decide) dX4_raise_112 ?_
      refine rb_isub (z := ((ms.1 50 0) - (1 : Int32))) rfl dX4_raise_113 ?_
      refine mm_putI fl_X4_285 rfl dX4_raise_114 ?_
      refine rb_goto 45 (by decide) dX4_raise_117 ?_
      exact (((((K).2 c1)).2).1 c2)
    · skip
      refine rb_aload_n 0 rfl rfl (rb_isR_ref _) dX4_raise_70 ?_
      refine mm_getA (t := 2) fl_X4_38 rfl (by decide) dX4_raise_71 ?_
      refine rb_aload_n 0 rfl rfl (rb_isR_ref _) dX4_raise_74 ?_
      refine mm_getA (t := 2) fl_X4_137 rfl (by decide) dX4_raise_75 ?_
      refine rb_iload rfl dX4_raise_78 ?_
      refine mm_iald (k := 51) (v := (ms.1 51 (((ms.1 50 0) - (1 : Int32))).toNatClampNeg)) rfl rfl ((((((K).2 c1)).2).2 c2)).1 dX4_raise_80 ?_
      refine mm_iald (k := 11) (v := (ms.1 11 ((ms.1 51 (((ms.1 50 0) - (1 : Int32))).toNatClampNeg)).toNatClampNeg)) rfl rfl (((((((K).2 c1)).2).2 c2)).2).1 dX4_raise_81 ?_
      refine rb_iload_n 1 rfl rfl dX4_raise_82 ?_
      refine rb_icne 107 (by decide) dX4_raise_83 (fun c3 => ?_) (fun c3 => ?_)
      · skip
        refine rb_aload_n 0 rfl rfl (rb_isR_ref _) dX4_raise_107 ?_
        refine rb_dup rfl dX4_raise_108 ?_
        refine mm_getI (v := (ms.1 50 0)) rfl fl_X4_285 rfl dX4_raise_109 ?_
        refine rb_iconst (v := (1 : Int32)) (by decide) dX4_raise_112 ?_
        refine rb_isub (z := ((ms.1 50 0) - (1 : Int32))) rfl dX4_raise_113 ?_
        refine mm_putI fl_X4_285 rfl dX4_raise_114 ?_
        refine rb_goto 45 (by decide) dX4_raise_117 ?_
        exact (((((((((K).2 c1)).2).2 c2)).2).2).1 c3)
      · skip
        refine rb_aload_n 0 rfl rfl (rb_isR_ref _) dX4_raise_86 ?_
        refine mm_getA (t := 4) fl_X4_161 rfl (by decide) dX4_raise_87 ?_
        refine rb_iload rfl dX4_raise_90 ?_
        refine rb_iconst (v := (1 : Int32)) (by decide) dX4_raise_92 ?_
        refine mm_zast (k := 59) (y := (1 : Int32)) rfl ((((((((((K).2 c1)).2).2 c2)).2).2).2 c3)).1 (by decide) dX4_raise_93 ?_
        refine rb_aload_n 0 rfl rfl (rb_isR_ref _) dX4_raise_94 ?_
        refine mm_getA (t := 3) fl_X4_155 rfl (by decide) dX4_raise_95 ?_
        refine rb_iload rfl dX4_raise_98 ?_
        refine rb_lload_n 2 rfl rfl dX4_raise_100 ?_
        refine mm_last (k := 57) rfl (((((((((((K).2 c1)).2).2 c2)).2).2).2 c3)).2).1 dX4_raise_101 ?_
        refine rb_aload_n 0 rfl rfl (rb_isR_ref _) dX4_raise_102 ?_
        obtain ⟨ms5, d6, h1, h2, Kx4⟩ := (((((((((((K).2 c1)).2).2 c2)).2).2).2 c3)).2).2
        refine mm_call st_X4_294 (rest := []) h1 rfl rfl mm_rc (Nat.le_of_ble_eq_true rfl) h2 dX4_raise_103 ?_
        show rb_Bd κ mX4_raise (0, 0) (mm_H h ms5 M0) 106 [some (.ref h), some (.int a1), some (.long a2), none, some (.int ((ms.1 50 0) - (1 : Int32)))] []
        exact rb_vret rfl (Nat.zero_le _) (Nat.zero_le _) dX4_raise_106 Kx4
theorem sgX4_control_0 {κ : rb_K} {M0 : rb_H} {h : Nat} {ms : mm_S} {a1 : Int32} {a2 : Int32} {a3 : Int32} {a4 : Int32} (K : (vp_in a1 (mm_l 52) ∧ ((((a2).toInt < 9 ∨ 17 < (a2).toInt) → (∃ (ms3 : mm_S) (d4 : Nat), mm_C κ.1 yX4_toOther wX4_toOther d4 h M0 ms [.ref h, .int a1, .int a2, .int a3, .int a4] (none) ms3 ∧ rb_dp κ d4 ∧ (κ.2.2.1 (.returned none) (mm_H h ms3 M0)))) ∧ ((a2).toInt = 9 → (vp_in a1 (mm_l 54) ∧ (vp_in a1 (mm_l 55) ∧ (vp_in a1 (mm_l 57) ∧ (∃ (ms6 : mm_S) (d7 : Nat), mm_C κ.1 yX4_enterChain wX4_enterChain d7 h M0 ms [.ref h, .int (ms.1 52 (a1).toNatClampNeg), .int (ms.1 54 (a1).toNatClampNeg), .int ((ms.1 55 (a1).toNatClampNeg) - (1 : Int32)), .long (ms.2 57 (a1).toNatClampNeg)] (none) ms6 ∧ rb_dp κ d7 ∧ (κ.2.2.1 (.returned none) (mm_H h ms6 M0))))))) ∧ ((a2).toInt = 10 → (vp_in a1 (mm_l 57) ∧ (∃ (ms9 : mm_S) (d10 : Nat), mm_C κ.1 yX4_enterLast wX4_enterLast d10 h M0 ms [.ref h, .int (ms.1 52 (a1).toNatClampNeg), .int a3, .long (ms.2 57 (a1).toNatClampNeg)] (none) ms9 ∧ rb_dp κ d10 ∧ (κ.2.2.1 (.returned none) (mm_H h ms9 M0))))) ∧ ((a2).toInt = 11 → (vp_in a1 (mm_l 57) ∧ (∃ (ms12 : mm_S) (d13 : Nat), mm_C κ.1 yX4_enterAlias wX4_enterAlias d13 h M0 ms [.ref h, .int (ms.1 52 (a1).toNatClampNeg), .int a3, .long (ms.2 57 (a1).toNatClampNeg)] (none) ms12 ∧ rb_dp κ d13 ∧ (κ.2.2.1 (.returned none) (mm_H h ms12 M0))))) ∧ ((a2).toInt = 12 → (vp_in a1 (mm_l 56) ∧ (vp_in a1 (mm_l 57) ∧ ((¬ (ms.2 57 (a1).toNatClampNeg) = (0 : Int64) → (vp_in a1 (mm_l 56) ∧ (κ.2.2.1 (.returned none) (mm_H h (mm_sI ms 56 (a1).toNatClampNeg ((ms.1 56 (a1).toNatClampNeg) + (0 : Int32))) M0)))) ∧ ((ms.2 57 (a1).toNatClampNeg) = (0 : Int64) → (vp_in a1 (mm_l 56) ∧ (κ.2.2.1 (.returned none) (mm_H h (mm_sI ms 56 (a1).toNatClampNeg ((ms.1 56 (a1).toNatClampNeg) + a3)) M0)))))))) ∧ ((a2).toInt = 13 → (vp_in a1 (mm_l 57) ∧ (∃ (ms16 : mm_S) (d17 : Nat), mm_C κ.1 yX4_raise wX4_raise d17 h M0 ms [.ref h, .int a3, .long (ms.2 57 (a1).toNatClampNeg)] (none) ms16 ∧ rb_dp κ d17 ∧ (κ.2.2.1 (.returned none) (mm_H h ms16 M0))))) ∧ ((a2).toInt = 14 → (((100 : Int32) ≤ (ms.1 47 0) → (κ.2.2.1 (.returned none) (mm_H h (mm_sI ms 47 0 ((ms.1 47 0) + (1 : Int32))) M0))) ∧ ((ms.1 47 0) < (100 : Int32) → (vp_in a1 (mm_l 57) ∧ (vp_in (ms.1 47 0) (mm_l 48) ∧ (κ.2.2.1 (.returned none) (mm_H h (mm_sI (mm_sL ms 48 ((ms.1 47 0)).toNatClampNeg (ms.2 57 (a1).toNatClampNeg)) 47 0 ((ms.1 47 0) + (1 : Int32))) M0))))))) ∧ ((a2).toInt = 15 → (∃ (ms20 : mm_S) (d21 : Nat), mm_C κ.1 yX4_makeRow wX4_makeRow d21 h M0 ms [.ref h, .int a1, .int a3] (none) ms20 ∧ rb_dp κ d21 ∧ (κ.2.2.1 (.returned none) (mm_H h ms20 M0)))) ∧ ((a2).toInt = 16 → (∃ (x22 : Int32) (ms23 : mm_S) (d24 : Nat), mm_C κ.1 yX4_cellAt wX4_cellAt d24 h M0 ms [.ref h, .int a1, .int a4] (some (.int x22)) ms23 ∧ rb_dp κ d24 ∧ (vp_in x22 (mm_l 42) ∧ (∃ (ms26 : mm_S) (d27 : Nat), mm_C κ.1 yX4_placeInRow wX4_placeInRow d27 h M0 ms23 [.ref h, .int a1, .int a2, .int a3, .long (ms23.2 42 (x22).toNatClampNeg)] (none) ms26 ∧ rb_dp κ d27 ∧ (κ.2.2.1 (.returned none) (mm_H h ms26 M0)))))) ∧ ((a2).toInt = 17 → (∃ (x28 : Int32) (ms29 : mm_S) (d30 : Nat), mm_C κ.1 yX4_cellAt wX4_cellAt d30 h M0 ms [.ref h, .int a1, .int a4] (some (.int x28)) ms29 ∧ rb_dp κ d30 ∧ (vp_in x28 (mm_l 42) ∧ (∃ (ms32 : mm_S) (d33 : Nat), mm_C κ.1 yX4_placeInRow wX4_placeInRow d33 h M0 ms29 [.ref h, .int a1, .int a2, .int a3, .long (ms29.2 42 (x28).toNatClampNeg)] (none) ms32 ∧ rb_dp κ d33 ∧ (κ.2.2.1 (.returned none) (mm_H h ms32 M0))))))))) : rb_Bd κ mX4_control (0, 0) (mm_H h ms M0) 0 [some (.ref h), some (.int a1), some (.int a2), some (.int a3), some (.int a4), none] [] := by
  refine rb_aload_n 0 rfl rfl (rb_isR_ref _) dX4_control_0 ?_
  refine mm_getA (t := 2) fl_X4_140 rfl (by decide) dX4_control_1 ?_
  refine rb_iload_n 1 rfl rfl dX4_control_4 ?_
  refine mm_iald (k := 52) (v := (ms.1 52 (a1).toNatClampNeg)) rfl rfl (K).1 dX4_control_5 ?_
  refine rb_istore (ls' := [some (.ref h), some (.int a1), some (.int a2), some (.int a3), some (.int a4), some (.int (ms.1 52 (a1).toNatClampNeg))]) (by decide) rfl rfl dX4_control_6 ?_
  refine rb_iload_n 2 rfl rfl dX4_control_8 ?_
  rcases mm_sw8 (a2).toInt 9 with c1 | c1 | c1 | c1 | c1 | c1 | c1 | c1 | c1 | c1
  · skip
    refine rb_tableOut 231 (by omega) (by decide) dX4_control_9 ?_
    refine rb_aload_n 0 rfl rfl (rb_isR_ref _) dX4_control_231 ?_
    refine rb_iload_n 1 rfl rfl dX4_control_232 ?_
    refine rb_iload_n 2 rfl rfl dX4_control_233 ?_
    refine rb_iload_n 3 rfl rfl dX4_control_234 ?_
    refine rb_iload rfl dX4_control_235 ?_
    obtain ⟨ms3, d4, h1, h2, Kx2⟩ := (((K).2).1 (by omega))
    refine mm_call st_X4_346 (rest := []) h1 rfl rfl mm_rc (Nat.le_of_ble_eq_true rfl) h2 dX4_control_237 ?_
    show rb_Bd κ mX4_control (0, 0) (mm_H h ms3 M0) 240 [some (.ref h), some (.int a1), some (.int a2), some (.int a3), some (.int a4), some (.int (ms.1 52 (a1).toNatClampNeg))] []
    exact rb_vret rfl (Nat.zero_le _) (Nat.zero_le _) dX4_control_240 Kx2
  · skip
    refine rb_tableIn 60 (by omega) (by omega) (off := 51) (by rw [c1]; rfl) (by decide) dX4_control_9 ?_
    refine rb_aload_n 0 rfl rfl (rb_isR_ref _) dX4_control_60 ?_
    refine rb_iload rfl dX4_control_61 ?_
    refine rb_aload_n 0 rfl rfl (rb_isR_ref _) dX4_control_63 ?_
    refine mm_getA (t := 2) fl_X4_146 rfl (by decide) dX4_control_64 ?_
    refine rb_iload_n 1 rfl rfl dX4_control_67 ?_
    refine mm_iald (k := 54) (v := (ms.1 54 (a1).toNatClampNeg)) rfl rfl ((((K).2).2.1 c1)).1 dX4_control_68 ?_
    refine rb_aload_n 0 rfl rfl (rb_isR_ref _) dX4_control_69 ?_
    refine mm_getA (t := 2) fl_X4_149 rfl (by decide) dX4_control_70 ?_
    refine rb_iload_n 1 rfl rfl dX4_control_73 ?_
    refine mm_iald (k := 55) (v := (ms.1 55 (a1).toNatClampNeg)) rfl rfl (((((K).2).2.1 c1)).2).1 dX4_control_74 ?_
    refine rb_iconst (v := (1 : Int32)) (by decide) dX4_control_75 ?_
    refine rb_isub (z := ((ms.1 55 (a1).toNatClampNeg) - (1 : Int32))) rfl dX4_control_76 ?_
    refine rb_aload_n 0 rfl rfl (rb_isR_ref _) dX4_control_77 ?_
    refine mm_getA (t := 3) fl_X4_155 rfl (by decide) dX4_control_78 ?_
    refine rb_iload_n 1 rfl rfl dX4_control_81 ?_
    refine mm_lald (k := 57) (v := (ms.2 57 (a1).toNatClampNeg)) rfl rfl ((((((K).2).2.1 c1)).2).2).1 dX4_control_82 ?_
    obtain ⟨ms6, d7, h1, h2, Kx5⟩ := ((((((K).2).2.1 c1)).2).2).2
    refine mm_call st_X4_312 (rest := []) h1 rfl rfl mm_rc (Nat.le_of_ble_eq_true rfl) h2 dX4_control_83 ?_
    show rb_Bd κ mX4_control (0, 0) (mm_H h ms6 M0) 86 [some (.ref h), some (.int a1), some (.int a2), some (.int a3), some (.int a4), some (.int (ms.1 52 (a1).toNatClampNeg))] []
    refine rb_goto 240 (by decide) dX4_control_86 ?_
    exact rb_vret rfl (Nat.zero_le _) (Nat.zero_le _) dX4_control_240 Kx5
  · skip
    refine rb_tableIn 89 (by omega) (by omega) (off := 80) (by rw [c1]; rfl) (by decide) dX4_control_9 ?_
    refine rb_aload_n 0 rfl rfl (rb_isR_ref _) dX4_control_89 ?_
    refine rb_iload rfl dX4_control_90 ?_
    refine rb_iload_n 3 rfl rfl dX4_control_92 ?_
    refine rb_aload_n 0 rfl rfl (rb_isR_ref _) dX4_control_93 ?_
    refine mm_getA (t := 3) fl_X4_155 rfl (by decide) dX4_control_94 ?_
    refine rb_iload_n 1 rfl rfl dX4_control_97 ?_
    refine mm_lald (k := 57) (v := (ms.2 57 (a1).toNatClampNeg)) rfl rfl ((((K).2).2.2.1 c1)).1 dX4_control_98 ?_
    obtain ⟨ms9, d10, h1, h2, Kx8⟩ := ((((K).2).2.2.1 c1)).2
    refine mm_call st_X4_330 (rest := []) h1 rfl rfl mm_rc (Nat.le_of_ble_eq_true rfl) h2 dX4_control_99 ?_
    show rb_Bd κ mX4_control (0, 0) (mm_H h ms9 M0) 102 [some (.ref h), some (.int a1), some (.int a2), some (.int a3), some (.int a4), some (.int (ms.1 52 (a1).toNatClampNeg))] []
    refine rb_goto 240 (by decide) dX4_control_102 ?_
    exact rb_vret rfl (Nat.zero_le _) (Nat.zero_le _) dX4_control_240 Kx8
  · skip
    refine rb_tableIn 105 (by omega) (by omega) (off := 96) (by rw [c1]; rfl) (by decide) dX4_control_9 ?_
    refine rb_aload_n 0 rfl rfl (rb_isR_ref _) dX4_control_105 ?_
    refine rb_iload rfl dX4_control_106 ?_
    refine rb_iload_n 3 rfl rfl dX4_control_108 ?_
    refine rb_aload_n 0 rfl rfl (rb_isR_ref _) dX4_control_109 ?_
    refine mm_getA (t := 3) fl_X4_155 rfl (by decide) dX4_control_110 ?_
    refine rb_iload_n 1 rfl rfl dX4_control_113 ?_
    refine mm_lald (k := 57) (v := (ms.2 57 (a1).toNatClampNeg)) rfl rfl ((((K).2).2.2.2.1 c1)).1 dX4_control_114 ?_
    obtain ⟨ms12, d13, h1, h2, Kx11⟩ := ((((K).2).2.2.2.1 c1)).2
    refine mm_call st_X4_334 (rest := []) h1 rfl rfl mm_rc (Nat.le_of_ble_eq_true rfl) h2 dX4_control_115 ?_
    show rb_Bd κ mX4_control (0, 0) (mm_H h ms12 M0) 118 [some (.ref h), some (.int a1), some (.int a2), some (.int a3), some (.int a4), some (.int (ms.1 52 (a1).toNatClampNeg))] []
    refine rb_goto 240 (by decide) dX4_control_118 ?_
    exact rb_vret rfl (Nat.zero_le _) (Nat.zero_le _) dX4_control_240 Kx11
  · skip
    refine rb_tableIn 121 (by omega) (by omega) (off := 112) (by rw [c1]; rfl) (by decide) dX4_control_9 ?_
    refine rb_aload_n 0 rfl rfl (rb_isR_ref _) dX4_control_121 ?_
    refine mm_getA (t := 2) fl_X4_152 rfl (by decide) dX4_control_122 ?_
    refine rb_iload_n 1 rfl rfl dX4_control_125 ?_
    refine rb_dup2 rfl rfl dX4_control_126 ?_
    refine mm_iald (k := 56) (v := (ms.1 56 (a1).toNatClampNeg)) rfl rfl ((((K).2).2.2.2.2.1 c1)).1 dX4_control_127 ?_
    refine rb_aload_n 0 rfl rfl (rb_isR_ref _) dX4_control_128 ?_
    refine mm_getA (t := 3) fl_X4_155 rfl (by decide) dX4_control_129 ?_
    refine rb_iload_n 1 rfl rfl dX4_control_132 ?_
    refine mm_lald (k := 57) (v := (ms.2 57 (a1).toNatClampNeg)) rfl rfl (((((K).2).2.2.2.2.1 c1)).2).1 dX4_control_133 ?_
    refine rb_lconst (v := (0 : Int64)) (by decide) dX4_control_134 ?_
    refine rb_lc_ne 143 (by decide) dX4_control_135 dX4_control_136 (fun c14 => ?_) (fun c14 => ?_)
    · skip
      refine rb_iconst (v := (0 : Int32)) (by decide) dX4_control_143 ?_
      refine rb_iadd (z := ((ms.1 56 (a1).toNatClampNeg) + (0 : Int32))) rfl dX4_control_144 ?_
      refine mm_iast (k := 56) rfl ((((((((K).2).2.2.2.2.1 c1)).2).2).1 c14)).1 dX4_control_145 ?_
      refine rb_goto 240 (by decide) dX4_control_146 ?_
      exact rb_vret rfl (Nat.zero_le _) (Nat.zero_le _) dX4_control_240 ((((((((K).2).2.2.2.2.1 c1)).2).2).1 c14)).2
    · skip
      refine rb_iload_n 3 rfl rfl dX4_control_139 ?_
      refine rb_goto 144 (by decide) dX4_control_140 ?_
      refine rb_iadd (z := ((ms.1 56 (a1).toNatClampNeg) + a3)) rfl dX4_control_144 ?_
      refine mm_iast (k := 56) rfl ((((((((K).2).2.2.2.2.1 c1)).2).2).2 c14)).1 dX4_control_145 ?_
      refine rb_goto 240 (by decide) dX4_control_146 ?_
      exact rb_vret rfl (Nat.zero_le _) (Nat.zero_le _) dX4_control_240 ((((((((K).2).2.2.2.2.1 c1)).2).2).2 c14)).2
  · skip
    refine rb_tableIn 149 (by omega) (by omega) (off := 140) (by rw [c1]; rfl) (by decide) dX4_control_9 ?_
    refine rb_aload_n 0 rfl rfl (rb_isR_ref _) dX4_control_149 ?_
    refine rb_iload_n 3 rfl rfl dX4_control_150 ?_
    refine rb_aload_n 0 rfl rfl (rb_isR_ref _) dX4_control_151 ?_
    refine mm_getA (t := 3) fl_X4_155 rfl (by decide) dX4_control_152 ?_
    refine rb_iload_n 1 rfl rfl dX4_control_155 ?_
    refine mm_lald (k := 57) (v := (ms.2 57 (a1).toNatClampNeg)) rfl rfl ((((K).2).2.2.2.2.2.1 c1)).1 dX4_control_156 ?_
    obtain ⟨ms16, d17, h1, h2, Kx15⟩ := ((((K).2).2.2.2.2.2.1 c1)).2
    refine mm_call st_X4_304 (rest := []) h1 rfl rfl mm_rc (Nat.le_of_ble_eq_true rfl) h2 dX4_control_157 ?_
    show rb_Bd κ mX4_control (0, 0) (mm_H h ms16 M0) 160 [some (.ref h), some (.int a1), some (.int a2), some (.int a3), some (.int a4), some (.int (ms.1 52 (a1).toNatClampNeg))] []
    refine rb_goto 240 (by decide) dX4_control_160 ?_
    exact rb_vret rfl (Nat.zero_le _) (Nat.zero_le _) dX4_control_240 Kx15
  · skip
    refine rb_tableIn 163 (by omega) (by omega) (off := 154) (by rw [c1]; rfl) (by decide) dX4_control_9 ?_
    refine rb_aload_n 0 rfl rfl (rb_isR_ref _) dX4_control_163 ?_
    refine mm_getI (v := (ms.1 47 0)) rfl fl_X4_337 rfl dX4_control_164 ?_
    refine rb_bipush (v := (100 : Int32)) (by decide) dX4_control_167 ?_
    refine rb_icge 187 (by decide) dX4_control_169 (fun c18 => ?_) (fun c18 => ?_)
    · skip
      refine rb_aload_n 0 rfl rfl (rb_isR_ref _) dX4_control_187 ?_
      refine rb_dup rfl dX4_control_188 ?_
      refine mm_getI (v := (ms.1 47 0)) rfl fl_X4_337 rfl dX4_control_189 ?_
      refine rb_iconst (v := (1 : Int32)) (by decide) dX4_control_192 ?_
      refine rb_iadd (z := ((ms.1 47 0) + (1 : Int32))) rfl dX4_control_193 ?_
      refine mm_putI fl_X4_337 rfl dX4_control_194 ?_
      refine rb_goto 240 (by decide) dX4_control_197 ?_
      exact rb_vret rfl (Nat.zero_le _) (Nat.zero_le _) dX4_control_240 (((((K).2).2.2.2.2.2.2.1 c1)).1 c18)
    · skip
      refine rb_aload_n 0 rfl rfl (rb_isR_ref _) dX4_control_172 ?_
      refine mm_getA (t := 3) fl_X4_134 rfl (by decide) dX4_control_173 ?_
      refine rb_aload_n 0 rfl rfl (rb_isR_ref _) dX4_control_176 ?_
      refine mm_getI (v := (ms.1 47 0)) rfl fl_X4_337 rfl dX4_control_177 ?_
      refine rb_aload_n 0 rfl rfl (rb_isR_ref _) dX4_control_180 ?_
      refine mm_getA (t := 3) fl_X4_155 rfl (by decide) dX4_control_181 ?_
      refine rb_iload_n 1 rfl rfl dX4_control_184 ?_
      refine mm_lald (k := 57) (v := (ms.2 57 (a1).toNatClampNeg)) rfl rfl ((((((K).2).2.2.2.2.2.2.1 c1)).2 c18)).1 dX4_control_185 ?_
      refine mm_last (k := 48) rfl (((((((K).2).2.2.2.2.2.2.1 c1)).2 c18)).2).1 dX4_control_186 ?_
      refine rb_aload_n 0 rfl rfl (rb_isR_ref _) dX4_control_187 ?_
      refine rb_dup rfl dX4_control_188 ?_
      refine mm_getI (v := (ms.1 47 0)) rfl fl_X4_337 rfl dX4_control_189 ?_
      refine rb_iconst (v := (1 : Int32)) (by decide) dX4_control_192 ?_
      refine rb_iadd (z := ((ms.1 47 0) + (1 : Int32))) rfl dX4_control_193 ?_
      refine mm_putI fl_X4_337 rfl dX4_control_194 ?_
      refine rb_goto 240 (by decide) dX4_control_197 ?_
      exact rb_vret rfl (Nat.zero_le _) (Nat.zero_le _) dX4_control_240 (((((((K).2).2.2.2.2.2.2.1 c1)).2 c18)).2).2
  · skip
    refine rb_tableIn 200 (by omega) (by omega) (off := 191) (by rw [c1]; rfl) (by decide) dX4_control_9 ?_
    refine rb_aload_n 0 rfl rfl (rb_isR_ref _) dX4_control_200 ?_
    refine rb_iload_n 1 rfl rfl dX4_control_201 ?_
    refine rb_iload_n 3 rfl rfl dX4_control_202 ?_
    obtain ⟨ms20, d21, h1, h2, Kx19⟩ := (((K).2).2.2.2.2.2.2.2.1 c1)
    refine mm_call st_X4_340 (rest := []) h1 rfl rfl mm_rc (Nat.le_of_ble_eq_true rfl) h2 dX4_control_203 ?_
    show rb_Bd κ mX4_control (0, 0) (mm_H h ms20 M0) 206 [some (.ref h), some (.int a1), some (.int a2), some (.int a3), some (.int a4), some (.int (ms.1 52 (a1).toNatClampNeg))] []
    refine rb_goto 240 (by decide) dX4_control_206 ?_
    exact rb_vret rfl (Nat.zero_le _) (Nat.zero_le _) dX4_control_240 Kx19
  · skip
    refine rb_tableIn 209 (by omega) (by omega) (off := 200) (by rw [c1]; rfl) (by decide) dX4_control_9 ?_
    refine rb_aload_n 0 rfl rfl (rb_isR_ref _) dX4_control_209 ?_
    refine rb_iload_n 1 rfl rfl dX4_control_210 ?_
    refine rb_iload_n 2 rfl rfl dX4_control_211 ?_
    refine rb_iload_n 3 rfl rfl dX4_control_212 ?_
    refine rb_aload_n 0 rfl rfl (rb_isR_ref _) dX4_control_213 ?_
    refine mm_getA (t := 3) fl_X4_117 rfl (by decide) dX4_control_214 ?_
    refine rb_aload_n 0 rfl rfl (rb_isR_ref _) dX4_control_217 ?_
    refine rb_iload_n 1 rfl rfl dX4_control_218 ?_
    refine rb_iload rfl dX4_control_219 ?_
    obtain ⟨x22, ms23, d24, h1, h2, Kx22⟩ := (((K).2).2.2.2.2.2.2.2.2.1 c1)
    refine mm_call st_X4_327 (rest := [.ref (h + mm_p 42), .int a3, .int a2, .int a1, .ref h]) h1 rfl rfl mm_rc (Nat.le_of_ble_eq_true rfl) h2 dX4_control_221 ?_
    show rb_Bd κ mX4_control (0, 0) (mm_H h ms23 M0) 224 [some (.ref h), some (.int a1), some (.int a2), some (.int a3), some (.int a4), some (.int (ms.1 52 (a1).toNatClampNeg))] [.int x22, .ref (h + mm_p 42), .int a3, .int a2, .int a1, .ref h]
    refine mm_lald (k := 42) (v := (ms23.2 42 (x22).toNatClampNeg)) rfl rfl (Kx22).1 dX4_control_224 ?_
    obtain ⟨ms26, d27, h1, h2, Kx25⟩ := (Kx22).2
    refine mm_call st_X4_343 (rest := []) h1 rfl rfl mm_rc (Nat.le_of_ble_eq_true rfl) h2 dX4_control_225 ?_
    show rb_Bd κ mX4_control (0, 0) (mm_H h ms26 M0) 228 [some (.ref h), some (.int a1), some (.int a2), some (.int a3), some (.int a4), some (.int (ms.1 52 (a1).toNatClampNeg))] []
    refine rb_goto 240 (by decide) dX4_control_228 ?_
    exact rb_vret rfl (Nat.zero_le _) (Nat.zero_le _) dX4_control_240 Kx25
  · skip
    refine rb_tableIn 209 (by omega) (by omega) (off := 200) (by rw [c1]; rfl) (by decide) dX4_control_9 ?_
    refine rb_aload_n 0 rfl rfl (rb_isR_ref _) dX4_control_209 ?_
    refine rb_iload_n 1 rfl rfl dX4_control_210 ?_
    refine rb_iload_n 2 rfl rfl dX4_control_211 ?_
    refine rb_iload_n 3 rfl rfl dX4_control_212 ?_
    refine rb_aload_n 0 rfl rfl (rb_isR_ref _) dX4_control_213 ?_
    refine mm_getA (t := 3) fl_X4_117 rfl (by decide) dX4_control_214 ?_
    refine rb_aload_n 0 rfl rfl (rb_isR_ref _) dX4_control_217 ?_
    refine rb_iload_n 1 rfl rfl dX4_control_218 ?_
    refine rb_iload rfl dX4_control_219 ?_
    obtain ⟨x28, ms29, d30, h1, h2, Kx28⟩ := (((K).2).2.2.2.2.2.2.2.2.2 c1)
    refine mm_call st_X4_327 (rest := [.ref (h + mm_p 42), .int a3, .int a2, .int a1, .ref h]) h1 rfl rfl mm_rc (Nat.le_of_ble_eq_true rfl) h2 dX4_control_221 ?_
    show rb_Bd κ mX4_control (0, 0) (mm_H h ms29 M0) 224 [some (.ref h), some (.int a1), some (.int a2), some (.int a3), some (.int a4), some (.int (ms.1 52 (a1).toNatClampNeg))] [.int x28, .ref (h + mm_p 42), .int a3, .int a2, .int a1, .ref h]
    refine mm_lald (k := 42) (v := (ms29.2 42 (x28).toNatClampNeg)) rfl rfl (Kx28).1 dX4_control_224 ?_
    obtain ⟨ms32, d33, h1, h2, Kx31⟩ := (Kx28).2
    refine mm_call st_X4_343 (rest := []) h1 rfl rfl mm_rc (Nat.le_of_ble_eq_true rfl) h2 dX4_control_225 ?_
    show rb_Bd κ mX4_control (0, 0) (mm_H h ms32 M0) 228 [some (.ref h), some (.int a1), some (.int a2), some (.int a3), some (.int a4), some (.int (ms.1 52 (a1).toNatClampNeg))] []
    refine rb_goto 240 (by decide) dX4_control_228 ?_
    exact rb_vret rfl (Nat.zero_le _) (Nat.zero_le _) dX4_control_240 Kx31
theorem sgX4_enterChain_0 {κ : rb_K} {M0 : rb_H} {h : Nat} {ms : mm_S} {a1 : Int32} {a2 : Int32} {a3 : Int32} {a4 : Int64} (K : ((a1 = (100 : Int32) → (∃ (ms3 : mm_S) (d4 : Nat), mm_C κ.1 yX4_raise wX4_raise d4 h M0 ms [.ref h, .int (12 : Int32), .long (0 : Int64)] (none) ms3 ∧ rb_dp κ d4 ∧ (κ.2.2.1 (.returned none) (mm_H h ms3 M0)))) ∧ (¬ a1 = (100 : Int32) → ((0 ≤ a3 → (vp_in a1 (mm_l 41) ∧ (vp_in (((48 : Int32) * (((12 : Int32) * (ms.1 41 (a1).toNatClampNeg)) + a2)) + a3) (mm_l 29) ∧ (vp_in (((24 : Int32) * (ms.1 41 (a1).toNatClampNeg)) + ((ms.1 29 ((((48 : Int32) * (((12 : Int32) * (ms.1 41 (a1).toNatClampNeg)) + a2)) + a3)).toNatClampNeg) / (25 : Int32))) (mm_l 27) ∧ (∃ (ms7 : mm_S) (d8 : Nat), mm_C κ.1 yX4_enter wX4_enter d8 h M0 ms [.ref h, .int (ms.1 29 ((((48 : Int32) * (((12 : Int32) * (ms.1 41 (a1).toNatClampNeg)) + a2)) + a3)).toNatClampNeg), .int a1, .int (ms.1 27 ((((24 : Int32) * (ms.1 41 (a1).toNatClampNeg)) + ((ms.1 29 ((((48 : Int32) * (((12 : Int32) * (ms.1 41 (a1).toNatClampNeg)) + a2)) + a3)).toNatClampNeg) / (25 : Int32)))).toNatClampNeg), .int a2, .int a3, .long a4] (none) ms7 ∧ rb_dp κ d8 ∧ (κ.2.2.1 (.returned none) (mm_H h ms7 M0))))))) ∧ (a3 < 0 → (∃ (ms10 : mm_S) (d11 : Nat), mm_C κ.1 yX4_raise wX4_raise d11 h M0 ms [.ref h, .int (12 : Int32), .long (0 : Int64)] (none) ms10 ∧ rb_dp κ d11 ∧ (κ.2.2.1 (.returned none) (mm_H h ms10 M0)))))))) : rb_Bd κ mX4_enterChain (0, 0) (mm_H h ms M0) 0 [some (.ref h), some (.int a1), some (.int a2), some (.int a3), some (.long a4), none, none, none] [] := by
  refine rb_iload_n 1 rfl rfl dX4_enterChain_0 ?_
  refine rb_bipush (v := (100 : Int32)) (by decide) dX4_enterChain_1 ?_
  refine rb_iceq 10 (by decide) dX4_enterChain_3 (fun c1 => ?_) (fun c1 => ?_)
  · skip
    refine rb_aload_n 0 rfl rfl (rb_isR_ref _) dX4_enterChain_10 ?_
    refine rb_bipush (v := (12 : Int32)) (by decide) dX4_enterChain_11 ?_
    refine rb_lconst (v := (0 : Int64)) (by decide) dX4_enterChain_13 ?_
    obtain ⟨ms3, d4, h1, h2, Kx2⟩ := ((K).1 c1)
    refine mm_call st_X4_304 (rest := []) h1 rfl rfl mm_rc (Nat.le_of_ble_eq_true rfl) h2 dX4_enterChain_14 ?_
    show rb_Bd κ mX4_enterChain (0, 0) (mm_H h ms3 M0) 17 [some (.ref h), some (.int a1), some (.int a2), some (.int a3), some (.long a4), none, none, none] []
    exact rb_vret rfl (Nat.zero_le _) (Nat.zero_le _) dX4_enterChain_17 Kx2
  · skip
    refine rb_iload_n 3 rfl rfl dX4_enterChain_6 ?_
    refine rb_ifge 18 (by decide) dX4_enterChain_7 (fun c5 => ?_) (fun c5 => ?_)
    · skip
      refine rb_aload_n 0 rfl rfl (rb_isR_ref _) dX4_enterChain_18 ?_
      refine mm_getA (t := 2) fl_X4_114 rfl (by decide) dX4_enterChain_19 ?_
      refine rb_iload_n 1 rfl rfl dX4_enterChain_22 ?_
      refine mm_iald (k := 41) (v := (ms.1 41 (a1).toNatClampNeg)) rfl rfl (((((K).2 c1)).1 c5)).1 dX4_enterChain_23 ?_
      refine rb_istore (ls' := [some (.ref h), some (.int a1), some (.int a2), some (.int a3), some (.long a4), none, some (.int (ms.1 41 (a1).toNatClampNeg)), none]) (by decide) rfl rfl dX4_enterChain_24 ?_
      refine rb_aload_n 0 rfl rfl (rb_isR_ref _) dX4_enterChain_26 ?_
      refine mm_getA (t := 2) fl_X4_84 rfl (by decide) dX4_enterChain_27 ?_
      refine rb_bipush (v := (48 : Int32)) (by decide) dX4_enterChain_30 ?_
      refine rb_bipush (v := (12 : Int32)) (by decide) dX4_enterChain_32 ?_
      refine rb_iload rfl dX4_enterChain_34 ?_
      refine rb_imul (z := ((12 : Int32) * (ms.1 41 (a1).toNatClampNeg))) rfl dX4_enterChain_36 ?_
      refine rb_iload_n 2 rfl rfl dX4_enterChain_37 ?_
      refine rb_iadd (z := (((12 : Int32) * (ms.1 41 (a1).toNatClampNeg)) + a2)) rfl dX4_enterChain_38 ?_
      refine rb_imul (z := ((48 : Int32) * (((12 : Int32) * (ms.1 41 (a1).toNatClampNeg)) + a2))) rfl dX4_enterChain_39 ?_
      refine rb_iload_n 3 rfl rfl dX4_enterChain_40 ?_
      refine rb_iadd (z := (((48 : Int32) * (((12 : Int32) * (ms.1 41 (a1).toNatClampNeg)) + a2)) + a3)) rfl dX4_enterChain_41 ?_
      refine mm_iald (k := 29) (v := (ms.1 29 ((((48 : Int32) * (((12 : Int32) * (ms.1 41 (a1).toNatClampNeg)) + a2)) + a3)).toNatClampNeg)) rfl rfl ((((((K).2 c1)).1 c5)).2).1 dX4_enterChain_42 ?_
      refine rb_istore (ls' := [some (.ref h), some (.int a1), some (.int a2), some (.int a3), some (.long a4), none, some (.int (ms.1 41 (a1).toNatClampNeg)), some (.int (ms.1 29 ((((48 : Int32) * (((12 : Int32) * (ms.1 41 (a1).toNatClampNeg)) + a2)) + a3)).toNatClampNeg))]) (by decide) rfl rfl dX4_enterChain_43 ?_
      refine rb_aload_n 0 rfl rfl (rb_isR_ref _) dX4_enterChain_45 ?_
      refine rb_iload rfl dX4_enterChain_46 ?_
      refine rb_iload_n 1 rfl rfl dX4_enterChain_48 ?_
      refine rb_aload_n 0 rfl rfl (rb_isR_ref _) dX4_enterChain_49 ?_
      refine mm_getA (t := 2) fl_X4_78 rfl (by decide) dX4_enterChain_50 ?_
      refine rb_bipush (v := (24 : Int32)) (by decide) dX4_enterChain_53 ?_
      refine rb_iload rfl dX4_enterChain_55 ?_
      refine rb_imul (z := ((24 : Int32) * (ms.1 41 (a1).toNatClampNeg))) rfl dX4_enterChain_57 ?_
      refine rb_iload rfl dX4_enterChain_58 ?_
      refine rb_bipush (v := (25 : Int32)) (by decide) dX4_enterChain_60 ?_
      refine rb_idiv (z := ((ms.1 29 ((((48 : Int32) * (((12 : Int32) * (ms.1 41 (a1).toNatClampNeg)) + a2)) + a3)).toNatClampNeg) / (25 : Int32))) (by decide) rfl dX4_enterChain_62 ?_
      refine rb_iadd (z := (((24 : Int32) * (ms.1 41 (a1).toNatClampNeg)) + ((ms.1 29 ((((48 : Int32) * (((12 : Int32) * (ms.1 41 (a1).toNatClampNeg)) + a2)) + a3)).toNatClampNeg) / (25 : Int32)))) rfl dX4_enterChain_63 ?_
      refine mm_iald (k := 27) (v := (ms.1 27 ((((24 : Int32) * (ms.1 41 (a1).toNatClampNeg)) + ((ms.1 29 ((((48 : Int32) * (((12 : Int32) * (ms.1 41 (a1).toNatClampNeg)) + a2)) + a3)).toNatClampNeg) / (25 : Int32)))).toNatClampNeg)) rfl rfl (((((((K).2 c1)).1 c5)).2).2).1 dX4_enterChain_64 ?_
      refine rb_iload_n 2 rfl rfl dX4_enterChain_65 ?_
      refine rb_iload_n 3 rfl rfl dX4_enterChain_66 ?_
      refine rb_lload rfl dX4_enterChain_67 ?_
      obtain ⟨ms7, d8, h1, h2, Kx6⟩ := (((((((K).2 c1)).1 c5)).2).2).2
      refine mm_call st_X4_308 (rest := []) h1 rfl rfl mm_rc (Nat.le_of_ble_eq_true rfl) h2 dX4_enterChain_69 ?_
      show rb_Bd κ mX4_enterChain (0, 0) (mm_H h ms7 M0) 72 [some (.ref h), some (.int a1), some (.int a2), some (.int a3), some (.long a4), none, some (.int (ms.1 41 (a1).toNatClampNeg)), some (.int (ms.1 29 ((((48 : Int32) * (((12 : Int32) * (ms.1 41 (a1).toNatClampNeg)) + a2)) + a3)).toNatClampNeg))] []
      exact rb_vret rfl (Nat.zero_le _) (Nat.zero_le _) dX4_enterChain_72 Kx6
    · skip
      refine rb_aload_n 0 rfl rfl (rb_isR_ref _) dX4_enterChain_10 ?_
      refine rb_bipush (v := (12 : Int32)) (by decide) dX4_enterChain_11 ?_
      refine rb_lconst (v := (0 : Int64)) (by decide) dX4_enterChain_13 ?_
      obtain ⟨ms10, d11, h1, h2, Kx9⟩ := ((((K).2 c1)).2 c5)
      refine mm_call st_X4_304 (rest := []) h1 rfl rfl mm_rc (Nat.le_of_ble_eq_true rfl) h2 dX4_enterChain_14 ?_
      show rb_Bd κ mX4_enterChain (0, 0) (mm_H h ms10 M0) 17 [some (.ref h), some (.int a1), some (.int a2), some (.int a3), some (.long a4), none, none, none] []
      exact rb_vret rfl (Nat.zero_le _) (Nat.zero_le _) dX4_enterChain_17 Kx9
theorem sgX4_enterLast_0 {κ : rb_K} {M0 : rb_H} {h : Nat} {ms : mm_S} {a1 : Int32} {a2 : Int32} {a3 : Int64} (K : ((¬ a1 = (100 : Int32) → (vp_in a1 (mm_l 41) ∧ (vp_in (((12 : Int32) * (ms.1 41 (a1).toNatClampNeg)) + a2) (mm_l 28) ∧ (∃ (ms3 : mm_S) (d4 : Nat), mm_C κ.1 yX4_enterChain wX4_enterChain d4 h M0 ms [.ref h, .int a1, .int a2, .int ((ms.1 28 ((((12 : Int32) * (ms.1 41 (a1).toNatClampNeg)) + a2)).toNatClampNeg) - (1 : Int32)), .long a3] (none) ms3 ∧ rb_dp κ d4 ∧ (κ.2.2.1 (.returned none) (mm_H h ms3 M0)))))) ∧ (a1 = (100 : Int32) → (∃ (ms6 : mm_S) (d7 : Nat), mm_C κ.1 yX4_enterChain wX4_enterChain d7 h M0 ms [.ref h, .int a1, .int a2, .int (-9 : Int32), .long a3] (none) ms6 ∧ rb_dp κ d7 ∧ (κ.2.2.1 (.returned none) (mm_H h ms6 M0)))))) : rb_Bd κ mX4_enterLast (0, 0) (mm_H h ms M0) 0 [some (.ref h), some (.int a1), some (.int a2), some (.long a3), none] [] := by
  refine rb_aload_n 0 rfl rfl (rb_isR_ref _) dX4_enterLast_0 ?_
  refine rb_iload_n 1 rfl rfl dX4_enterLast_1 ?_
  refine rb_iload_n 2 rfl rfl dX4_enterLast_2 ?_
  refine rb_iload_n 1 rfl rfl dX4_enterLast_3 ?_
  refine rb_bipush (v := (100 : Int32)) (by decide) dX4_enterLast_4 ?_
  refine rb_icne 14 (by decide) dX4_enterLast_6 (fun c1 => ?_) (fun c1 => ?_)
  · skip
    refine rb_aload_n 0 rfl rfl (rb_isR_ref _) dX4_enterLast_14 ?_
    refine mm_getA (t := 2) fl_X4_81 rfl (by decide) dX4_enterLast_15 ?_
    refine rb_bipush (v := (12 : Int32)) (by decide) dX4_enterLast_18 ?_
    refine rb_aload_n 0 rfl rfl (rb_isR_ref _) dX4_enterLast_20 ?_
    refine mm_getA (t := 2) fl_X4_114 rfl (by decide) dX4_enterLast_21 ?_
    refine rb_iload_n 1 rfl rfl dX4_enterLast_24 ?_
    refine mm_iald (k := 41) (v := (ms.1 41 (a1).toNatClampNeg)) rfl rfl (((K).1 c1)).1 dX4_enterLast_25 ?_
    refine rb_imul (z := ((12 : Int32) * (ms.1 41 (a1).toNatClampNeg))) rfl dX4_enterLast_26 ?_
    refine rb_iload_n 2 rfl rfl dX4_enterLast_27 ?_
    refine rb_iadd (z := (((12 : Int32) * (ms.1 41 (a1).toNatClampNeg)) + a2)) rfl dX4_enterLast_28 ?_
    refine mm_iald (k := 28) (v := (ms.1 28 ((((12 : Int32) * (ms.1 41 (a1).toNatClampNeg)) + a2)).toNatClampNeg)) rfl rfl ((((K).1 c1)).2).1 dX4_enterLast_29 ?_
    refine rb_iconst (v := (1 : Int32)) (by decide) dX4_enterLast_30 ?_
    refine rb_isub (z := ((ms.1 28 ((((12 : Int32) * (ms.1 41 (a1).toNatClampNeg)) + a2)).toNatClampNeg) - (1 : Int32))) rfl dX4_enterLast_31 ?_
    refine rb_lload_n 3 rfl rfl dX4_enterLast_32 ?_
    obtain ⟨ms3, d4, h1, h2, Kx2⟩ := ((((K).1 c1)).2).2
    refine mm_call st_X4_312 (rest := []) h1 rfl rfl mm_rc (Nat.le_of_ble_eq_true rfl) h2 dX4_enterLast_33 ?_
    show rb_Bd κ mX4_enterLast (0, 0) (mm_H h ms3 M0) 36 [some (.ref h), some (.int a1), some (.int a2), some (.long a3), none] []
    exact rb_vret rfl (Nat.zero_le _) (Nat.zero_le _) dX4_enterLast_36 Kx2
  · skip
    refine rb_bipush (v := (-9 : Int32)) (by decide) dX4_enterLast_9 ?_
    refine rb_goto 32 (by decide) dX4_enterLast_11 ?_
    refine rb_lload_n 3 rfl rfl dX4_enterLast_32 ?_
    obtain ⟨ms6, d7, h1, h2, Kx5⟩ := ((K).2 c1)
    refine mm_call st_X4_312 (rest := []) h1 rfl rfl mm_rc (Nat.le_of_ble_eq_true rfl) h2 dX4_enterLast_33 ?_
    show rb_Bd κ mX4_enterLast (0, 0) (mm_H h ms6 M0) 36 [some (.ref h), some (.int a1), some (.int a2), some (.long a3), none] []
    exact rb_vret rfl (Nat.zero_le _) (Nat.zero_le _) dX4_enterLast_36 Kx5
theorem sgX4_enterAlias_0 {κ : rb_K} {M0 : rb_H} {h : Nat} {ms : mm_S} {a1 : Int32} {a2 : Int32} {a3 : Int64} (K : ((¬ a1 = (100 : Int32) → (vp_in a1 (mm_l 41) ∧ (vp_in (((4 : Int32) * (ms.1 41 (a1).toNatClampNeg)) + a2) (mm_l 30) ∧ ((0 ≤ (ms.1 30 ((((4 : Int32) * (ms.1 41 (a1).toNatClampNeg)) + a2)).toNatClampNeg) → (vp_in a1 (mm_l 41) ∧ (vp_in (((4 : Int32) * (ms.1 41 (a1).toNatClampNeg)) + a2) (mm_l 31) ∧ (∃ (ms4 : mm_S) (d5 : Nat), mm_C κ.1 yX4_enterChain wX4_enterChain d5 h M0 ms [.ref h, .int a1, .int (ms.1 30 ((((4 : Int32) * (ms.1 41 (a1).toNatClampNeg)) + a2)).toNatClampNeg), .int (ms.1 31 ((((4 : Int32) * (ms.1 41 (a1).toNatClampNeg)) + a2)).toNatClampNeg), .long a3] (none) ms4 ∧ rb_dp κ d5 ∧ (κ.2.2.1 (.returned none) (mm_H h ms4 M0)))))) ∧ ((ms.1 30 ((((4 : Int32) * (ms.1 41 (a1).toNatClampNeg)) + a2)).toNatClampNeg) < 0 → (∃ (ms7 : mm_S) (d8 : Nat), mm_C κ.1 yX4_enterChain wX4_enterChain d8 h M0 ms [.ref h, .int a1, .int (ms.1 30 ((((4 : Int32) * (ms.1 41 (a1).toNatClampNeg)) + a2)).toNatClampNeg), .int (-9 : Int32), .long a3] (none) ms7 ∧ rb_dp κ d8 ∧ (κ.2.2.1 (.returned none) (mm_H h ms7 M0)))))))) ∧ (a1 = (100 : Int32) → ((0 ≤ (-9 : Int32) → (vp_in a1 (mm_l 41) ∧ (vp_in (((4 : Int32) * (ms.1 41 (a1).toNatClampNeg)) + a2) (mm_l 31) ∧ (∃ (ms11 : mm_S) (d12 : Nat), mm_C κ.1 yX4_enterChain wX4_enterChain d12 h M0 ms [.ref h, .int a1, .int (-9 : Int32), .int (ms.1 31 ((((4 : Int32) * (ms.1 41 (a1).toNatClampNeg)) + a2)).toNatClampNeg), .long a3] (none) ms11 ∧ rb_dp κ d12 ∧ (κ.2.2.1 (.returned none) (mm_H h ms11 M0)))))) ∧ ((-9 : Int32) < 0 → (∃ (ms14 : mm_S) (d15 : Nat), mm_C κ.1 yX4_enterChain wX4_enterChain d15 h M0 ms [.ref h, .int a1, .int (-9 : Int32), .int (-9 : Int32), .long a3] (none) ms14 ∧ rb_dp κ d15 ∧ (κ.2.2.1 (.returned none) (mm_H h ms14 M0)))))))) : rb_Bd κ mX4_enterAlias (0, 0) (mm_H h ms M0) 0 [some (.ref h), some (.int a1), some (.int a2), some (.long a3), none, none] [] := by
  refine rb_iload_n 1 rfl rfl dX4_enterAlias_0 ?_
  refine rb_bipush (v := (100 : Int32)) (by decide) dX4_enterAlias_1 ?_
  refine rb_icne 11 (by decide) dX4_enterAlias_3 (fun c1 => ?_) (fun c1 => ?_)
  · skip
    refine rb_aload_n 0 rfl rfl (rb_isR_ref _) dX4_enterAlias_11 ?_
    refine mm_getA (t := 2) fl_X4_87 rfl (by decide) dX4_enterAlias_12 ?_
    refine rb_iconst (v := (4 : Int32)) (by decide) dX4_enterAlias_15 ?_
    refine rb_aload_n 0 rfl rfl (rb_isR_ref _) dX4_enterAlias_16 ?_
    refine mm_getA (t := 2) fl_X4_114 rfl (by decide) dX4_enterAlias_17 ?_
    refine rb_iload_n 1 rfl rfl dX4_enterAlias_20 ?_
    refine mm_iald (k := 41) (v := (ms.1 41 (a1).toNatClampNeg)) rfl rfl (((K).1 c1)).1 dX4_enterAlias_21 ?_
    refine rb_imul (z := ((4 : Int32) * (ms.1 41 (a1).toNatClampNeg))) rfl dX4_enterAlias_22 ?_
    refine rb_iload_n 2 rfl rfl dX4_enterAlias_23 ?_
    refine rb_iadd (z := (((4 : Int32) * (ms.1 41 (a1).toNatClampNeg)) + a2)) rfl dX4_enterAlias_24 ?_
    refine mm_iald (k := 30) (v := (ms.1 30 ((((4 : Int32) * (ms.1 41 (a1).toNatClampNeg)) + a2)).toNatClampNeg)) rfl rfl ((((K).1 c1)).2).1 dX4_enterAlias_25 ?_
    refine rb_istore (ls' := [some (.ref h), some (.int a1), some (.int a2), some (.long a3), none, some (.int (ms.1 30 ((((4 : Int32) * (ms.1 41 (a1).toNatClampNeg)) + a2)).toNatClampNeg))]) (by decide) rfl rfl dX4_enterAlias_26 ?_
    refine rb_aload_n 0 rfl rfl (rb_isR_ref _) dX4_enterAlias_28 ?_
    refine rb_iload_n 1 rfl rfl dX4_enterAlias_29 ?_
    refine rb_iload rfl dX4_enterAlias_30 ?_
    refine rb_iload rfl dX4_enterAlias_32 ?_
    refine rb_ifge 42 (by decide) dX4_enterAlias_34 (fun c2 => ?_) (fun c2 => ?_)
    · skip
      refine rb_aload_n 0 rfl rfl (rb_isR_ref _) dX4_enterAlias_42 ?_
      refine mm_getA (t := 2) fl_X4_90 rfl (by decide) dX4_enterAlias_43 ?_
      refine rb_iconst (v := (4 : Int32)) (by decide) dX4_enterAlias_46 ?_
      refine rb_aload_n 0 rfl rfl (rb_isR_ref _) dX4_enterAlias_47 ?_
      refine mm_getA (t := 2) fl_X4_114 rfl (by decide) dX4_enterAlias_48 ?_
      refine rb_iload_n 1 rfl rfl dX4_enterAlias_51 ?_
      refine mm_iald (k := 41) (v := (ms.1 41 (a1).toNatClampNeg)) rfl rfl (((((((K).1 c1)).2).2).1 c2)).1 dX4_enterAlias_52 ?_
      refine rb_imul (z := ((4 : Int32) * (ms.1 41 (a1).toNatClampNeg))) rfl dX4_enterAlias_53 ?_
      refine rb_iload_n 2 rfl rfl dX4_enterAlias_54 ?_
      refine rb_iadd (z := (((4 : Int32) * (ms.1 41 (a1).toNatClampNeg)) + a2)) rfl dX4_enterAlias_55 ?_
      refine mm_iald (k := 31) (v := (ms.1 31 ((((4 : Int32) * (ms.1 41 (a1).toNatClampNeg)) + a2)).toNatClampNeg)) rfl rfl ((((((((K).1 c1)).2).2).1 c2)).2).1 dX4_enterAlias_56 ?_
      refine rb_lload_n 3 rfl rfl dX4_enterAlias_57 ?_
      obtain ⟨ms4, d5, h1, h2, Kx3⟩ := ((((((((K).1 c1)).2).2).1 c2)).2).2
      refine mm_call st_X4_312 (rest := []) h1 rfl rfl mm_rc (Nat.le_of_ble_eq_true rfl) h2 dX4_enterAlias_58 ?_
      show rb_Bd κ mX4_enterAlias (0, 0) (mm_H h ms4 M0) 61 [some (.ref h), some (.int a1), some (.int a2), some (.long a3), none, some (.int (ms.1 30 ((((4 : Int32) * (ms.1 41 (a1).toNatClampNeg)) + a2)).toNatClampNeg))] []
      exact rb_vret rfl (Nat.zero_le _) (Nat.zero_le _) dX4_enterAlias_61 Kx3
    · skip
      refine rb_bipush (v := (-9 : Int32)) (by decide) dX4_enterAlias_37 ?_
      refine rb_goto 57 (by decide) dX4_enterAlias_39 ?_
      refine rb_lload_n 3 rfl rfl dX4_enterAlias_57 ?_
      obtain ⟨ms7, d8, h1, h2, Kx6⟩ := ((((((K).1 c1)).2).2).2 c2)
      refine mm_call st_X4_312 (rest := []) h1 rfl rfl mm_rc (Nat.le_of_ble_eq_true rfl) h2 dX4_enterAlias_58 ?_
      show rb_Bd κ mX4_enterAlias (0, 0) (mm_H h ms7 M0) 61 [some (.ref h), some (.int a1), some (.int a2), some (.long a3), none, some (.int (ms.1 30 ((((4 : Int32) * (ms.1 41 (a1).toNatClampNeg)) + a2)).toNatClampNeg))] []
      exact rb_vret rfl (Nat.zero_le _) (Nat.zero_le _) dX4_enterAlias_61 Kx6
  · skip
    refine rb_bipush (v := (-9 : Int32)) (by decide) dX4_enterAlias_6 ?_
    refine rb_goto 26 (by decide) dX4_enterAlias_8 ?_
    refine rb_istore (ls' := [some (.ref h), some (.int a1), some (.int a2), some (.long a3), none, some (.int (-9 : Int32))]) (by decide) rfl rfl dX4_enterAlias_26 ?_
    refine rb_aload_n 0 rfl rfl (rb_isR_ref _) dX4_enterAlias_28 ?_
    refine rb_iload_n 1 rfl rfl dX4_enterAlias_29 ?_
    refine rb_iload rfl dX4_enterAlias_30 ?_
    refine rb_iload rfl dX4_enterAlias_32 ?_
    refine rb_ifge 42 (by decide) dX4_enterAlias_34 (fun c9 => ?_) (fun c9 => ?_)
    · skip
      refine rb_aload_n 0 rfl rfl (rb_isR_ref _) dX4_enterAlias_42 ?_
      refine mm_getA (t := 2) fl_X4_90 rfl (by decide) dX4_enterAlias_43 ?_
      refine rb_iconst (v := (4 : Int32)) (by decide) dX4_enterAlias_46 ?_
      refine rb_aload_n 0 rfl rfl (rb_isR_ref _) dX4_enterAlias_47 ?_
      refine mm_getA (t := 2) fl_X4_114 rfl (by decide) dX4_enterAlias_48 ?_
      refine rb_iload_n 1 rfl rfl dX4_enterAlias_51 ?_
      refine mm_iald (k := 41) (v := (ms.1 41 (a1).toNatClampNeg)) rfl rfl (((((K).2 c1)).1 c9)).1 dX4_enterAlias_52 ?_
      refine rb_imul (z := ((4 : Int32) * (ms.1 41 (a1).toNatClampNeg))) rfl dX4_enterAlias_53 ?_
      refine rb_iload_n 2 rfl rfl dX4_enterAlias_54 ?_
      refine rb_iadd (z := (((4 : Int32) * (ms.1 41 (a1).toNatClampNeg)) + a2)) rfl dX4_enterAlias_55 ?_
      refine mm_iald (k := 31) (v := (ms.1 31 ((((4 : Int32) * (ms.1 41 (a1).toNatClampNeg)) + a2)).toNatClampNeg)) rfl rfl ((((((K).2 c1)).1 c9)).2).1 dX4_enterAlias_56 ?_
      refine rb_lload_n 3 rfl rfl dX4_enterAlias_57 ?_
      obtain ⟨ms11, d12, h1, h2, Kx10⟩ := ((((((K).2 c1)).1 c9)).2).2
      refine mm_call st_X4_312 (rest := []) h1 rfl rfl mm_rc (Nat.le_of_ble_eq_true rfl) h2 dX4_enterAlias_58 ?_
      show rb_Bd κ mX4_enterAlias (0, 0) (mm_H h ms11 M0) 61 [some (.ref h), some (.int a1), some (.int a2), some (.long a3), none, some (.int (-9 : Int32))] []
      exact rb_vret rfl (Nat.zero_le _) (Nat.zero_le _) dX4_enterAlias_61 Kx10
    · skip
      refine rb_bipush (v := (-9 : Int32)) (by decide) dX4_enterAlias_37 ?_
      refine rb_goto 57 (by decide) dX4_enterAlias_39 ?_
      refine rb_lload_n 3 rfl rfl dX4_enterAlias_57 ?_
      obtain ⟨ms14, d15, h1, h2, Kx13⟩ := ((((K).2 c1)).2 c9)
      refine mm_call st_X4_312 (rest := []) h1 rfl rfl mm_rc (Nat.le_of_ble_eq_true rfl) h2 dX4_enterAlias_58 ?_
      show rb_Bd κ mX4_enterAlias (0, 0) (mm_H h ms14 M0) 61 [some (.ref h), some (.int a1), some (.int a2), some (.long a3), none, some (.int (-9 : Int32))] []
      exact rb_vret rfl (Nat.zero_le _) (Nat.zero_le _) dX4_enterAlias_61 Kx13
theorem sgX4_makeRow_0 {κ : rb_K} {M0 : rb_H} {h : Nat} {ms : mm_S} {a1 : Int32} {a2 : Int32} (K : (vp_in a1 (mm_l 57) ∧ (((ms.2 57 (a1).toNatClampNeg) < (0 : Int64) → (∃ (ms3 : mm_S) (d4 : Nat), mm_C κ.1 yX4_raise wX4_raise d4 h M0 ms [.ref h, .int (13 : Int32), .long (0 : Int64)] (none) ms3 ∧ rb_dp κ d4 ∧ (κ.2.2.1 (.returned none) (mm_H h ms3 M0)))) ∧ ((0 : Int64) ≤ (ms.2 57 (a1).toNatClampNeg) → (((ms.2 57 (a1).toNatClampNeg) ≤ (12 : Int64) → (∃ (x6 : Int32) (ms7 : mm_S) (d8 : Nat), mm_C κ.1 yX4_rowAt wX4_rowAt d8 h M0 ms [.ref h, .int a1, .int a2] (some (.int x6)) ms7 ∧ rb_dp κ d8 ∧ (vp_in x6 (mm_l 43) ∧ rb_Bd κ mX4_makeRow (0, 0) (mm_H h (mm_sI ms7 43 (x6).toNatClampNeg ((ms.2 57 (a1).toNatClampNeg)).toInt32) M0) 45 [some (.ref h), some (.int a1), some (.int a2), some (.long (ms.2 57 (a1).toNatClampNeg)), none, some (.int (0 : Int32))] []))) ∧ ((12 : Int64) < (ms.2 57 (a1).toNatClampNeg) → (∃ (ms10 : mm_S) (d11 : Nat), mm_C κ.1 yX4_raise wX4_raise d11 h M0 ms [.ref h, .int (13 : Int32), .long (0 : Int64)] (none) ms10 ∧ rb_dp κ d11 ∧ (κ.2.2.1 (.returned none) (mm_H h ms10 M0))))))))) : rb_Bd κ mX4_makeRow (0, 0) (mm_H h ms M0) 0 [some (.ref h), some (.int a1), some (.int a2), none, none, none] [] := by
  refine rb_aload_n 0 rfl rfl (rb_isR_ref _) dX4_makeRow_0 ?_
  refine mm_getA (t := 3) fl_X4_155 rfl (by decide) dX4_makeRow_1 ?_
  refine rb_iload_n 1 rfl rfl dX4_makeRow_4 ?_
  refine mm_lald (k := 57) (v := (ms.2 57 (a1).toNatClampNeg)) rfl rfl (K).1 dX4_makeRow_5 ?_
  refine rb_lstore_n 3 rfl (ls' := [some (.ref h), some (.int a1), some (.int a2), some (.long (ms.2 57 (a1).toNatClampNeg)), none, none]) (by decide) rfl rfl dX4_makeRow_6 ?_
  refine rb_lload_n 3 rfl rfl dX4_makeRow_7 ?_
  refine rb_lconst (v := (0 : Int64)) (by decide) dX4_makeRow_8 ?_
  refine rb_lc_lt 21 (by decide) dX4_makeRow_9 dX4_makeRow_10 (fun c1 => ?_) (fun c1 => ?_)
  · skip
    refine rb_aload_n 0 rfl rfl (rb_isR_ref _) dX4_makeRow_21 ?_
    refine rb_bipush (v := (13 : Int32)) (by decide) dX4_makeRow_22 ?_
    refine rb_lconst (v := (0 : Int64)) (by decide) dX4_makeRow_24 ?_
    obtain ⟨ms3, d4, h1, h2, Kx2⟩ := (((K).2).1 c1)
    refine mm_call st_X4_304 (rest := []) h1 rfl rfl mm_rc (Nat.le_of_ble_eq_true rfl) h2 dX4_makeRow_25 ?_
    show rb_Bd κ mX4_makeRow (0, 0) (mm_H h ms3 M0) 28 [some (.ref h), some (.int a1), some (.int a2), some (.long (ms.2 57 (a1).toNatClampNeg)), none, none] []
    exact rb_vret rfl (Nat.zero_le _) (Nat.zero_le _) dX4_makeRow_28 Kx2
  · skip
    refine rb_lload_n 3 rfl rfl dX4_makeRow_13 ?_
    refine rb_ldc2 q1955 dX4_makeRow_14 ?_
    refine rb_lc_le 29 (by decide) dX4_makeRow_17 dX4_makeRow_18 (fun c5 => ?_) (fun c5 => ?_)
    · skip
      refine rb_aload_n 0 rfl rfl (rb_isR_ref _) dX4_makeRow_29 ?_
      refine mm_getA (t := 2) fl_X4_121 rfl (by decide) dX4_makeRow_30 ?_
      refine rb_aload_n 0 rfl rfl (rb_isR_ref _) dX4_makeRow_33 ?_
      refine rb_iload_n 1 rfl rfl dX4_makeRow_34 ?_
      refine rb_iload_n 2 rfl rfl dX4_makeRow_35 ?_
      obtain ⟨x6, ms7, d8, h1, h2, Kx6⟩ := (((((K).2).2 c1)).1 c5)
      refine mm_call st_X4_351 (rest := [.ref (h + mm_p 43)]) h1 rfl rfl mm_rc (Nat.le_of_ble_eq_true rfl) h2 dX4_makeRow_36 ?_
      show rb_Bd κ mX4_makeRow (0, 0) (mm_H h ms7 M0) 39 [some (.ref h), some (.int a1), some (.int a2), some (.long (ms.2 57 (a1).toNatClampNeg)), none, none] [.int x6, .ref (h + mm_p 43)]
      refine rb_lload_n 3 rfl rfl dX4_makeRow_39 ?_
      refine rb_l2i (z := ((ms.2 57 (a1).toNatClampNeg)).toInt32) rfl dX4_makeRow_40 ?_
      refine mm_iast (k := 43) rfl (Kx6).1 dX4_makeRow_41 ?_
      refine rb_iconst (v := (0 : Int32)) (by decide) dX4_makeRow_42 ?_
      refine rb_istore (ls' := [some (.ref h), some (.int a1), some (.int a2), some (.long (ms.2 57 (a1).toNatClampNeg)), none, some (.int (0 : Int32))]) (by decide) rfl rfl dX4_makeRow_43 ?_
      exact (Kx6).2
    · skip
      refine rb_aload_n 0 rfl rfl (rb_isR_ref _) dX4_makeRow_21 ?_
      refine rb_bipush (v := (13 : Int32)) (by decide) dX4_makeRow_22 ?_
      refine rb_lconst (v := (0 : Int64)) (by decide) dX4_makeRow_24 ?_
      obtain ⟨ms10, d11, h1, h2, Kx9⟩ := (((((K).2).2 c1)).2 c5)
      refine mm_call st_X4_304 (rest := []) h1 rfl rfl mm_rc (Nat.le_of_ble_eq_true rfl) h2 dX4_makeRow_25 ?_
      show rb_Bd κ mX4_makeRow (0, 0) (mm_H h ms10 M0) 28 [some (.ref h), some (.int a1), some (.int a2), some (.long (ms.2 57 (a1).toNatClampNeg)), none, none] []
      exact rb_vret rfl (Nat.zero_le _) (Nat.zero_le _) dX4_makeRow_28 Kx9
theorem sgX4_makeRow_45 {κ : rb_K} {M0 : rb_H} {h : Nat} {ms : mm_S} {a1 : Int32} {a2 : Int32} {a3 : Int64} {a5 : Int32} (K : (((12 : Int32) ≤ a5 → (κ.2.2.1 (.returned none) (mm_H h ms M0))) ∧ (a5 < (12 : Int32) → (∃ (x2 : Int32) (ms3 : mm_S) (d4 : Nat), mm_C κ.1 yX4_rowAt wX4_rowAt d4 h M0 ms [.ref h, .int a1, .int a2] (some (.int x2)) ms3 ∧ rb_dp κ d4 ∧ (vp_in (((12 : Int32) * x2) + a5) (mm_l 44) ∧ rb_Bd κ mX4_makeRow (0, 0) (mm_H h (mm_sL ms3 44 ((((12 : Int32) * x2) + a5)).toNatClampNeg (0 : Int64)) M0) 45 [some (.ref h), some (.int a1), some (.int a2), some (.long a3), none, some (.int (a5 + (1 : Int32)))] []))))) : rb_Bd κ mX4_makeRow (0, 0) (mm_H h ms M0) 45 [some (.ref h), some (.int a1), some (.int a2), some (.long a3), none, some (.int a5)] [] := by
  refine rb_iload rfl dX4_makeRow_45 ?_
  refine rb_bipush (v := (12 : Int32)) (by decide) dX4_makeRow_47 ?_
  refine rb_icge 76 (by decide) dX4_makeRow_49 (fun c1 => ?_) (fun c1 => ?_)
  · skip
    exact rb_vret rfl (Nat.zero_le _) (Nat.zero_le _) dX4_makeRow_76 ((K).1 c1)
  · skip
    refine rb_aload_n 0 rfl rfl (rb_isR_ref _) dX4_makeRow_52 ?_
    refine mm_getA (t := 3) fl_X4_125 rfl (by decide) dX4_makeRow_53 ?_
    refine rb_bipush (v := (12 : Int32)) (by decide) dX4_makeRow_56 ?_
    refine rb_aload_n 0 rfl rfl (rb_isR_ref _) dX4_makeRow_58 ?_
    refine rb_iload_n 1 rfl rfl dX4_makeRow_59 ?_
    refine rb_iload_n 2 rfl rfl dX4_makeRow_60 ?_
    obtain ⟨x2, ms3, d4, h1, h2, Kx2⟩ := ((K).2 c1)
    refine mm_call st_X4_351 (rest := [.int (12 : Int32), .ref (h + mm_p 44)]) h1 rfl rfl mm_rc (Nat.le_of_ble_eq_true rfl) h2 dX4_makeRow_61 ?_
    show rb_Bd κ mX4_makeRow (0, 0) (mm_H h ms3 M0) 64 [some (.ref h), some (.int a1), some (.int a2), some (.long a3), none, some (.int a5)] [.int x2, .int (12 : Int32), .ref (h + mm_p 44)]
    refine rb_imul (z := ((12 : Int32) * x2)) rfl dX4_makeRow_64 ?_
    refine rb_iload rfl dX4_makeRow_65 ?_
    refine rb_iadd (z := (((12 : Int32) * x2) + a5)) rfl dX4_makeRow_67 ?_
    refine rb_lconst (v := (0 : Int64)) (by decide) dX4_makeRow_68 ?_
    refine mm_last (k := 44) rfl (Kx2).1 dX4_makeRow_69 ?_
    refine rb_iinc (ls' := [some (.ref h), some (.int a1), some (.int a2), some (.long a3), none, some (.int (a5 + (1 : Int32)))]) (v := (a5 + (1 : Int32))) rfl rfl (by decide) rfl rfl dX4_makeRow_70 ?_
    refine rb_goto 45 (by decide) dX4_makeRow_73 ?_
    exact (Kx2).2
theorem sgX4_rowAt_0 {κ : rb_K} {M0 : rb_H} {h : Nat} {ms : mm_S} {a1 : Int32} {a2 : Int32} (K : (vp_in a1 (mm_l 52) ∧ (vp_in a1 (mm_l 53) ∧ (κ.2.2.1 (.returned (some (.int (((2 : Int32) * (((24 : Int32) * (ms.1 52 (a1).toNatClampNeg)) + (ms.1 53 (a1).toNatClampNeg))) + a2)))) (mm_H h ms M0))))) : rb_Bd κ mX4_rowAt (0, 0) (mm_H h ms M0) 0 [some (.ref h), some (.int a1), some (.int a2)] [] := by
  refine rb_iconst (v := (2 : Int32)) (by decide) dX4_rowAt_0 ?_
  refine rb_bipush (v := (24 : Int32)) (by decide) dX4_rowAt_1 ?_
  refine rb_aload_n 0 rfl rfl (rb_isR_ref _) dX4_rowAt_3 ?_
  refine mm_getA (t := 2) fl_X4_140 rfl (by decide) dX4_rowAt_4 ?_
  refine rb_iload_n 1 rfl rfl dX4_rowAt_7 ?_
  refine mm_iald (k := 52) (v := (ms.1 52 (a1).toNatClampNeg)) rfl rfl (K).1 dX4_rowAt_8 ?_
  refine rb_imul (z := ((24 : Int32) * (ms.1 52 (a1).toNatClampNeg))) rfl dX4_rowAt_9 ?_
  refine rb_aload_n 0 rfl rfl (rb_isR_ref _) dX4_rowAt_10 ?_
  refine mm_getA (t := 2) fl_X4_143 rfl (by decide) dX4_rowAt_11 ?_
  refine rb_iload_n 1 rfl rfl dX4_rowAt_14 ?_
  refine mm_iald (k := 53) (v := (ms.1 53 (a1).toNatClampNeg)) rfl rfl ((K).2).1 dX4_rowAt_15 ?_
  refine rb_iadd (z := (((24 : Int32) * (ms.1 52 (a1).toNatClampNeg)) + (ms.1 53 (a1).toNatClampNeg))) rfl dX4_rowAt_16 ?_
  refine rb_imul (z := ((2 : Int32) * (((24 : Int32) * (ms.1 52 (a1).toNatClampNeg)) + (ms.1 53 (a1).toNatClampNeg)))) rfl dX4_rowAt_17 ?_
  refine rb_iload_n 2 rfl rfl dX4_rowAt_18 ?_
  refine rb_iadd (z := (((2 : Int32) * (((24 : Int32) * (ms.1 52 (a1).toNatClampNeg)) + (ms.1 53 (a1).toNatClampNeg))) + a2)) rfl dX4_rowAt_19 ?_
  exact rb_iret rfl rfl (Nat.zero_le _) (Nat.zero_le _) dX4_rowAt_20 ((K).2).2
theorem sgX4_placeInRow_0 {κ : rb_K} {M0 : rb_H} {h : Nat} {ms : mm_S} {a1 : Int32} {a2 : Int32} {a3 : Int32} {a4 : Int64} (K : (∃ (x1 : Int32) (ms2 : mm_S) (d3 : Nat), mm_C κ.1 yX4_rowAt wX4_rowAt d3 h M0 ms [.ref h, .int a1, .int a3] (some (.int x1)) ms2 ∧ rb_dp κ d3 ∧ (vp_in x1 (mm_l 43) ∧ ((0 ≤ (ms2.1 43 (x1).toNatClampNeg) → ((a4 < (0 : Int64) → (∃ (ms7 : mm_S) (d8 : Nat), mm_C κ.1 yX4_raise wX4_raise d8 h M0 ms2 [.ref h, .int (15 : Int32), .long (0 : Int64)] (none) ms7 ∧ rb_dp κ d8 ∧ (κ.2.2.1 (.returned none) (mm_H h ms7 M0)))) ∧ ((0 : Int64) ≤ a4 → (vp_in x1 (mm_l 43) ∧ ((a4 < ((ms2.1 43 (x1).toNatClampNeg)).toInt64 → ((¬ a2 = (16 : Int32) → (vp_in a1 (mm_l 57) ∧ (vp_in (((12 : Int32) * x1) + (a4).toInt32) (mm_l 44) ∧ (κ.2.2.1 (.returned none) (mm_H h (mm_sL ms2 44 ((((12 : Int32) * x1) + (a4).toInt32)).toNatClampNeg (ms2.2 57 (a1).toNatClampNeg)) M0))))) ∧ (a2 = (16 : Int32) → (vp_in (((12 : Int32) * x1) + (a4).toInt32) (mm_l 44) ∧ (vp_in a1 (mm_l 57) ∧ (κ.2.2.1 (.returned none) (mm_H h (mm_sL ms2 57 (a1).toNatClampNeg (ms2.2 44 ((((12 : Int32) * x1) + (a4).toInt32)).toNatClampNeg)) M0))))))) ∧ (((ms2.1 43 (x1).toNatClampNeg)).toInt64 ≤ a4 → (∃ (ms12 : mm_S) (d13 : Nat), mm_C κ.1 yX4_raise wX4_raise d13 h M0 ms2 [.ref h, .int (15 : Int32), .long (0 : Int64)] (none) ms12 ∧ rb_dp κ d13 ∧ (κ.2.2.1 (.returned none) (mm_H h ms12 M0))))))))) ∧ ((ms2.1 43 (x1).toNatClampNeg) < 0 → (∃ (ms15 : mm_S) (d16 : Nat), mm_C κ.1 yX4_raise wX4_raise d16 h M0 ms2 [.ref h, .int (14 : Int32), .long (0 : Int64)] (none) ms15 ∧ rb_dp κ d16 ∧ (κ.2.2.1 (.returned none) (mm_H h ms15 M0)))))))) : rb_Bd κ mX4_placeInRow (0, 0) (mm_H h ms M0) 0 [some (.ref h), some (.int a1), some (.int a2), some (.int a3), some (.long a4), none, none] [] := by
  refine rb_aload_n 0 rfl rfl (rb_isR_ref _) dX4_placeInRow_0 ?_
  refine rb_iload_n 1 rfl rfl dX4_placeInRow_1 ?_
  refine rb_iload_n 3 rfl rfl dX4_placeInRow_2 ?_
  obtain ⟨x1, ms2, d3, h1, h2, Kx1⟩ := K
  refine mm_call st_X4_351 (rest := []) h1 rfl rfl mm_rc (Nat.le_of_ble_eq_true rfl) h2 dX4_placeInRow_3 ?_
  show rb_Bd κ mX4_placeInRow (0, 0) (mm_H h ms2 M0) 6 [some (.ref h), some (.int a1), some (.int a2), some (.int a3), some (.long a4), none, none] [.int x1]
  refine rb_istore (ls' := [some (.ref h), some (.int a1), some (.int a2), some (.int a3), some (.long a4), none, some (.int x1)]) (by decide) rfl rfl dX4_placeInRow_6 ?_
  refine rb_aload_n 0 rfl rfl (rb_isR_ref _) dX4_placeInRow_8 ?_
  refine mm_getA (t := 2) fl_X4_121 rfl (by decide) dX4_placeInRow_9 ?_
  refine rb_iload rfl dX4_placeInRow_12 ?_
  refine mm_iald (k := 43) (v := (ms2.1 43 (x1).toNatClampNeg)) rfl rfl (Kx1).1 dX4_placeInRow_14 ?_
  refine rb_ifge 28 (by decide) dX4_placeInRow_15 (fun c4 => ?_) (fun c4 => ?_)
  · skip
    refine rb_lload rfl dX4_placeInRow_28 ?_
    refine rb_lconst (v := (0 : Int64)) (by decide) dX4_placeInRow_30 ?_
    refine rb_lc_lt 49 (by decide) dX4_placeInRow_31 dX4_placeInRow_32 (fun c5 => ?_) (fun c5 => ?_)
    · skip
      refine rb_aload_n 0 rfl rfl (rb_isR_ref _) dX4_placeInRow_49 ?_
      refine rb_bipush (v := (15 : Int32)) (by decide) dX4_placeInRow_50 ?_
      refine rb_lconst (v := (0 : Int64)) (by decide) dX4_placeInRow_52 ?_
      obtain ⟨ms7, d8, h1, h2, Kx6⟩ := (((((Kx1).2).1 c4)).1 c5)
      refine mm_call st_X4_304 (rest := []) h1 rfl rfl mm_rc (Nat.le_of_ble_eq_true rfl) h2 dX4_placeInRow_53 ?_
      show rb_Bd κ mX4_placeInRow (0, 0) (mm_H h ms7 M0) 56 [some (.ref h), some (.int a1), some (.int a2), some (.int a3), some (.long a4), none, some (.int x1)] []
      refine rb_goto 108 (by decide) dX4_placeInRow_56 ?_
      exact rb_vret rfl (Nat.zero_le _) (Nat.zero_le _) dX4_placeInRow_108 Kx6
    · skip
      refine rb_lload rfl dX4_placeInRow_35 ?_
      refine rb_aload_n 0 rfl rfl (rb_isR_ref _) dX4_placeInRow_37 ?_
      refine mm_getA (t := 2) fl_X4_121 rfl (by decide) dX4_placeInRow_38 ?_
      refine rb_iload rfl dX4_placeInRow_41 ?_
      refine mm_iald (k := 43) (v := (ms2.1 43 (x1).toNatClampNeg)) rfl rfl ((((((Kx1).2).1 c4)).2 c5)).1 dX4_placeInRow_43 ?_
      refine rb_i2l (z := ((ms2.1 43 (x1).toNatClampNeg)).toInt64) rfl dX4_placeInRow_44 ?_
      refine rb_lc_lt 59 (by decide) dX4_placeInRow_45 dX4_placeInRow_46 (fun c9 => ?_) (fun c9 => ?_)
      · skip
        refine rb_iload_n 2 rfl rfl dX4_placeInRow_59 ?_
        refine rb_bipush (v := (16 : Int32)) (by decide) dX4_placeInRow_60 ?_
        refine rb_icne 88 (by decide) dX4_placeInRow_62 (fun c10 => ?_) (fun c10 => ?_)
        · skip
          refine rb_aload_n 0 rfl rfl (rb_isR_ref _) dX4_placeInRow_88 ?_
          refine mm_getA (t := 3) fl_X4_125 rfl (by decide) dX4_placeInRow_89 ?_
          refine rb_bipush (v := (12 : Int32)) (by decide) dX4_placeInRow_92 ?_
          refine rb_iload rfl dX4_placeInRow_94 ?_
          refine rb_imul (z := ((12 : Int32) * x1)) rfl dX4_placeInRow_96 ?_
          refine rb_lload rfl dX4_placeInRow_97 ?_
          refine rb_l2i (z := (a4).toInt32) rfl dX4_placeInRow_99 ?_
          refine rb_iadd (z := (((12 : Int32) * x1) + (a4).toInt32)) rfl dX4_placeInRow_100 ?_
          refine rb_aload_n 0 rfl rfl (rb_isR_ref _) dX4_placeInRow_101 ?_
          refine mm_getA (t := 3) fl_X4_155 rfl (by decide) dX4_placeInRow_102 ?_
          refine rb_iload_n 1 rfl rfl dX4_placeInRow_105 ?_
          refine mm_lald (k := 57) (v := (ms2.2 57 (a1).toNatClampNeg)) rfl rfl (((((((((((Kx1).2).1 c4)).2 c5)).2).1 c9)).1 c10)).1 dX4_placeInRow_106 ?_
          refine mm_last (k := 44) rfl ((((((((((((Kx1).2).1 c4)).2 c5)).2).1 c9)).1 c10)).2).1 dX4_placeInRow_107 ?_
          exact rb_vret rfl (Nat.zero_le _) (Nat.zero_le _) dX4_placeInRow_108 ((((((((((((Kx1).2).1 c4)).2 c5)).2).1 c9)).1 c10)).2).2
        · skip
          refine rb_aload_n 0 rfl rfl (rb_isR_ref _) dX4_placeInRow_65 ?_
          refine mm_getA (t := 3) fl_X4_155 rfl (by decide) dX4_placeInRow_66 ?_
          refine rb_iload_n 1 rfl rfl dX4_placeInRow_69 ?_
          refine rb_aload_n 0 rfl rfl (rb_isR_ref _) dX4_placeInRow_70 ?_
          refine mm_getA (t := 3) fl_X4_125 rfl (by decide) dX4_placeInRow_71 ?_
          refine rb_bipush (v := (12 : Int32)) (by decide) dX4_placeInRow_74 ?_
          refine rb_iload rfl dX4_placeInRow_76 ?_
          refine rb_imul (z := ((12 : Int32) * x1)) rfl dX4_placeInRow_78 ?_
          refine rb_lload rfl dX4_placeInRow_79 ?_
          refine rb_l2i (z := (a4).toInt32) rfl dX4_placeInRow_81 ?_
          refine rb_iadd (z := (((12 : Int32) * x1) + (a4).toInt32)) rfl dX4_placeInRow_82 ?_
          refine mm_lald (k := 44) (v := (ms2.2 44 ((((12 : Int32) * x1) + (a4).toInt32)).toNatClampNeg)) rfl rfl (((((((((((Kx1).2).1 c4)).2 c5)).2).1 c9)).2 c10)).1 dX4_placeInRow_83 ?_
          refine mm_last (k := 57) rfl ((((((((((((Kx1).2).1 c4)).2 c5)).2).1 c9)).2 c10)).2).1 dX4_placeInRow_84 ?_
          refine rb_goto 108 (by decide) dX4_placeInRow_85 ?_
          exact rb_vret rfl (Nat.zero_le _) (Nat.zero_le _) dX4_placeInRow_108 ((((((((((((Kx1).2).1 c4)).2 c5)).2).1 c9)).2 c10)).2).2
      · skip
        refine rb_aload_n 0 rfl rfl (rb_isR_ref _) dX4_placeInRow_49 ?_
        refine rb_bipush (v := (15 : Int32)) (by decide) dX4_placeInRow_50 ?_
        refine rb_lconst (v := (0 : Int64)) (by decide) dX4_placeInRow_52 ?_
        obtain ⟨ms12, d13, h1, h2, Kx11⟩ := ((((((((Kx1).2).1 c4)).2 c5)).2).2 c9)
        refine mm_call st_X4_304 (rest := []) h1 rfl rfl mm_rc (Nat.le_of_ble_eq_true rfl) h2 dX4_placeInRow_53 ?_
        show rb_Bd κ mX4_placeInRow (0, 0) (mm_H h ms12 M0) 56 [some (.ref h), some (.int a1), some (.int a2), some (.int a3), some (.long a4), none, some (.int x1)] []
        refine rb_goto 108 (by decide) dX4_placeInRow_56 ?_
        exact rb_vret rfl (Nat.zero_le _) (Nat.zero_le _) dX4_placeInRow_108 Kx11
  · skip
    refine rb_aload_n 0 rfl rfl (rb_isR_ref _) dX4_placeInRow_18 ?_
    refine rb_bipush (v := (14 : Int32)) (by decide) dX4_placeInRow_19 ?_
    refine rb_lconst (v := (0 : Int64)) (by decide) dX4_placeInRow_21 ?_
    obtain ⟨ms15, d16, h1, h2, Kx14⟩ := (((Kx1).2).2 c4)
    refine mm_call st_X4_304 (rest := []) h1 rfl rfl mm_rc (Nat.le_of_ble_eq_true rfl) h2 dX4_placeInRow_22 ?_
    show rb_Bd κ mX4_placeInRow (0, 0) (mm_H h ms15 M0) 25 [some (.ref h), some (.int a1), some (.int a2), some (.int a3), some (.long a4), none, some (.int x1)] []
    refine rb_goto 108 (by decide) dX4_placeInRow_25 ?_
    exact rb_vret rfl (Nat.zero_le _) (Nat.zero_le _) dX4_placeInRow_108 Kx14
