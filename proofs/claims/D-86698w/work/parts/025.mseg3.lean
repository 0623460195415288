set_option maxRecDepth 100000
theorem sgX4_toOther_0 {κ : rb_K} {M0 : rb_H} {h : Nat} {ms : mm_S} {a1 : Int32} {a2 : Int32} {a3 : Int32} {a4 : Int32} (K : (∃ (x1 : Int32) (ms2 : mm_S) (d3 : Nat), mm_C κ.1 yX4_rowAt wX4_rowAt d3 h M0 ms [.ref h, .int a1, .int a3] (some (.int x1)) ms2 ∧ rb_dp κ d3 ∧ (vp_in x1 (mm_l 45) ∧ ((0 ≤ (ms2.1 45 (x1).toNatClampNeg) → ((¬ a2 = (18 : Int32) → (((ms2.1 24 0) ≤ a4 → (∃ (ms8 : mm_S) (d9 : Nat), mm_C κ.1 yX4_raise wX4_raise d9 h M0 ms2 [.ref h, .int (16 : Int32), .long (0 : Int64)] (none) ms8 ∧ rb_dp κ d9 ∧ (κ.2.2.1 (.returned none) (mm_H h ms8 M0)))) ∧ (a4 < (ms2.1 24 0) → (vp_in (ms2.1 45 (x1).toNatClampNeg) (mm_l 41) ∧ (∃ (x10 : Int32) (ms11 : mm_S) (d12 : Nat), mm_C κ.1 yX4_isUnder wX4_isUnder d12 h M0 ms2 [.ref h, .int (ms2.1 41 ((ms2.1 45 (x1).toNatClampNeg)).toNatClampNeg), .int a4] (some (.int x10)) ms11 ∧ rb_dp κ d12 ∧ ((x10 = 0 → (∃ (ms15 : mm_S) (d16 : Nat), mm_C κ.1 yX4_raise wX4_raise d16 h M0 ms11 [.ref h, .int (16 : Int32), .long (0 : Int64)] (none) ms15 ∧ rb_dp κ d16 ∧ (κ.2.2.1 (.returned none) (mm_H h ms15 M0)))) ∧ (¬ x10 = 0 → (vp_in a1 (mm_l 57) ∧ (κ.2.2.1 (.returned none) (mm_H h (mm_sL ms11 57 (a1).toNatClampNeg (1 : Int64)) M0)))))))))) ∧ (a2 = (18 : Int32) → (vp_in a1 (mm_l 57) ∧ (∃ (ms18 : mm_S) (d19 : Nat), mm_C κ.1 yX4_enterLast wX4_enterLast d19 h M0 ms2 [.ref h, .int (ms2.1 45 (x1).toNatClampNeg), .int a4, .long (ms2.2 57 (a1).toNatClampNeg)] (none) ms18 ∧ rb_dp κ d19 ∧ (κ.2.2.1 (.returned none) (mm_H h ms18 M0))))))) ∧ ((ms2.1 45 (x1).toNatClampNeg) < 0 → (∃ (ms21 : mm_S) (d22 : Nat), mm_C κ.1 yX4_raise wX4_raise d22 h M0 ms2 [.ref h, .int (14 : Int32), .long (0 : Int64)] (none) ms21 ∧ rb_dp κ d22 ∧ (κ.2.2.1 (.returned none) (mm_H h ms21 M0)))))))) : rb_Bd κ mX4_toOther (0, 0) (mm_H h ms M0) 0 [some (.ref h), some (.int a1), some (.int a2), some (.int a3), some (.int a4), none] [] := by
  refine rb_aload_n 0 rfl rfl (rb_isR_ref _) dX4_toOther_0 ?_
  refine mm_getA (t := 2) fl_X4_128 rfl (by decide) dX4_toOther_1 ?_
  refine rb_aload_n 0 rfl rfl (rb_isR_ref _) dX4_toOther_4 ?_
  refine rb_iload_n 1 rfl rfl dX4_toOther_5 ?_
  refine rb_iload_n 3 rfl rfl dX4_toOther_6 ?_
  obtain ⟨x1, ms2, d3, h1, h2, Kx1⟩ := K
  refine mm_call st_X4_351 (rest := [.ref (h + mm_p 45)]) h1 rfl rfl mm_rc (Nat.le_of_ble_eq_true rfl) h2 dX4_toOther_7 ?_
  show rb_Bd κ mX4_toOther (0, 0) (mm_H h ms2 M0) 10 [some (.ref h), some (.int a1), some (.int a2), some (.int a3), some (.int a4), none] [.int x1, .ref (h + mm_p 45)]
  refine mm_iald (k := 45) (v := (ms2.1 45 (x1).toNatClampNeg)) rfl rfl (Kx1).1 dX4_toOther_10 ?_
  refine rb_istore (ls' := [some (.ref h), some (.int a1), some (.int a2), some (.int a3), some (.int a4), some (.int (ms2.1 45 (x1).toNatClampNeg))]) (by decide) rfl rfl dX4_toOther_11 ?_
  refine rb_iload rfl dX4_toOther_13 ?_
  refine rb_ifge 28 (by decide) dX4_toOther_15 (fun c4 => ?_) (fun c4 => ?_)
  · skip
    refine rb_iload_n 2 rfl rfl dX4_toOther_28 ?_
    refine rb_bipush (v := (18 : Int32)) (by decide) dX4_toOther_29 ?_
    refine rb_icne 51 (by decide) dX4_toOther_31 (fun c5 => ?_) (fun c5 => ?_)
    · skip
      refine rb_iload rfl dX4_toOther_51 ?_
      refine rb_aload_n 0 rfl rfl (rb_isR_ref _) dX4_toOther_53 ?_
      refine mm_getI (v := (ms2.1 24 0)) rfl fl_X4_200 rfl dX4_toOther_54 ?_
      refine rb_icge 86 (by decide) dX4_toOther_57 (fun c6 => ?_) (fun c6 => ?_)
      · skip
        refine rb_aload_n 0 rfl rfl (rb_isR_ref _) dX4_toOther_86 ?_
        refine rb_bipush (v := (16 : Int32)) (by decide) dX4_toOther_87 ?_
        refine rb_lconst (v := (0 : Int64)) (by decide) dX4_toOther_89 ?_
        obtain ⟨ms8, d9, h1, h2, Kx7⟩ := (((((((Kx1).2).1 c4)).1 c5)).1 c6)
        refine mm_call st_X4_304 (rest := []) h1 rfl rfl mm_rc (Nat.le_of_ble_eq_true rfl) h2 dX4_toOther_90 ?_
        show rb_Bd κ mX4_toOther (0, 0) (mm_H h ms8 M0) 93 [some (.ref h), some (.int a1), some (.int a2), some (.int a3), some (.int a4), some (.int (ms2.1 45 (x1).toNatClampNeg))] []
        exact rb_vret rfl (Nat.zero_le _) (Nat.zero_le _) dX4_toOther_93 Kx7
      · skip
        refine rb_aload_n 0 rfl rfl (rb_isR_ref _) dX4_toOther_60 ?_
        refine rb_aload_n 0 rfl rfl (rb_isR_ref _) dX4_toOther_61 ?_
        refine mm_getA (t := 2) fl_X4_114 rfl (by decide) dX4_toOther_62 ?_
        refine rb_iload rfl dX4_toOther_65 ?_
        refine mm_iald (k := 41) (v := (ms2.1 41 ((ms2.1 45 (x1).toNatClampNeg)).toNatClampNeg)) rfl rfl ((((((((Kx1).2).1 c4)).1 c5)).2 c6)).1 dX4_toOther_67 ?_
        refine rb_iload rfl dX4_toOther_68 ?_
        obtain ⟨x10, ms11, d12, h1, h2, Kx10⟩ := ((((((((Kx1).2).1 c4)).1 c5)).2 c6)).2
        refine mm_call st_X4_275 (rest := []) h1 rfl rfl mm_rc (Nat.le_of_ble_eq_true rfl) h2 dX4_toOther_70 ?_
        show rb_Bd κ mX4_toOther (0, 0) (mm_H h ms11 M0) 73 [some (.ref h), some (.int a1), some (.int a2), some (.int a3), some (.int a4), some (.int (ms2.1 45 (x1).toNatClampNeg))] [.int x10]
        refine rb_ifeq 86 (by decide) dX4_toOther_73 (fun c13 => ?_) (fun c13 => ?_)
        · skip
          refine rb_aload_n 0 rfl rfl (rb_isR_ref _) dX4_toOther_86 ?_
          refine rb_bipush (v := (16 : Int32)) (by decide) dX4_toOther_87 ?_
          refine rb_lconst (v := (0 : Int64)) (by decide) dX4_toOther_89 ?_
          obtain ⟨ms15, d16, h1, h2, Kx14⟩ := ((Kx10).1 c13)
          refine mm_call st_X4_304 (rest := []) h1 rfl rfl mm_rc (Nat.le_of_ble_eq_true rfl) h2 dX4_toOther_90 ?_
          show rb_Bd κ mX4_toOther (0, 0) (mm_H h ms15 M0) 93 [some (.ref h), some (.int a1), some (.int a2), some (.int a3), some (.int a4), some (.int (ms2.1 45 (x1).toNatClampNeg))] []
          exact rb_vret rfl (Nat.zero_le _) (Nat.zero_le _) dX4_toOther_93 Kx14
        · skip
          refine rb_aload_n 0 rfl rfl (rb_isR_ref _) dX4_toOther_76 ?_
          refine mm_getA (t := 3) fl_X4_155 rfl (by decide) dX4_toOther_77 ?_
          refine rb_iload_n 1 rfl rfl dX4_toOther_80 ?_
          refine rb_lconst (v := (1 : Int64)) (by decide) dX4_toOther_81 ?_
          refine mm_last (k := 57) rfl (((Kx10).2 c13)).1 dX4_toOther_82 ?_
          refine rb_goto 93 (by decide) dX4_toOther_83 ?_
          exact rb_vret rfl (Nat.zero_le _) (Nat.zero_le _) dX4_toOther_93 (((Kx10).2 c13)).2
    · skip
      refine rb_aload_n 0 rfl rfl (rb_isR_ref _) dX4_toOther_34 ?_
      refine rb_iload rfl dX4_toOther_35 ?_
      refine rb_iload rfl dX4_toOther_37 ?_
      refine rb_aload_n 0 rfl rfl (rb_isR_ref _) dX4_toOther_39 ?_
      refine mm_getA (t := 3) fl_X4_155 rfl (by decide) dX4_toOther_40 ?_
      refine rb_iload_n 1 rfl rfl dX4_toOther_43 ?_
      refine mm_lald (k := 57) (v := (ms2.2 57 (a1).toNatClampNeg)) rfl rfl ((((((Kx1).2).1 c4)).2 c5)).1 dX4_toOther_44 ?_
      obtain ⟨ms18, d19, h1, h2, Kx17⟩ := ((((((Kx1).2).1 c4)).2 c5)).2
      refine mm_call st_X4_330 (rest := []) h1 rfl rfl mm_rc (Nat.le_of_ble_eq_true rfl) h2 dX4_toOther_45 ?_
      show rb_Bd κ mX4_toOther (0, 0) (mm_H h ms18 M0) 48 [some (.ref h), some (.int a1), some (.int a2), some (.int a3), some (.int a4), some (.int (ms2.1 45 (x1).toNatClampNeg))] []
      refine rb_goto 93 (by decide) dX4_toOther_48 ?_
      exact rb_vret rfl (Nat.zero_le _) (Nat.zero_le _) dX4_toOther_93 Kx17
  · skip
    refine rb_aload_n 0 rfl rfl (rb_isR_ref _) dX4_toOther_18 ?_
    refine rb_bipush (v := (14 : Int32)) (by decide) dX4_toOther_19 ?_
    refine rb_lconst (v := (0 : Int64)) (by decide) dX4_toOther_21 ?_
    obtain ⟨ms21, d22, h1, h2, Kx20⟩ := (((Kx1).2).2 c4)
    refine mm_call st_X4_304 (rest := []) h1 rfl rfl mm_rc (Nat.le_of_ble_eq_true rfl) h2 dX4_toOther_22 ?_
    show rb_Bd κ mX4_toOther (0, 0) (mm_H h ms21 M0) 25 [some (.ref h), some (.int a1), some (.int a2), some (.int a3), some (.int a4), some (.int (ms2.1 45 (x1).toNatClampNeg))] []
    refine rb_goto 93 (by decide) dX4_toOther_25 ?_
    exact rb_vret rfl (Nat.zero_le _) (Nat.zero_le _) dX4_toOther_93 Kx20
theorem sgX4_call_0 {κ : rb_K} {M0 : rb_H} {h : Nat} {ms : mm_S} {a1 : Int32} {a2 : Int32} {a3 : Int64} (K : (∃ (x1 : Int32) (ms2 : mm_S) (d3 : Nat), mm_C κ.1 yX4_isObject wX4_isObject d3 h M0 ms [.ref h, .int a1] (some (.int x1)) ms2 ∧ rb_dp κ d3 ∧ ((x1 = 0 → (κ.2.2.1 (.returned (some (.int (-1 : Int32)))) (mm_H h ms2 M0))) ∧ (¬ x1 = 0 → (∃ (x5 : Int32) (ms6 : mm_S) (d7 : Nat), mm_C κ.1 yX4_isMember wX4_isMember d7 h M0 ms2 [.int a2] (some (.int x5)) ms6 ∧ rb_dp κ d7 ∧ ((¬ x5 = 0 → (∃ (ms10 : mm_S) (d11 : Nat), mm_C κ.1 yX4_begins wX4_begins d11 h M0 ms6 [.ref h] (none) ms10 ∧ rb_dp κ d11 ∧ (vp_in a1 (mm_l 41) ∧ (vp_in (((12 : Int32) * (ms10.1 41 (a1).toNatClampNeg)) + a2) (mm_l 28) ∧ ((0 ≤ ((ms10.1 28 ((((12 : Int32) * (ms10.1 41 (a1).toNatClampNeg)) + a2)).toNatClampNeg) - (1 : Int32)) → (∃ (ms14 : mm_S) (d15 : Nat), mm_C κ.1 yX4_enterChain wX4_enterChain d15 h M0 (mm_sI ms10 61 0 (0 : Int32)) [.ref h, .int a1, .int a2, .int ((ms10.1 28 ((((12 : Int32) * (ms10.1 41 (a1).toNatClampNeg)) + a2)).toNatClampNeg) - (1 : Int32)), .long a3] (none) ms14 ∧ rb_dp κ d15 ∧ (∃ (ms17 : mm_S) (d18 : Nat), mm_C κ.1 yX4_goes wX4_goes d18 h M0 ms14 [.ref h] (none) ms17 ∧ rb_dp κ d18 ∧ ((¬ (ms17.1 61 0) = 0 → (κ.2.2.1 (.returned (some (.int (ms17.1 61 0)))) (mm_H h (mm_sL ms17 62 0 (ms17.2 62 0)) M0))) ∧ ((ms17.1 61 0) = 0 → (κ.2.2.1 (.returned (some (.int (ms17.1 61 0)))) (mm_H h (mm_sL ms17 62 0 (ms17.2 63 0)) M0))))))) ∧ (((ms10.1 28 ((((12 : Int32) * (ms10.1 41 (a1).toNatClampNeg)) + a2)).toNatClampNeg) - (1 : Int32)) < 0 → (κ.2.2.1 (.returned (some (.int (2 : Int32)))) (mm_H h ms10 M0)))))))) ∧ (x5 = 0 → (κ.2.2.1 (.returned (some (.int (-1 : Int32)))) (mm_H h ms6 M0))))))))) : rb_Bd κ mX4_call (0, 0) (mm_H h ms M0) 0 [some (.ref h), some (.int a1), some (.int a2), some (.long a3), none, none] [] := by
  refine rb_aload_n 0 rfl rfl (rb_isR_ref _) dX4_call_0 ?_
  refine rb_iload_n 1 rfl rfl dX4_call_1 ?_
  obtain ⟨x1, ms2, d3, h1, h2, Kx1⟩ := K
  refine mm_call st_X4_375 (rest := []) h1 rfl rfl mm_rc (Nat.le_of_ble_eq_true rfl) h2 dX4_call_2 ?_
  show rb_Bd κ mX4_call (0, 0) (mm_H h ms2 M0) 5 [some (.ref h), some (.int a1), some (.int a2), some (.long a3), none, none] [.int x1]
  refine rb_ifeq 15 (by decide) dX4_call_5 (fun c4 => ?_) (fun c4 => ?_)
  · skip
    refine rb_iconst (v := (-1 : Int32)) (by decide) dX4_call_15 ?_
    exact rb_iret rfl rfl (Nat.zero_le _) (Nat.zero_le _) dX4_call_16 ((Kx1).1 c4)
  · skip
    refine rb_iload_n 2 rfl rfl dX4_call_8 ?_
    obtain ⟨x5, ms6, d7, h1, h2, Kx5⟩ := ((Kx1).2 c4)
    refine mm_call st_X4_206 (rest := []) h1 rfl rfl mm_rn (Nat.le_of_ble_eq_true rfl) h2 dX4_call_9 ?_
    show rb_Bd κ mX4_call (0, 0) (mm_H h ms6 M0) 12 [some (.ref h), some (.int a1), some (.int a2), some (.long a3), none, none] [.int x5]
    refine rb_ifne 17 (by decide) dX4_call_12 (fun c8 => ?_) (fun c8 => ?_)
    · skip
      refine rb_aload_n 0 rfl rfl (rb_isR_ref _) dX4_call_17 ?_
      obtain ⟨ms10, d11, h1, h2, Kx9⟩ := ((Kx5).1 c8)
      refine mm_call st_X4_369 (rest := []) h1 rfl rfl mm_rc (Nat.le_of_ble_eq_true rfl) h2 dX4_call_18 ?_
      show rb_Bd κ mX4_call (0, 0) (mm_H h ms10 M0) 21 [some (.ref h), some (.int a1), some (.int a2), some (.long a3), none, none] []
      refine rb_aload_n 0 rfl rfl (rb_isR_ref _) dX4_call_21 ?_
      refine mm_getA (t := 2) fl_X4_81 rfl (by decide) dX4_call_22 ?_
      refine rb_bipush (v := (12 : Int32)) (by decide) dX4_call_25 ?_
      refine rb_aload_n 0 rfl rfl (rb_isR_ref _) dX4_call_27 ?_
      refine mm_getA (t := 2) fl_X4_114 rfl (by decide) dX4_call_28 ?_
      refine rb_iload_n 1 rfl rfl dX4_call_31 ?_
      refine mm_iald (k := 41) (v := (ms10.1 41 (a1).toNatClampNeg)) rfl rfl (Kx9).1 dX4_call_32 ?_
      refine rb_imul (z := ((12 : Int32) * (ms10.1 41 (a1).toNatClampNeg))) rfl dX4_call_33 ?_
      refine rb_iload_n 2 rfl rfl dX4_call_34 ?_
      refine rb_iadd (z := (((12 : Int32) * (ms10.1 41 (a1).toNatClampNeg)) + a2)) rfl dX4_call_35 ?_
      refine mm_iald (k := 28) (v := (ms10.1 28 ((((12 : Int32) * (ms10.1 41 (a1).toNatClampNeg)) + a2)).toNatClampNeg)) rfl rfl ((Kx9).2).1 dX4_call_36 ?_
      refine rb_iconst (v := (1 : Int32)) (by decide) dX4_call_37 ?_
      refine rb_isub (z := ((ms10.1 28 ((((12 : Int32) * (ms10.1 41 (a1).toNatClampNeg)) + a2)).toNatClampNeg) - (1 : Int32))) rfl dX4_call_38 ?_
      refine rb_istore (ls' := [some (.ref h), some (.int a1), some (.int a2), some (.long a3), none, some (.int ((ms10.1 28 ((((12 : Int32) * (ms10.1 41 (a1).toNatClampNeg)) + a2)).toNatClampNeg) - (1 : Int32)))]) (by decide) rfl rfl dX4_call_39 ?_
      refine rb_iload rfl dX4_call_41 ?_
      refine rb_ifge 48 (by decide) dX4_call_43 (fun c12 => ?_) (fun c12 => ?_)
      · skip
        refine rb_aload_n 0 rfl rfl (rb_isR_ref _) dX4_call_48 ?_
        refine rb_iconst (v := (0 : Int32)) (by decide) dX4_call_49 ?_
        refine mm_putI fl_X4_301 rfl dX4_call_50 ?_
        refine rb_aload_n 0 rfl rfl (rb_isR_ref _) dX4_call_53 ?_
        refine rb_iload_n 1 rfl rfl dX4_call_54 ?_
        refine rb_iload_n 2 rfl rfl dX4_call_55 ?_
        refine rb_iload rfl dX4_call_56 ?_
        refine rb_lload_n 3 rfl rfl dX4_call_58 ?_
        obtain ⟨ms14, d15, h1, h2, Kx13⟩ := ((((Kx9).2).2).1 c12)
        refine mm_call st_X4_312 (rest := []) h1 rfl rfl mm_rc (Nat.le_of_ble_eq_true rfl) h2 dX4_call_59 ?_
        show rb_Bd κ mX4_call (0, 0) (mm_H h ms14 M0) 62 [some (.ref h), some (.int a1), some (.int a2), some (.long a3), none, some (.int ((ms10.1 28 ((((12 : Int32) * (ms10.1 41 (a1).toNatClampNeg)) + a2)).toNatClampNeg) - (1 : Int32)))] []
        refine rb_aload_n 0 rfl rfl (rb_isR_ref _) dX4_call_62 ?_
        obtain ⟨ms17, d18, h1, h2, Kx16⟩ := Kx13
        refine mm_call st_X4_363 (rest := []) h1 rfl rfl mm_rc (Nat.le_of_ble_eq_true rfl) h2 dX4_call_63 ?_
        show rb_Bd κ mX4_call (0, 0) (mm_H h ms17 M0) 66 [some (.ref h), some (.int a1), some (.int a2), some (.long a3), none, some (.int ((ms10.1 28 ((((12 : Int32) * (ms10.1 41 (a1).toNatClampNeg)) + a2)).toNatClampNeg) - (1 : Int32)))] []
        refine rb_aload_n 0 rfl rfl (rb_isR_ref _) dX4_call_66 ?_
        refine rb_aload_n 0 rfl rfl (rb_isR_ref _) dX4_call_67 ?_
        refine mm_getI (v := (ms17.1 61 0)) rfl fl_X4_301 rfl dX4_call_68 ?_
        refine rb_ifne 81 (by decide) dX4_call_71 (fun c19 => ?_) (fun c19 => ?_)
        · skip
          refine rb_aload_n 0 rfl rfl (rb_isR_ref _) dX4_call_81 ?_
          refine mm_getL (v := (ms17.2 62 0)) rfl fl_X4_378 rfl dX4_call_82 ?_
          refine mm_putL fl_X4_378 rfl dX4_call_85 ?_
          refine rb_aload_n 0 rfl rfl (rb_isR_ref _) dX4_call_88 ?_
          refine mm_getI (v := (ms17.1 61 0)) rfl fl_X4_301 rfl dX4_call_89 ?_
          exact rb_iret rfl rfl (Nat.zero_le _) (Nat.zero_le _) dX4_call_92 ((Kx16).1 c19)
        · skip
          refine rb_aload_n 0 rfl rfl (rb_isR_ref _) dX4_call_74 ?_
          refine mm_getL (v := (ms17.2 63 0)) rfl fl_X4_316 rfl dX4_call_75 ?_
          refine rb_goto 85 (by decide) dX4_call_78 ?_
          refine mm_putL fl_X4_378 rfl dX4_call_85 ?_
          refine rb_aload_n 0 rfl rfl (rb_isR_ref _) dX4_call_88 ?_
          refine mm_getI (v := (ms17.1 61 0)) rfl fl_X4_301 rfl dX4_call_89 ?_
          exact rb_iret rfl rfl (Nat.zero_le _) (Nat.zero_le _) dX4_call_92 ((Kx16).2 c19)
      · skip
        refine rb_iconst (v := (2 : Int32)) (by decide) dX4_call_46 ?_
        exact rb_iret rfl rfl (Nat.zero_le _) (Nat.zero_le _) dX4_call_47 ((((Kx9).2).2).2 c12)
    · skip
      refine rb_iconst (v := (-1 : Int32)) (by decide) dX4_call_15 ?_
      exact rb_iret rfl rfl (Nat.zero_le _) (Nat.zero_le _) dX4_call_16 ((Kx5).2 c8)
theorem sgX4_isObject_0 {κ : rb_K} {M0 : rb_H} {h : Nat} {ms : mm_S} {a1 : Int32} (K : (∃ (x1 : Int32) (ms2 : mm_S) (d3 : Nat), mm_C κ.1 yX4_in wX4_in d3 h M0 ms [.int a1, .int (0 : Int32), .int ((ms.1 40 0) - (1 : Int32))] (some (.int x1)) ms2 ∧ rb_dp κ d3 ∧ (narrow .boolean (.int x1) = .int x1 ∧ κ.2.2.1 (.returned (some (.int x1))) (mm_H h ms2 M0)))) : rb_Bd κ mX4_isObject (0, 0) (mm_H h ms M0) 0 [some (.ref h), some (.int a1)] [] := by
  refine rb_iload_n 1 rfl rfl dX4_isObject_0 ?_
  refine rb_iconst (v := (0 : Int32)) (by decide) dX4_isObject_1 ?_
  refine rb_aload_n 0 rfl rfl (rb_isR_ref _) dX4_isObject_2 ?_
  refine mm_getI (v := (ms.1 40 0)) rfl fl_X4_366 rfl dX4_isObject_3 ?_
  refine rb_iconst (v := (1 : Int32)) (by decide) dX4_isObject_6 ?_
  refine rb_isub (z := ((ms.1 40 0) - (1 : Int32))) rfl dX4_isObject_7 ?_
  obtain ⟨x1, ms2, d3, h1, h2, Kx1⟩ := K
  refine mm_call st_X4_188 (rest := []) h1 rfl rfl mm_rn (Nat.le_of_ble_eq_true rfl) h2 dX4_isObject_8 ?_
  show rb_Bd κ mX4_isObject (0, 0) (mm_H h ms2 M0) 11 [some (.ref h), some (.int a1)] [.int x1]
  exact rb_iret rfl (Kx1).1 (Nat.zero_le _) (Nat.zero_le _) dX4_isObject_11 (Kx1).2
theorem sgX4_answer_0 {κ : rb_K} {M0 : rb_H} {h : Nat} {ms : mm_S}  (K : (κ.2.2.1 (.returned (some (.long (ms.2 62 0)))) (mm_H h ms M0))) : rb_Bd κ mX4_answer (0, 0) (mm_H h ms M0) 0 [some (.ref h)] [] := by
  refine rb_aload_n 0 rfl rfl (rb_isR_ref _) dX4_answer_0 ?_
  refine mm_getL (v := (ms.2 62 0)) rfl fl_X4_378 rfl dX4_answer_1 ?_
  exact rb_lret rfl (Nat.zero_le _) (Nat.zero_le _) dX4_answer_4 K
theorem sgX4_threw_0 {κ : rb_K} {M0 : rb_H} {h : Nat} {ms : mm_S} {a1 : Int32} (K : ((¬ a1 = 0 → ((¬ a1 = (1 : Int32) → ((¬ a1 = (2 : Int32) → (κ.2.2.1 (.returned (some (.int (-1 : Int32)))) (mm_H h ms M0))) ∧ (a1 = (2 : Int32) → (κ.2.2.1 (.returned (some (.int (ms.1 66 0)))) (mm_H h ms M0))))) ∧ (a1 = (1 : Int32) → (κ.2.2.1 (.returned (some (.int (ms.1 65 0)))) (mm_H h ms M0))))) ∧ (a1 = 0 → (κ.2.2.1 (.returned (some (.int (ms.1 64 0)))) (mm_H h ms M0))))) : rb_Bd κ mX4_threw (0, 0) (mm_H h ms M0) 0 [some (.ref h), some (.int a1)] [] := by
  refine rb_iload_n 1 rfl rfl dX4_threw_0 ?_
  refine rb_ifne 11 (by decide) dX4_threw_1 (fun c1 => ?_) (fun c1 => ?_)
  · skip
    refine rb_iload_n 1 rfl rfl dX4_threw_11 ?_
    refine rb_iconst (v := (1 : Int32)) (by decide) dX4_threw_12 ?_
    refine rb_icne 23 (by decide) dX4_threw_13 (fun c2 => ?_) (fun c2 => ?_)
    · skip
      refine rb_iload_n 1 rfl rfl dX4_threw_23 ?_
      refine rb_iconst (v := (2 : Int32)) (by decide) dX4_threw_24 ?_
      refine rb_icne 35 (by decide) dX4_threw_25 (fun c3 => ?_) (fun c3 => ?_)
      · skip
        refine rb_iconst (v := (-1 : Int32)) (by decide) dX4_threw_35 ?_
        exact rb_iret rfl rfl (Nat.zero_le _) (Nat.zero_le _) dX4_threw_36 ((((((K).1 c1)).1 c2)).1 c3)
      · skip
        refine rb_aload_n 0 rfl rfl (rb_isR_ref _) dX4_threw_28 ?_
        refine mm_getI (v := (ms.1 66 0)) rfl fl_X4_170 rfl dX4_threw_29 ?_
        refine rb_goto 36 (by decide) dX4_threw_32 ?_
        exact rb_iret rfl rfl (Nat.zero_le _) (Nat.zero_le _) dX4_threw_36 ((((((K).1 c1)).1 c2)).2 c3)
    · skip
      refine rb_aload_n 0 rfl rfl (rb_isR_ref _) dX4_threw_16 ?_
      refine mm_getI (v := (ms.1 65 0)) rfl fl_X4_167 rfl dX4_threw_17 ?_
      refine rb_goto 36 (by decide) dX4_threw_20 ?_
      exact rb_iret rfl rfl (Nat.zero_le _) (Nat.zero_le _) dX4_threw_36 ((((K).1 c1)).2 c2)
  · skip
    refine rb_aload_n 0 rfl rfl (rb_isR_ref _) dX4_threw_4 ?_
    refine mm_getI (v := (ms.1 64 0)) rfl fl_X4_164 rfl dX4_threw_5 ?_
    refine rb_goto 36 (by decide) dX4_threw_8 ?_
    exact rb_iret rfl rfl (Nat.zero_le _) (Nat.zero_le _) dX4_threw_36 ((K).2 c1)
theorem sgX4_with_0 {κ : rb_K} {M0 : rb_H} {h : Nat} {ms : mm_S}  (K : (κ.2.2.1 (.returned (some (.long (ms.2 67 0)))) (mm_H h ms M0))) : rb_Bd κ mX4_with (0, 0) (mm_H h ms M0) 0 [some (.ref h)] [] := by
  refine rb_aload_n 0 rfl rfl (rb_isR_ref _) dX4_with_0 ?_
  refine mm_getL (v := (ms.2 67 0)) rfl fl_X4_297 rfl dX4_with_1 ?_
  exact rb_lret rfl (Nat.zero_le _) (Nat.zero_le _) dX4_with_4 K
theorem sgX4_ran_0 {κ : rb_K} {M0 : rb_H} {h : Nat} {ms : mm_S} {a1 : Int32} {a2 : Int32} (K : (∃ (x1 : Int32) (ms2 : mm_S) (d3 : Nat), mm_C κ.1 yX4_in wX4_in d3 h M0 ms [.int a2, .int (0 : Int32), .int (3 : Int32)] (some (.int x1)) ms2 ∧ rb_dp κ d3 ∧ ((¬ x1 = 0 → (∃ (x5 : Int32) (ms6 : mm_S) (d7 : Nat), mm_C κ.1 yX4_in wX4_in d7 h M0 ms2 [.int a1, .int (0 : Int32), .int ((ms2.1 68 0) - (1 : Int32))] (some (.int x5)) ms6 ∧ rb_dp κ d7 ∧ ((¬ x5 = 0 → ((¬ a2 = 0 → ((¬ a2 = (1 : Int32) → ((¬ a2 = (2 : Int32) → (vp_in a1 (mm_l 72) ∧ (κ.2.2.1 (.returned (some (.int (ms6.1 72 (a1).toNatClampNeg)))) (mm_H h ms6 M0)))) ∧ (a2 = (2 : Int32) → (vp_in a1 (mm_l 71) ∧ (κ.2.2.1 (.returned (some (.int (ms6.1 71 (a1).toNatClampNeg)))) (mm_H h ms6 M0)))))) ∧ (a2 = (1 : Int32) → (vp_in a1 (mm_l 70) ∧ (κ.2.2.1 (.returned (some (.int (ms6.1 70 (a1).toNatClampNeg)))) (mm_H h ms6 M0)))))) ∧ (a2 = 0 → (vp_in a1 (mm_l 69) ∧ (κ.2.2.1 (.returned (some (.int (ms6.1 69 (a1).toNatClampNeg)))) (mm_H h ms6 M0)))))) ∧ (x5 = 0 → (κ.2.2.1 (.returned (some (.int (-9 : Int32)))) (mm_H h ms6 M0)))))) ∧ (x1 = 0 → (κ.2.2.1 (.returned (some (.int (-1 : Int32)))) (mm_H h ms2 M0)))))) : rb_Bd κ mX4_ran (0, 0) (mm_H h ms M0) 0 [some (.ref h), some (.int a1), some (.int a2)] [] := by
  refine rb_iload_n 2 rfl rfl dX4_ran_0 ?_
  refine rb_iconst (v := (0 : Int32)) (by decide) dX4_ran_1 ?_
  refine rb_iconst (v := (3 : Int32)) (by decide) dX4_ran_2 ?_
  obtain ⟨x1, ms2, d3, h1, h2, Kx1⟩ := K
  refine mm_call st_X4_188 (rest := []) h1 rfl rfl mm_rn (Nat.le_of_ble_eq_true rfl) h2 dX4_ran_3 ?_
  show rb_Bd κ mX4_ran (0, 0) (mm_H h ms2 M0) 6 [some (.ref h), some (.int a1), some (.int a2)] [.int x1]
  refine rb_ifne 11 (by decide) dX4_ran_6 (fun c4 => ?_) (fun c4 => ?_)
  · skip
    refine rb_iload_n 1 rfl rfl dX4_ran_11 ?_
    refine rb_iconst (v := (0 : Int32)) (by decide) dX4_ran_12 ?_
    refine rb_aload_n 0 rfl rfl (rb_isR_ref _) dX4_ran_13 ?_
    refine mm_getI (v := (ms2.1 68 0)) rfl fl_X4_291 rfl dX4_ran_14 ?_
    refine rb_iconst (v := (1 : Int32)) (by decide) dX4_ran_17 ?_
    refine rb_isub (z := ((ms2.1 68 0) - (1 : Int32))) rfl dX4_ran_18 ?_
    obtain ⟨x5, ms6, d7, h1, h2, Kx5⟩ := ((Kx1).1 c4)
    refine mm_call st_X4_188 (rest := []) h1 rfl rfl mm_rn (Nat.le_of_ble_eq_true rfl) h2 dX4_ran_19 ?_
    show rb_Bd κ mX4_ran (0, 0) (mm_H h ms6 M0) 22 [some (.ref h), some (.int a1), some (.int a2)] [.int x5]
    refine rb_ifne 28 (by decide) dX4_ran_22 (fun c8 => ?_) (fun c8 => ?_)
    · skip
      refine rb_iload_n 2 rfl rfl dX4_ran_28 ?_
      refine rb_ifne 41 (by decide) dX4_ran_29 (fun c9 => ?_) (fun c9 => ?_)
      · skip
        refine rb_iload_n 2 rfl rfl dX4_ran_41 ?_
        refine rb_iconst (v := (1 : Int32)) (by decide) dX4_ran_42 ?_
        refine rb_icne 55 (by decide) dX4_ran_43 (fun c10 => ?_) (fun c10 => ?_)
        · skip
          refine rb_iload_n 2 rfl rfl dX4_ran_55 ?_
          refine rb_iconst (v := (2 : Int32)) (by decide) dX4_ran_56 ?_
          refine rb_icne 69 (by decide) dX4_ran_57 (fun c11 => ?_) (fun c11 => ?_)
          · skip
            refine rb_aload_n 0 rfl rfl (rb_isR_ref _) dX4_ran_69 ?_
            refine mm_getA (t := 2) fl_X4_182 rfl (by decide) dX4_ran_70 ?_
            refine rb_iload_n 1 rfl rfl dX4_ran_73 ?_
            refine mm_iald (k := 72) (v := (ms6.1 72 (a1).toNatClampNeg)) rfl rfl (((((((((Kx5).1 c8)).1 c9)).1 c10)).1 c11)).1 dX4_ran_74 ?_
            exact rb_iret rfl rfl (Nat.zero_le _) (Nat.zero_le _) dX4_ran_75 (((((((((Kx5).1 c8)).1 c9)).1 c10)).1 c11)).2
          · skip
            refine rb_aload_n 0 rfl rfl (rb_isR_ref _) dX4_ran_60 ?_
            refine mm_getA (t := 2) fl_X4_179 rfl (by decide) dX4_ran_61 ?_
            refine rb_iload_n 1 rfl rfl dX4_ran_64 ?_
            refine mm_iald (k := 71) (v := (ms6.1 71 (a1).toNatClampNeg)) rfl rfl (((((((((Kx5).1 c8)).1 c9)).1 c10)).2 c11)).1 dX4_ran_65 ?_
            refine rb_goto 75 (by decide) dX4_ran_66 ?_
            exact rb_iret rfl rfl (Nat.zero_le _) (Nat.zero_le _) dX4_ran_75 (((((((((Kx5).1 c8)).1 c9)).1 c10)).2 c11)).2
        · skip
          refine rb_aload_n 0 rfl rfl (rb_isR_ref _) dX4_ran_46 ?_
          refine mm_getA (t := 2) fl_X4_176 rfl (by decide) dX4_ran_47 ?_
          refine rb_iload_n 1 rfl rfl dX4_ran_50 ?_
          refine mm_iald (k := 70) (v := (ms6.1 70 (a1).toNatClampNeg)) rfl rfl (((((((Kx5).1 c8)).1 c9)).2 c10)).1 dX4_ran_51 ?_
          refine rb_goto 75 (by decide) dX4_ran_52 ?_
          exact rb_iret rfl rfl (Nat.zero_le _) (Nat.zero_le _) dX4_ran_75 (((((((Kx5).1 c8)).1 c9)).2 c10)).2
      · skip
        refine rb_aload_n 0 rfl rfl (rb_isR_ref _) dX4_ran_32 ?_
        refine mm_getA (t := 2) fl_X4_173 rfl (by decide) dX4_ran_33 ?_
        refine rb_iload_n 1 rfl rfl dX4_ran_36 ?_
        refine mm_iald (k := 69) (v := (ms6.1 69 (a1).toNatClampNeg)) rfl rfl (((((Kx5).1 c8)).2 c9)).1 dX4_ran_37 ?_
        refine rb_goto 75 (by decide) dX4_ran_38 ?_
        exact rb_iret rfl rfl (Nat.zero_le _) (Nat.zero_le _) dX4_ran_75 (((((Kx5).1 c8)).2 c9)).2
    · skip
      refine rb_bipush (v := (-9 : Int32)) (by decide) dX4_ran_25 ?_
      exact rb_iret rfl rfl (Nat.zero_le _) (Nat.zero_le _) dX4_ran_27 ((Kx5).2 c8)
  · skip
    refine rb_iconst (v := (-1 : Int32)) (by decide) dX4_ran_9 ?_
    exact rb_iret rfl rfl (Nat.zero_le _) (Nat.zero_le _) dX4_ran_10 ((Kx1).2 c4)
theorem sgX4_marks_0 {κ : rb_K} {M0 : rb_H} {h : Nat} {ms : mm_S}  (K : (κ.2.2.1 (.returned (some (.int (ms.1 47 0)))) (mm_H h ms M0))) : rb_Bd κ mX4_marks (0, 0) (mm_H h ms M0) 0 [some (.ref h)] [] := by
  refine rb_aload_n 0 rfl rfl (rb_isR_ref _) dX4_marks_0 ?_
  refine mm_getI (v := (ms.1 47 0)) rfl fl_X4_337 rfl dX4_marks_1 ?_
  exact rb_iret rfl rfl (Nat.zero_le _) (Nat.zero_le _) dX4_marks_4 K
theorem sgX4_mark_0 {κ : rb_K} {M0 : rb_H} {h : Nat} {ms : mm_S} {a1 : Int32} (K : (∃ (x1 : Int32) (ms2 : mm_S) (d3 : Nat), mm_C κ.1 yX4_in wX4_in d3 h M0 ms [.int a1, .int (0 : Int32), .int ((ms.1 47 0) - (1 : Int32))] (some (.int x1)) ms2 ∧ rb_dp κ d3 ∧ ((x1 = 0 → (κ.2.2.1 (.returned (some (.int (-9 : Int32)))) (mm_H h ms2 M0))) ∧ (¬ x1 = 0 → (((100 : Int32) ≤ a1 → (κ.2.2.1 (.returned (some (.int (-9 : Int32)))) (mm_H h ms2 M0))) ∧ (a1 < (100 : Int32) → (vp_in a1 (mm_l 48) ∧ (∃ (x6 : Int32) (ms7 : mm_S) (d8 : Nat), mm_C κ.1 yX4_tells wX4_tells d8 h M0 ms2 [.ref h, .long (ms2.2 48 (a1).toNatClampNeg)] (some (.int x6)) ms7 ∧ rb_dp κ d8 ∧ (κ.2.2.1 (.returned (some (.int x6))) (mm_H h ms7 M0)))))))))) : rb_Bd κ mX4_mark (0, 0) (mm_H h ms M0) 0 [some (.ref h), some (.int a1)] [] := by
  refine rb_iload_n 1 rfl rfl dX4_mark_0 ?_
  refine rb_iconst (v := (0 : Int32)) (by decide) dX4_mark_1 ?_
  refine rb_aload_n 0 rfl rfl (rb_isR_ref _) dX4_mark_2 ?_
  refine mm_getI (v := (ms.1 47 0)) rfl fl_X4_337 rfl dX4_mark_3 ?_
  refine rb_iconst (v := (1 : Int32)) (by decide) dX4_mark_6 ?_
  refine rb_isub (z := ((ms.1 47 0) - (1 : Int32))) rfl dX4_mark_7 ?_
  obtain ⟨x1, ms2, d3, h1, h2, Kx1⟩ := K
  refine mm_call st_X4_188 (rest := []) h1 rfl rfl mm_rn (Nat.le_of_ble_eq_true rfl) h2 dX4_mark_8 ?_
  show rb_Bd κ mX4_mark (0, 0) (mm_H h ms2 M0) 11 [some (.ref h), some (.int a1)] [.int x1]
  refine rb_ifeq 33 (by decide) dX4_mark_11 (fun c4 => ?_) (fun c4 => ?_)
  · skip
    refine rb_bipush (v := (-9 : Int32)) (by decide) dX4_mark_33 ?_
    exact rb_iret rfl rfl (Nat.zero_le _) (Nat.zero_le _) dX4_mark_35 ((Kx1).1 c4)
  · skip
    refine rb_iload_n 1 rfl rfl dX4_mark_14 ?_
    refine rb_bipush (v := (100 : Int32)) (by decide) dX4_mark_15 ?_
    refine rb_icge 33 (by decide) dX4_mark_17 (fun c5 => ?_) (fun c5 => ?_)
    · skip
      refine rb_bipush (v := (-9 : Int32)) (by decide) dX4_mark_33 ?_
      exact rb_iret rfl rfl (Nat.zero_le _) (Nat.zero_le _) dX4_mark_35 ((((Kx1).2 c4)).1 c5)
    · skip
      refine rb_aload_n 0 rfl rfl (rb_isR_ref _) dX4_mark_20 ?_
      refine rb_aload_n 0 rfl rfl (rb_isR_ref _) dX4_mark_21 ?_
      refine mm_getA (t := 3) fl_X4_134 rfl (by decide) dX4_mark_22 ?_
      refine rb_iload_n 1 rfl rfl dX4_mark_25 ?_
      refine mm_lald (k := 48) (v := (ms2.2 48 (a1).toNatClampNeg)) rfl rfl (((((Kx1).2 c4)).2 c5)).1 dX4_mark_26 ?_
      obtain ⟨x6, ms7, d8, h1, h2, Kx6⟩ := (((((Kx1).2 c4)).2 c5)).2
      refine mm_call st_X4_384 (rest := []) h1 rfl rfl mm_rc (Nat.le_of_ble_eq_true rfl) h2 dX4_mark_27 ?_
      show rb_Bd κ mX4_mark (0, 0) (mm_H h ms7 M0) 30 [some (.ref h), some (.int a1)] [.int x6]
      refine rb_goto 35 (by decide) dX4_mark_30 ?_
      exact rb_iret rfl rfl (Nat.zero_le _) (Nat.zero_le _) dX4_mark_35 Kx6
theorem sgX4_tells_0 {κ : rb_K} {M0 : rb_H} {h : Nat} {ms : mm_S} {a1 : Int64} (K : (κ.2.2.1 (.returned (some (.int (1 : Int32)))) (mm_H h (mm_sL ms 49 0 a1) M0))) : rb_Bd κ mX4_tells (0, 0) (mm_H h ms M0) 0 [some (.ref h), some (.long a1), none] [] := by
  refine rb_aload_n 0 rfl rfl (rb_isR_ref _) dX4_tells_0 ?_
  refine rb_lload_n 1 rfl rfl dX4_tells_1 ?_
  refine mm_putL fl_X4_381 rfl dX4_tells_2 ?_
  refine rb_iconst (v := (1 : Int32)) (by decide) dX4_tells_5 ?_
  exact rb_iret rfl rfl (Nat.zero_le _) (Nat.zero_le _) dX4_tells_6 K
theorem sgX4_cell_0 {κ : rb_K} {M0 : rb_H} {h : Nat} {ms : mm_S} {a1 : Int32} {a2 : Int32} {a3 : Int32} (K : (∃ (x1 : Int32) (ms2 : mm_S) (d3 : Nat), mm_C κ.1 yX4_placeIn wX4_placeIn d3 h M0 ms [.ref h, .int a1, .int a2] (some (.int x1)) ms2 ∧ rb_dp κ d3 ∧ ((x1 < 0 → (κ.2.2.1 (.returned (some (.int (-1 : Int32)))) (mm_H h ms2 M0))) ∧ (0 ≤ x1 → (vp_in a2 (mm_l 1) ∧ (∃ (x5 : Int32) (ms6 : mm_S) (d7 : Nat), mm_C κ.1 yX4_in wX4_in d7 h M0 ms2 [.int a3, .int (0 : Int32), .int ((ms2.1 1 (a2).toNatClampNeg) - (1 : Int32))] (some (.int x5)) ms6 ∧ rb_dp κ d7 ∧ ((¬ x5 = 0 → (vp_in (((4 : Int32) * (((24 : Int32) * a1) + x1)) + a3) (mm_l 42) ∧ (∃ (x9 : Int32) (ms10 : mm_S) (d11 : Nat), mm_C κ.1 yX4_tells wX4_tells d11 h M0 ms6 [.ref h, .long (ms6.2 42 ((((4 : Int32) * (((24 : Int32) * a1) + x1)) + a3)).toNatClampNeg)] (some (.int x9)) ms10 ∧ rb_dp κ d11 ∧ (κ.2.2.1 (.returned (some (.int x9))) (mm_H h ms10 M0))))) ∧ (x5 = 0 → (κ.2.2.1 (.returned (some (.int (-1 : Int32)))) (mm_H h ms6 M0)))))))))) : rb_Bd κ mX4_cell (0, 0) (mm_H h ms M0) 0 [some (.ref h), some (.int a1), some (.int a2), some (.int a3), none] [] := by
  refine rb_aload_n 0 rfl rfl (rb_isR_ref _) dX4_cell_0 ?_
  refine rb_iload_n 1 rfl rfl dX4_cell_1 ?_
  refine rb_iload_n 2 rfl rfl dX4_cell_2 ?_
  obtain ⟨x1, ms2, d3, h1, h2, Kx1⟩ := K
  refine mm_call st_X4_388 (rest := []) h1 rfl rfl mm_rc (Nat.le_of_ble_eq_true rfl) h2 dX4_cell_3 ?_
  show rb_Bd κ mX4_cell (0, 0) (mm_H h ms2 M0) 6 [some (.ref h), some (.int a1), some (.int a2), some (.int a3), none] [.int x1]
  refine rb_istore (ls' := [some (.ref h), some (.int a1), some (.int a2), some (.int a3), some (.int x1)]) (by decide) rfl rfl dX4_cell_6 ?_
  refine rb_iload rfl dX4_cell_8 ?_
  refine rb_iflt 29 (by decide) dX4_cell_10 (fun c4 => ?_) (fun c4 => ?_)
  · skip
    refine rb_iconst (v := (-1 : Int32)) (by decide) dX4_cell_29 ?_
    refine rb_goto 53 (by decide) dX4_cell_30 ?_
    exact rb_iret rfl rfl (Nat.zero_le _) (Nat.zero_le _) dX4_cell_53 ((Kx1).1 c4)
  · skip
    refine rb_iload_n 3 rfl rfl dX4_cell_13 ?_
    refine rb_iconst (v := (0 : Int32)) (by decide) dX4_cell_14 ?_
    refine rb_aload_n 0 rfl rfl (rb_isR_ref _) dX4_cell_15 ?_
    refine mm_getA (t := 2) fl_X4_7 rfl (by decide) dX4_cell_16 ?_
    refine rb_iload_n 2 rfl rfl dX4_cell_19 ?_
    refine mm_iald (k := 1) (v := (ms2.1 1 (a2).toNatClampNeg)) rfl rfl (((Kx1).2 c4)).1 dX4_cell_20 ?_
    refine rb_iconst (v := (1 : Int32)) (by decide) dX4_cell_21 ?_
    refine rb_isub (z := ((ms2.1 1 (a2).toNatClampNeg) - (1 : Int32))) rfl dX4_cell_22 ?_
    obtain ⟨x5, ms6, d7, h1, h2, Kx5⟩ := (((Kx1).2 c4)).2
    refine mm_call st_X4_188 (rest := []) h1 rfl rfl mm_rn (Nat.le_of_ble_eq_true rfl) h2 dX4_cell_23 ?_
    show rb_Bd κ mX4_cell (0, 0) (mm_H h ms6 M0) 26 [some (.ref h), some (.int a1), some (.int a2), some (.int a3), some (.int x1)] [.int x5]
    refine rb_ifne 33 (by decide) dX4_cell_26 (fun c8 => ?_) (fun c8 => ?_)
    · skip
      refine rb_aload_n 0 rfl rfl (rb_isR_ref _) dX4_cell_33 ?_
      refine rb_aload_n 0 rfl rfl (rb_isR_ref _) dX4_cell_34 ?_
      refine mm_getA (t := 3) fl_X4_117 rfl (by decide) dX4_cell_35 ?_
      refine rb_iconst (v := (4 : Int32)) (by decide) dX4_cell_38 ?_
      refine rb_bipush (v := (24 : Int32)) (by decide) dX4_cell_39 ?_
      refine rb_iload_n 1 rfl rfl dX4_cell_41 ?_
      refine rb_imul (z := ((24 : Int32) * a1)) rfl dX4_cell_42 ?_
      refine rb_iload rfl dX4_cell_43 ?_
      refine rb_iadd (z := (((24 : Int32) * a1) + x1)) rfl dX4_cell_45 ?_
      refine rb_imul (z := ((4 : Int32) * (((24 : Int32) * a1) + x1))) rfl dX4_cell_46 ?_
      refine rb_iload_n 3 rfl rfl dX4_cell_47 ?_
      refine rb_iadd (z := (((4 : Int32) * (((24 : Int32) * a1) + x1)) + a3)) rfl dX4_cell_48 ?_
      refine mm_lald (k := 42) (v := (ms6.2 42 ((((4 : Int32) * (((24 : Int32) * a1) + x1)) + a3)).toNatClampNeg)) rfl rfl (((Kx5).1 c8)).1 dX4_cell_49 ?_
      obtain ⟨x9, ms10, d11, h1, h2, Kx9⟩ := (((Kx5).1 c8)).2
      refine mm_call st_X4_384 (rest := []) h1 rfl rfl mm_rc (Nat.le_of_ble_eq_true rfl) h2 dX4_cell_50 ?_
      show rb_Bd κ mX4_cell (0, 0) (mm_H h ms10 M0) 53 [some (.ref h), some (.int a1), some (.int a2), some (.int a3), some (.int x1)] [.int x9]
      exact rb_iret rfl rfl (Nat.zero_le _) (Nat.zero_le _) dX4_cell_53 Kx9
    · skip
      refine rb_iconst (v := (-1 : Int32)) (by decide) dX4_cell_29 ?_
      refine rb_goto 53 (by decide) dX4_cell_30 ?_
      exact rb_iret rfl rfl (Nat.zero_le _) (Nat.zero_le _) dX4_cell_53 ((Kx5).2 c8)
theorem sgX4_placeIn_0 {κ : rb_K} {M0 : rb_H} {h : Nat} {ms : mm_S} {a1 : Int32} {a2 : Int32} (K : (∃ (x1 : Int32) (ms2 : mm_S) (d3 : Nat), mm_C κ.1 yX4_isObject wX4_isObject d3 h M0 ms [.ref h, .int a1] (some (.int x1)) ms2 ∧ rb_dp κ d3 ∧ ((x1 = 0 → (κ.2.2.1 (.returned (some (.int (-9 : Int32)))) (mm_H h ms2 M0))) ∧ (¬ x1 = 0 → (∃ (x5 : Int32) (ms6 : mm_S) (d7 : Nat), mm_C κ.1 yX4_isPart wX4_isPart d7 h M0 ms2 [.ref h, .int a2] (some (.int x5)) ms6 ∧ rb_dp κ d7 ∧ ((x5 = 0 → (κ.2.2.1 (.returned (some (.int (-9 : Int32)))) (mm_H h ms6 M0))) ∧ (¬ x5 = 0 → (vp_in a1 (mm_l 41) ∧ (vp_in (((24 : Int32) * (ms6.1 41 (a1).toNatClampNeg)) + a2) (mm_l 27) ∧ (κ.2.2.1 (.returned (some (.int (ms6.1 27 ((((24 : Int32) * (ms6.1 41 (a1).toNatClampNeg)) + a2)).toNatClampNeg)))) (mm_H h ms6 M0))))))))))) : rb_Bd κ mX4_placeIn (0, 0) (mm_H h ms M0) 0 [some (.ref h), some (.int a1), some (.int a2)] [] := by
  refine rb_aload_n 0 rfl rfl (rb_isR_ref _) dX4_placeIn_0 ?_
  refine rb_iload_n 1 rfl rfl dX4_placeIn_1 ?_
  obtain ⟨x1, ms2, d3, h1, h2, Kx1⟩ := K
  refine mm_call st_X4_375 (rest := []) h1 rfl rfl mm_rc (Nat.le_of_ble_eq_true rfl) h2 dX4_placeIn_2 ?_
  show rb_Bd κ mX4_placeIn (0, 0) (mm_H h ms2 M0) 5 [some (.ref h), some (.int a1), some (.int a2)] [.int x1]
  refine rb_ifeq 35 (by decide) dX4_placeIn_5 (fun c4 => ?_) (fun c4 => ?_)
  · skip
    refine rb_bipush (v := (-9 : Int32)) (by decide) dX4_placeIn_35 ?_
    exact rb_iret rfl rfl (Nat.zero_le _) (Nat.zero_le _) dX4_placeIn_37 ((Kx1).1 c4)
  · skip
    refine rb_aload_n 0 rfl rfl (rb_isR_ref _) dX4_placeIn_8 ?_
    refine rb_iload_n 2 rfl rfl dX4_placeIn_9 ?_
    obtain ⟨x5, ms6, d7, h1, h2, Kx5⟩ := ((Kx1).2 c4)
    refine mm_call st_X4_192 (rest := []) h1 rfl rfl mm_rc (Nat.le_of_ble_eq_true rfl) h2 dX4_placeIn_10 ?_
    show rb_Bd κ mX4_placeIn (0, 0) (mm_H h ms6 M0) 13 [some (.ref h), some (.int a1), some (.int a2)] [.int x5]
    refine rb_ifeq 35 (by decide) dX4_placeIn_13 (fun c8 => ?_) (fun c8 => ?_)
    · skip
      refine rb_bipush (v := (-9 : Int32)) (by decide) dX4_placeIn_35 ?_
      exact rb_iret rfl rfl (Nat.zero_le _) (Nat.zero_le _) dX4_placeIn_37 ((Kx5).1 c8)
    · skip
      refine rb_aload_n 0 rfl rfl (rb_isR_ref _) dX4_placeIn_16 ?_
      refine mm_getA (t := 2) fl_X4_78 rfl (by decide) dX4_placeIn_17 ?_
      refine rb_bipush (v := (24 : Int32)) (by decide) dX4_placeIn_20 ?_
      refine rb_aload_n 0 rfl rfl (rb_isR_ref _) dX4_placeIn_22 ?_
      refine mm_getA (t := 2) fl_X4_114 rfl (by decide) dX4_placeIn_23 ?_
      refine rb_iload_n 1 rfl rfl dX4_placeIn_26 ?_
      refine mm_iald (k := 41) (v := (ms6.1 41 (a1).toNatClampNeg)) rfl rfl (((Kx5).2 c8)).1 dX4_placeIn_27 ?_
      refine rb_imul (z := ((24 : Int32) * (ms6.1 41 (a1).toNatClampNeg))) rfl dX4_placeIn_28 ?_
      refine rb_iload_n 2 rfl rfl dX4_placeIn_29 ?_
      refine rb_iadd (z := (((24 : Int32) * (ms6.1 41 (a1).toNatClampNeg)) + a2)) rfl dX4_placeIn_30 ?_
      refine mm_iald (k := 27) (v := (ms6.1 27 ((((24 : Int32) * (ms6.1 41 (a1).toNatClampNeg)) + a2)).toNatClampNeg)) rfl rfl ((((Kx5).2 c8)).2).1 dX4_placeIn_31 ?_
      refine rb_goto 37 (by decide) dX4_placeIn_32 ?_
      exact rb_iret rfl rfl (Nat.zero_le _) (Nat.zero_le _) dX4_placeIn_37 ((((Kx5).2 c8)).2).2
theorem sgX4_row_0 {κ : rb_K} {M0 : rb_H} {h : Nat} {ms : mm_S} {a1 : Int32} {a2 : Int32} {a3 : Int32} {a4 : Int32} (K : (∃ (x1 : Int32) (ms2 : mm_S) (d3 : Nat), mm_C κ.1 yX4_placeIn wX4_placeIn d3 h M0 ms [.ref h, .int a1, .int a2] (some (.int x1)) ms2 ∧ rb_dp κ d3 ∧ ((x1 < 0 → (κ.2.2.1 (.returned (some (.int (-1 : Int32)))) (mm_H h ms2 M0))) ∧ (0 ≤ x1 → (vp_in a2 (mm_l 2) ∧ (∃ (x5 : Int32) (ms6 : mm_S) (d7 : Nat), mm_C κ.1 yX4_in wX4_in d7 h M0 ms2 [.int a3, .int (0 : Int32), .int ((ms2.1 2 (a2).toNatClampNeg) - (1 : Int32))] (some (.int x5)) ms6 ∧ rb_dp κ d7 ∧ ((¬ x5 = 0 → (vp_in (((2 : Int32) * (((24 : Int32) * a1) + x1)) + a3) (mm_l 43) ∧ ((0 ≤ (ms6.1 43 ((((2 : Int32) * (((24 : Int32) * a1) + x1)) + a3)).toNatClampNeg) → ((¬ a4 = (-1 : Int32) → (vp_in (((2 : Int32) * (((24 : Int32) * a1) + x1)) + a3) (mm_l 43) ∧ (∃ (x11 : Int32) (ms12 : mm_S) (d13 : Nat), mm_C κ.1 yX4_in wX4_in d13 h M0 ms6 [.int a4, .int (0 : Int32), .int ((ms6.1 43 ((((2 : Int32) * (((24 : Int32) * a1) + x1)) + a3)).toNatClampNeg) - (1 : Int32))] (some (.int x11)) ms12 ∧ rb_dp κ d13 ∧ ((x11 = 0 → (κ.2.2.1 (.returned (some (.int (-9 : Int32)))) (mm_H h ms12 M0))) ∧ (¬ x11 = 0 → (vp_in (((12 : Int32) * (((2 : Int32) * (((24 : Int32) * a1) + x1)) + a3)) + a4) (mm_l 44) ∧ (∃ (x15 : Int32) (ms16 : mm_S) (d17 : Nat), mm_C κ.1 yX4_tells wX4_tells d17 h M0 ms12 [.ref h, .long (ms12.2 44 ((((12 : Int32) * (((2 : Int32) * (((24 : Int32) * a1) + x1)) + a3)) + a4)).toNatClampNeg)] (some (.int x15)) ms16 ∧ rb_dp κ d17 ∧ (κ.2.2.1 (.returned (some (.int x15))) (mm_H h ms16 M0))))))))) ∧ (a4 = (-1 : Int32) → (vp_in (((2 : Int32) * (((24 : Int32) * a1) + x1)) + a3) (mm_l 43) ∧ (∃ (x18 : Int32) (ms19 : mm_S) (d20 : Nat), mm_C κ.1 yX4_tells wX4_tells d20 h M0 ms6 [.ref h, .long ((ms6.1 43 ((((2 : Int32) * (((24 : Int32) * a1) + x1)) + a3)).toNatClampNeg)).toInt64] (some (.int x18)) ms19 ∧ rb_dp κ d20 ∧ (κ.2.2.1 (.returned (some (.int x18))) (mm_H h ms19 M0))))))) ∧ ((ms6.1 43 ((((2 : Int32) * (((24 : Int32) * a1) + x1)) + a3)).toNatClampNeg) < 0 → (κ.2.2.1 (.returned (some (.int (-9 : Int32)))) (mm_H h ms6 M0)))))) ∧ (x5 = 0 → (κ.2.2.1 (.returned (some (.int (-1 : Int32)))) (mm_H h ms6 M0)))))))))) : rb_Bd κ mX4_row (0, 0) (mm_H h ms M0) 0 [some (.ref h), some (.int a1), some (.int a2), some (.int a3), some (.int a4), none, none] [] := by
  refine rb_aload_n 0 rfl rfl (rb_isR_ref _) dX4_row_0 ?_
  refine rb_iload_n 1 rfl rfl dX4_row_1 ?_
  refine rb_iload_n 2 rfl rfl dX4_row_2 ?_
  obtain ⟨x1, ms2, d3, h1, h2, Kx1⟩ := K
  refine mm_call st_X4_388 (rest := []) h1 rfl rfl mm_rc (Nat.le_of_ble_eq_true rfl) h2 dX4_row_3 ?_
  show rb_Bd κ mX4_row (0, 0) (mm_H h ms2 M0) 6 [some (.ref h), some (.int a1), some (.int a2), some (.int a3), some (.int a4), none, none] [.int x1]
  refine rb_istore (ls' := [some (.ref h), some (.int a1), some (.int a2), some (.int a3), some (.int a4), some (.int x1), none]) (by decide) rfl rfl dX4_row_6 ?_
  refine rb_iload rfl dX4_row_8 ?_
  refine rb_iflt 29 (by decide) dX4_row_10 (fun c4 => ?_) (fun c4 => ?_)
  · skip
    refine rb_iconst (v := (-1 : Int32)) (by decide) dX4_row_29 ?_
    exact rb_iret rfl rfl (Nat.zero_le _) (Nat.zero_le _) dX4_row_30 ((Kx1).1 c4)
  · skip
    refine rb_iload_n 3 rfl rfl dX4_row_13 ?_
    refine rb_iconst (v := (0 : Int32)) (by decide) dX4_row_14 ?_
    refine rb_aload_n 0 rfl rfl (rb_isR_ref _) dX4_row_15 ?_
    refine mm_getA (t := 2) fl_X4_13 rfl (by decide) dX4_row_16 ?_
    refine rb_iload_n 2 rfl rfl dX4_row_19 ?_
    refine mm_iald (k := 2) (v := (ms2.1 2 (a2).toNatClampNeg)) rfl rfl (((Kx1).2 c4)).1 dX4_row_20 ?_
    refine rb_iconst (v := (1 : Int32)) (by decide) dX4_row_21 ?_
    refine rb_isub (z := ((ms2.1 2 (a2).toNatClampNeg) - (1 : Int32))) rfl dX4_row_22 ?_
    obtain ⟨x5, ms6, d7, h1, h2, Kx5⟩ := (((Kx1).2 c4)).2
    refine mm_call st_X4_188 (rest := []) h1 rfl rfl mm_rn (Nat.le_of_ble_eq_true rfl) h2 dX4_row_23 ?_
    show rb_Bd κ mX4_row (0, 0) (mm_H h ms6 M0) 26 [some (.ref h), some (.int a1), some (.int a2), some (.int a3), some (.int a4), some (.int x1), none] [.int x5]
    refine rb_ifne 31 (by decide) dX4_row_26 (fun c8 => ?_) (fun c8 => ?_)
    · skip
      refine rb_iconst (v := (2 : Int32)) (by decide) dX4_row_31 ?_
      refine rb_bipush (v := (24 : Int32)) (by decide) dX4_row_32 ?_
      refine rb_iload_n 1 rfl rfl dX4_row_34 ?_
      refine rb_imul (z := ((24 : Int32) * a1)) rfl dX4_row_35 ?_
      refine rb_iload rfl dX4_row_36 ?_
      refine rb_iadd (z := (((24 : Int32) * a1) + x1)) rfl dX4_row_38 ?_
      refine rb_imul (z := ((2 : Int32) * (((24 : Int32) * a1) + x1))) rfl dX4_row_39 ?_
      refine rb_iload_n 3 rfl rfl dX4_row_40 ?_
      refine rb_iadd (z := (((2 : Int32) * (((24 : Int32) * a1) + x1)) + a3)) rfl dX4_row_41 ?_
      refine rb_istore (ls' := [some (.ref h), some (.int a1), some (.int a2), some (.int a3), some (.int a4), some (.int x1), some (.int (((2 : Int32) * (((24 : Int32) * a1) + x1)) + a3))]) (by decide) rfl rfl dX4_row_42 ?_
      refine rb_aload_n 0 rfl rfl (rb_isR_ref _) dX4_row_44 ?_
      refine mm_getA (t := 2) fl_X4_121 rfl (by decide) dX4_row_45 ?_
      refine rb_iload rfl dX4_row_48 ?_
      refine mm_iald (k := 43) (v := (ms6.1 43 ((((2 : Int32) * (((24 : Int32) * a1) + x1)) + a3)).toNatClampNeg)) rfl rfl (((Kx5).1 c8)).1 dX4_row_50 ?_
      refine rb_ifge 57 (by decide) dX4_row_51 (fun c9 => ?_) (fun c9 => ?_)
      · skip
        refine rb_iload rfl dX4_row_57 ?_
        refine rb_iconst (v := (-1 : Int32)) (by decide) dX4_row_59 ?_
        refine rb_icne 78 (by decide) dX4_row_60 (fun c10 => ?_) (fun c10 => ?_)
        · skip
          refine rb_iload rfl dX4_row_78 ?_
          refine rb_iconst (v := (0 : Int32)) (by decide) dX4_row_80 ?_
          refine rb_aload_n 0 rfl rfl (rb_isR_ref _) dX4_row_81 ?_
          refine mm_getA (t := 2) fl_X4_121 rfl (by decide) dX4_row_82 ?_
          refine rb_iload rfl dX4_row_85 ?_
          refine mm_iald (k := 43) (v := (ms6.1 43 ((((2 : Int32) * (((24 : Int32) * a1) + x1)) + a3)).toNatClampNeg)) rfl rfl ((((((((Kx5).1 c8)).2).1 c9)).1 c10)).1 dX4_row_87 ?_
          refine rb_iconst (v := (1 : Int32)) (by decide) dX4_row_88 ?_
          refine rb_isub (z := ((ms6.1 43 ((((2 : Int32) * (((24 : Int32) * a1) + x1)) + a3)).toNatClampNeg) - (1 : Int32))) rfl dX4_row_89 ?_
          obtain ⟨x11, ms12, d13, h1, h2, Kx11⟩ := ((((((((Kx5).1 c8)).2).1 c9)).1 c10)).2
          refine mm_call st_X4_188 (rest := []) h1 rfl rfl mm_rn (Nat.le_of_ble_eq_true rfl) h2 dX4_row_90 ?_
          show rb_Bd κ mX4_row (0, 0) (mm_H h ms12 M0) 93 [some (.ref h), some (.int a1), some (.int a2), some (.int a3), some (.int a4), some (.int x1), some (.int (((2 : Int32) * (((24 : Int32) * a1) + x1)) + a3))] [.int x11]
          refine rb_ifeq 116 (by decide) dX4_row_93 (fun c14 => ?_) (fun c14 => ?_)
          · skip
            refine rb_bipush (v := (-9 : Int32)) (by decide) dX4_row_116 ?_
            exact rb_iret rfl rfl (Nat.zero_le _) (Nat.zero_le _) dX4_row_118 ((Kx11).1 c14)
          · skip
            refine rb_aload_n 0 rfl rfl (rb_isR_ref _) dX4_row_96 ?_
            refine rb_aload_n 0 rfl rfl (rb_isR_ref _) dX4_row_97 ?_
            refine mm_getA (t := 3) fl_X4_125 rfl (by decide) dX4_row_98 ?_
            refine rb_bipush (v := (12 : Int32)) (by decide) dX4_row_101 ?_
            refine rb_iload rfl dX4_row_103 ?_
            refine rb_imul (z := ((12 : Int32) * (((2 : Int32) * (((24 : Int32) * a1) + x1)) + a3))) rfl dX4_row_105 ?_
            refine rb_iload rfl dX4_row_106 ?_
            refine rb_iadd (z := (((12 : Int32) * (((2 : Int32) * (((24 : Int32) * a1) + x1)) + a3)) + a4)) rfl dX4_row_108 ?_
            refine mm_lald (k := 44) (v := (ms12.2 44 ((((12 : Int32) * (((2 : Int32) * (((24 : Int32) * a1) + x1)) + a3)) + a4)).toNatClampNeg)) rfl rfl (((Kx11).2 c14)).1 dX4_row_109 ?_
            obtain ⟨x15, ms16, d17, h1, h2, Kx15⟩ := (((Kx11).2 c14)).2
            refine mm_call st_X4_384 (rest := []) h1 rfl rfl mm_rc (Nat.le_of_ble_eq_true rfl) h2 dX4_row_110 ?_
            show rb_Bd κ mX4_row (0, 0) (mm_H h ms16 M0) 113 [some (.ref h), some (.int a1), some (.int a2), some (.int a3), some (.int a4), some (.int x1), some (.int (((2 : Int32) * (((24 : Int32) * a1) + x1)) + a3))] [.int x15]
            refine rb_goto 118 (by decide) dX4_row_113 ?_
            exact rb_iret rfl rfl (Nat.zero_le _) (Nat.zero_le _) dX4_row_118 Kx15
        · skip
          refine rb_aload_n 0 rfl rfl (rb_isR_ref _) dX4_row_63 ?_
          refine rb_aload_n 0 rfl rfl (rb_isR_ref _) dX4_row_64 ?_
          refine mm_getA (t := 2) fl_X4_121 rfl (by decide) dX4_row_65 ?_
          refine rb_iload rfl dX4_row_68 ?_
          refine mm_iald (k := 43) (v := (ms6.1 43 ((((2 : Int32) * (((24 : Int32) * a1) + x1)) + a3)).toNatClampNeg)) rfl rfl ((((((((Kx5).1 c8)).2).1 c9)).2 c10)).1 dX4_row_70 ?_
          refine rb_i2l (z := ((ms6.1 43 ((((2 : Int32) * (((24 : Int32) * a1) + x1)) + a3)).toNatClampNeg)).toInt64) rfl dX4_row_71 ?_
          obtain ⟨x18, ms19, d20, h1, h2, Kx18⟩ := ((((((((Kx5).1 c8)).2).1 c9)).2 c10)).2
          refine mm_call st_X4_384 (rest := []) h1 rfl rfl mm_rc (Nat.le_of_ble_eq_true rfl) h2 dX4_row_72 ?_
          show rb_Bd κ mX4_row (0, 0) (mm_H h ms19 M0) 75 [some (.ref h), some (.int a1), some (.int a2), some (.int a3), some (.int a4), some (.int x1), some (.int (((2 : Int32) * (((24 : Int32) * a1) + x1)) + a3))] [.int x18]
          refine rb_goto 118 (by decide) dX4_row_75 ?_
          exact rb_iret rfl rfl (Nat.zero_le _) (Nat.zero_le _) dX4_row_118 Kx18
      · skip
        refine rb_bipush (v := (-9 : Int32)) (by decide) dX4_row_54 ?_
        exact rb_iret rfl rfl (Nat.zero_le _) (Nat.zero_le _) dX4_row_56 (((((Kx5).1 c8)).2).2 c9)
    · skip
      refine rb_iconst (v := (-1 : Int32)) (by decide) dX4_row_29 ?_
      exact rb_iret rfl rfl (Nat.zero_le _) (Nat.zero_le _) dX4_row_30 ((Kx5).2 c8)
theorem sgX4_hold_0 {κ : rb_K} {M0 : rb_H} {h : Nat} {ms : mm_S} {a1 : Int32} {a2 : Int32} {a3 : Int32} {a4 : Int32} (K : (∃ (x1 : Int32) (ms2 : mm_S) (d3 : Nat), mm_C κ.1 yX4_placeIn wX4_placeIn d3 h M0 ms [.ref h, .int a1, .int a2] (some (.int x1)) ms2 ∧ rb_dp κ d3 ∧ ((x1 < 0 → (κ.2.2.1 (.returned (some (.int (-1 : Int32)))) (mm_H h ms2 M0))) ∧ (0 ≤ x1 → (vp_in a2 (mm_l 3) ∧ (∃ (x5 : Int32) (ms6 : mm_S) (d7 : Nat), mm_C κ.1 yX4_in wX4_in d7 h M0 ms2 [.int a3, .int (0 : Int32), .int ((ms2.1 3 (a2).toNatClampNeg) - (1 : Int32))] (some (.int x5)) ms6 ∧ rb_dp κ d7 ∧ ((x5 = 0 → (κ.2.2.1 (.returned (some (.int (-1 : Int32)))) (mm_H h ms6 M0))) ∧ (¬ x5 = 0 → ((a4 = (-9 : Int32) → (vp_in (((2 : Int32) * (((24 : Int32) * a1) + x1)) + a3) (mm_l 45) ∧ (vp_in (((2 : Int32) * (((24 : Int32) * a1) + x1)) + a3) (mm_l 45) ∧ (κ.2.2.1 (.returned (some (.int (ms6.1 45 ((((2 : Int32) * (((24 : Int32) * a1) + x1)) + a3)).toNatClampNeg)))) (mm_H h (mm_sI ms6 45 ((((2 : Int32) * (((24 : Int32) * a1) + x1)) + a3)).toNatClampNeg a4) M0))))) ∧ (¬ a4 = (-9 : Int32) → (∃ (x10 : Int32) (ms11 : mm_S) (d12 : Nat), mm_C κ.1 yX4_isObject wX4_isObject d12 h M0 ms6 [.ref h, .int a4] (some (.int x10)) ms11 ∧ rb_dp κ d12 ∧ ((¬ x10 = 0 → (vp_in (((2 : Int32) * (((24 : Int32) * a1) + x1)) + a3) (mm_l 45) ∧ (vp_in (((2 : Int32) * (((24 : Int32) * a1) + x1)) + a3) (mm_l 45) ∧ (κ.2.2.1 (.returned (some (.int (ms11.1 45 ((((2 : Int32) * (((24 : Int32) * a1) + x1)) + a3)).toNatClampNeg)))) (mm_H h (mm_sI ms11 45 ((((2 : Int32) * (((24 : Int32) * a1) + x1)) + a3)).toNatClampNeg a4) M0))))) ∧ (x10 = 0 → (κ.2.2.1 (.returned (some (.int (-1 : Int32)))) (mm_H h ms11 M0))))))))))))))) : rb_Bd κ mX4_hold (0, 0) (mm_H h ms M0) 0 [some (.ref h), some (.int a1), some (.int a2), some (.int a3), some (.int a4), none, none, none] [] := by
  refine rb_aload_n 0 rfl rfl (rb_isR_ref _) dX4_hold_0 ?_
  refine rb_iload_n 1 rfl rfl dX4_hold_1 ?_
  refine rb_iload_n 2 rfl rfl dX4_hold_2 ?_
  obtain ⟨x1, ms2, d3, h1, h2, Kx1⟩ := K
  refine mm_call st_X4_388 (rest := []) h1 rfl rfl mm_rc (Nat.le_of_ble_eq_true rfl) h2 dX4_hold_3 ?_
  show rb_Bd κ mX4_hold (0, 0) (mm_H h ms2 M0) 6 [some (.ref h), some (.int a1), some (.int a2), some (.int a3), some (.int a4), none, none, none] [.int x1]
  refine rb_istore (ls' := [some (.ref h), some (.int a1), some (.int a2), some (.int a3), some (.int a4), some (.int x1), none, none]) (by decide) rfl rfl dX4_hold_6 ?_
  refine rb_iload rfl dX4_hold_8 ?_
  refine rb_iflt 45 (by decide) dX4_hold_10 (fun c4 => ?_) (fun c4 => ?_)
  · skip
    refine rb_iconst (v := (-1 : Int32)) (by decide) dX4_hold_45 ?_
    exact rb_iret rfl rfl (Nat.zero_le _) (Nat.zero_le _) dX4_hold_46 ((Kx1).1 c4)
  · skip
    refine rb_iload_n 3 rfl rfl dX4_hold_13 ?_
    refine rb_iconst (v := (0 : Int32)) (by decide) dX4_hold_14 ?_
    refine rb_aload_n 0 rfl rfl (rb_isR_ref _) dX4_hold_15 ?_
    refine mm_getA (t := 2) fl_X4_16 rfl (by decide) dX4_hold_16 ?_
    refine rb_iload_n 2 rfl rfl dX4_hold_19 ?_
    refine mm_iald (k := 3) (v := (ms2.1 3 (a2).toNatClampNeg)) rfl rfl (((Kx1).2 c4)).1 dX4_hold_20 ?_
    refine rb_iconst (v := (1 : Int32)) (by decide) dX4_hold_21 ?_
    refine rb_isub (z := ((ms2.1 3 (a2).toNatClampNeg) - (1 : Int32))) rfl dX4_hold_22 ?_
    obtain ⟨x5, ms6, d7, h1, h2, Kx5⟩ := (((Kx1).2 c4)).2
    refine mm_call st_X4_188 (rest := []) h1 rfl rfl mm_rn (Nat.le_of_ble_eq_true rfl) h2 dX4_hold_23 ?_
    show rb_Bd κ mX4_hold (0, 0) (mm_H h ms6 M0) 26 [some (.ref h), some (.int a1), some (.int a2), some (.int a3), some (.int a4), some (.int x1), none, none] [.int x5]
    refine rb_ifeq 45 (by decide) dX4_hold_26 (fun c8 => ?_) (fun c8 => ?_)
    · skip
      refine rb_iconst (v := (-1 : Int32)) (by decide) dX4_hold_45 ?_
      exact rb_iret rfl rfl (Nat.zero_le _) (Nat.zero_le _) dX4_hold_46 ((Kx5).1 c8)
    · skip
      refine rb_iload rfl dX4_hold_29 ?_
      refine rb_bipush (v := (-9 : Int32)) (by decide) dX4_hold_31 ?_
      refine rb_iceq 47 (by decide) dX4_hold_33 (fun c9 => ?_) (fun c9 => ?_)
      · skip
        refine rb_iconst (v := (2 : Int32)) (by decide) dX4_hold_47 ?_
        refine rb_bipush (v := (24 : Int32)) (by decide) dX4_hold_48 ?_
        refine rb_iload_n 1 rfl rfl dX4_hold_50 ?_
        refine rb_imul (z := ((24 : Int32) * a1)) rfl dX4_hold_51 ?_
        refine rb_iload rfl dX4_hold_52 ?_
        refine rb_iadd (z := (((24 : Int32) * a1) + x1)) rfl dX4_hold_54 ?_
        refine rb_imul (z := ((2 : Int32) * (((24 : Int32) * a1) + x1))) rfl dX4_hold_55 ?_
        refine rb_iload_n 3 rfl rfl dX4_hold_56 ?_
        refine rb_iadd (z := (((2 : Int32) * (((24 : Int32) * a1) + x1)) + a3)) rfl dX4_hold_57 ?_
        refine rb_istore (ls' := [some (.ref h), some (.int a1), some (.int a2), some (.int a3), some (.int a4), some (.int x1), some (.int (((2 : Int32) * (((24 : Int32) * a1) + x1)) + a3)), none]) (by decide) rfl rfl dX4_hold_58 ?_
        refine rb_aload_n 0 rfl rfl (rb_isR_ref _) dX4_hold_60 ?_
        refine mm_getA (t := 2) fl_X4_128 rfl (by decide) dX4_hold_61 ?_
        refine rb_iload rfl dX4_hold_64 ?_
        refine mm_iald (k := 45) (v := (ms6.1 45 ((((2 : Int32) * (((24 : Int32) * a1) + x1)) + a3)).toNatClampNeg)) rfl rfl (((((Kx5).2 c8)).1 c9)).1 dX4_hold_66 ?_
        refine rb_istore (ls' := [some (.ref h), some (.int a1), some (.int a2), some (.int a3), some (.int a4), some (.int x1), some (.int (((2 : Int32) * (((24 : Int32) * a1) + x1)) + a3)), some (.int (ms6.1 45 ((((2 : Int32) * (((24 : Int32) * a1) + x1)) + a3)).toNatClampNeg))]) (by decide) rfl rfl dX4_hold_67 ?_
        refine rb_aload_n 0 rfl rfl (rb_isR_ref _) dX4_hold_69 ?_
        refine mm_getA (t := 2) fl_X4_128 rfl (by decide) dX4_hold_70 ?_
        refine rb_iload rfl dX4_hold_73 ?_
        refine rb_iload rfl dX4_hold_75 ?_
        refine mm_iast (k := 45) rfl ((((((Kx5).2 c8)).1 c9)).2).1 dX4_hold_77 ?_
        refine rb_iload rfl dX4_hold_78 ?_
        exact rb_iret rfl rfl (Nat.zero_le _) (Nat.zero_le _) dX4_hold_80 ((((((Kx5).2 c8)).1 c9)).2).2
      · skip
        refine rb_aload_n 0 rfl rfl (rb_isR_ref _) dX4_hold_36 ?_
        refine rb_iload rfl dX4_hold_37 ?_
        obtain ⟨x10, ms11, d12, h1, h2, Kx10⟩ := ((((Kx5).2 c8)).2 c9)
        refine mm_call st_X4_375 (rest := []) h1 rfl rfl mm_rc (Nat.le_of_ble_eq_true rfl) h2 dX4_hold_39 ?_
        show rb_Bd κ mX4_hold (0, 0) (mm_H h ms11 M0) 42 [some (.ref h), some (.int a1), some (.int a2), some (.int a3), some (.int a4), some (.int x1), none, none] [.int x10]
        refine rb_ifne 47 (by decide) dX4_hold_42 (fun c13 => ?_) (fun c13 => ?_)
        · skip
          refine rb_iconst (v := (2 : Int32)) (by decide) dX4_hold_47 ?_
          refine rb_bipush (v := (24 : Int32)) (by decide) dX4_hold_48 ?_
          refine rb_iload_n 1 rfl rfl dX4_hold_50 ?_
          refine rb_imul (z := ((24 : Int32) * a1)) rfl dX4_hold_51 ?_
          refine rb_iload rfl dX4_hold_52 ?_
          refine rb_iadd (z := (((24 : Int32) * a1) + x1)) rfl dX4_hold_54 ?_
          refine rb_imul (z := ((2 : Int32) * (((24 : Int32) * a1) + x1))) rfl dX4_hold_55 ?_
          refine rb_iload_n 3 rfl rfl dX4_hold_56 ?_
          refine rb_iadd (z := (((2 : Int32) * (((24 : Int32) * a1) + x1)) + a3)) rfl dX4_hold_57 ?_
          refine rb_istore (ls' := [some (.ref h), some (.int a1), some (.int a2), some (.int a3), some (.int a4), some (.int x1), some (.int (((2 : Int32) * (((24 : Int32) * a1) + x1)) + a3)), none]) (by decide) rfl rfl dX4_hold_58 ?_
          refine rb_aload_n 0 rfl rfl (rb_isR_ref _) dX4_hold_60 ?_
          refine mm_getA (t := 2) fl_X4_128 rfl (by decide) dX4_hold_61 ?_
          refine rb_iload rfl dX4_hold_64 ?_
          refine mm_iald (k := 45) (v := (ms11.1 45 ((((2 : Int32) * (((24 : Int32) * a1) + x1)) + a3)).toNatClampNeg)) rfl rfl (((Kx10).1 c13)).1 dX4_hold_66 ?_
          refine rb_istore (ls' := [some (.ref h), some (.int a1), some (.int a2), some (.int a3), some (.int a4), some (.int x1), some (.int (((2 : Int32) * (((24 : Int32) * a1) + x1)) + a3)), some (.int (ms11.1 45 ((((2 : Int32) * (((24 : Int32) * a1) + x1)) + a3)).toNatClampNeg))]) (by decide) rfl rfl dX4_hold_67 ?_
          refine rb_aload_n 0 rfl rfl (rb_isR_ref _) dX4_hold_69 ?_
          refine mm_getA (t := 2) fl_X4_128 rfl (by decide) dX4_hold_70 ?_
          refine rb_iload rfl dX4_hold_73 ?_
          refine rb_iload rfl dX4_hold_75 ?_
          refine mm_iast (k := 45) rfl ((((Kx10).1 c13)).2).1 dX4_hold_77 ?_
          refine rb_iload rfl dX4_hold_78 ?_
          exact rb_iret rfl rfl (Nat.zero_le _) (Nat.zero_le _) dX4_hold_80 ((((Kx10).1 c13)).2).2
        · skip
          refine rb_iconst (v := (-1 : Int32)) (by decide) dX4_hold_45 ?_
          exact rb_iret rfl rfl (Nat.zero_le _) (Nat.zero_le _) dX4_hold_46 ((Kx10).2 c13)
theorem sgX4_shared_0 {κ : rb_K} {M0 : rb_H} {h : Nat} {ms : mm_S} {a1 : Int32} (K : (∃ (x1 : Int32) (ms2 : mm_S) (d3 : Nat), mm_C κ.1 yX4_in wX4_in d3 h M0 ms [.int a1, .int (0 : Int32), .int (7 : Int32)] (some (.int x1)) ms2 ∧ rb_dp κ d3 ∧ ((x1 = 0 → (κ.2.2.1 (.returned (some (.int (-1 : Int32)))) (mm_H h ms2 M0))) ∧ (¬ x1 = 0 → (vp_in a1 (mm_l 46) ∧ (∃ (x5 : Int32) (ms6 : mm_S) (d7 : Nat), mm_C κ.1 yX4_tells wX4_tells d7 h M0 ms2 [.ref h, .long (ms2.2 46 (a1).toNatClampNeg)] (some (.int x5)) ms6 ∧ rb_dp κ d7 ∧ (κ.2.2.1 (.returned (some (.int x5))) (mm_H h ms6 M0)))))))) : rb_Bd κ mX4_shared (0, 0) (mm_H h ms M0) 0 [some (.ref h), some (.int a1)] [] := by
  refine rb_iload_n 1 rfl rfl dX4_shared_0 ?_
  refine rb_iconst (v := (0 : Int32)) (by decide) dX4_shared_1 ?_
  refine rb_bipush (v := (7 : Int32)) (by decide) dX4_shared_2 ?_
  obtain ⟨x1, ms2, d3, h1, h2, Kx1⟩ := K
  refine mm_call st_X4_188 (rest := []) h1 rfl rfl mm_rn (Nat.le_of_ble_eq_true rfl) h2 dX4_shared_4 ?_
  show rb_Bd κ mX4_shared (0, 0) (mm_H h ms2 M0) 7 [some (.ref h), some (.int a1)] [.int x1]
  refine rb_ifeq 23 (by decide) dX4_shared_7 (fun c4 => ?_) (fun c4 => ?_)
  · skip
    refine rb_iconst (v := (-1 : Int32)) (by decide) dX4_shared_23 ?_
    exact rb_iret rfl rfl (Nat.zero_le _) (Nat.zero_le _) dX4_shared_24 ((Kx1).1 c4)
  · skip
    refine rb_aload_n 0 rfl rfl (rb_isR_ref _) dX4_shared_10 ?_
    refine rb_aload_n 0 rfl rfl (rb_isR_ref _) dX4_shared_11 ?_
    refine mm_getA (t := 3) fl_X4_131 rfl (by decide) dX4_shared_12 ?_
    refine rb_iload_n 1 rfl rfl dX4_shared_15 ?_
    refine mm_lald (k := 46) (v := (ms2.2 46 (a1).toNatClampNeg)) rfl rfl (((Kx1).2 c4)).1 dX4_shared_16 ?_
    obtain ⟨x5, ms6, d7, h1, h2, Kx5⟩ := (((Kx1).2 c4)).2
    refine mm_call st_X4_384 (rest := []) h1 rfl rfl mm_rc (Nat.le_of_ble_eq_true rfl) h2 dX4_shared_17 ?_
    show rb_Bd κ mX4_shared (0, 0) (mm_H h ms6 M0) 20 [some (.ref h), some (.int a1)] [.int x5]
    refine rb_goto 24 (by decide) dX4_shared_20 ?_
    exact rb_iret rfl rfl (Nat.zero_le _) (Nat.zero_le _) dX4_shared_24 Kx5
theorem sgX4_told_0 {κ : rb_K} {M0 : rb_H} {h : Nat} {ms : mm_S}  (K : (κ.2.2.1 (.returned (some (.long (ms.2 49 0)))) (mm_H h ms M0))) : rb_Bd κ mX4_told (0, 0) (mm_H h ms M0) 0 [some (.ref h)] [] := by
  refine rb_aload_n 0 rfl rfl (rb_isR_ref _) dX4_told_0 ?_
  refine mm_getL (v := (ms.2 49 0)) rfl fl_X4_381 rfl dX4_told_1 ?_
  exact rb_lret rfl (Nat.zero_le _) (Nat.zero_le _) dX4_told_4 K
theorem sgX4_count_0 {κ : rb_K} {M0 : rb_H} {h : Nat} {ms : mm_S} {a1 : Int32} (K : ((((a1).toInt < 0 ∨ 5 < (a1).toInt) → (κ.2.2.1 (.returned (some (.int (-1 : Int32)))) (mm_H h ms M0))) ∧ ((a1).toInt = 0 → (κ.2.2.1 (.returned (some (.int (ms.1 0 0)))) (mm_H h ms M0))) ∧ ((a1).toInt = 1 → (κ.2.2.1 (.returned (some (.int (ms.1 24 0)))) (mm_H h ms M0))) ∧ ((a1).toInt = 2 → (κ.2.2.1 (.returned (some (.int (ms.1 40 0)))) (mm_H h ms M0))) ∧ ((a1).toInt = 3 → (κ.2.2.1 (.returned (some (.int (ms.1 7 0)))) (mm_H h ms M0))) ∧ ((a1).toInt = 4 → (κ.2.2.1 (.returned (some (.int (ms.1 60 0)))) (mm_H h ms M0))) ∧ ((a1).toInt = 5 → (κ.2.2.1 (.returned (some (.int (ms.1 16 0)))) (mm_H h ms M0))))) : rb_Bd κ mX4_count (0, 0) (mm_H h ms M0) 0 [some (.ref h), some (.int a1)] [] := by
  refine rb_iload_n 1 rfl rfl dX4_count_0 ?_
  rcases mm_sw5 (a1).toInt 0 with c1 | c1 | c1 | c1 | c1 | c1 | c1
  · skip
    refine rb_tableOut 70 (by omega) (by decide) dX4_count_1 ?_
    refine rb_iconst (v := (-1 : Int32)) (by decide) dX4_count_70 ?_
    exact rb_iret rfl rfl (Nat.zero_le _) (Nat.zero_le _) dX4_count_71 ((K).1 (by omega))
  · skip
    refine rb_tableIn 40 (by omega) (by omega) (off := 39) (by rw [c1]; rfl) (by decide) dX4_count_1 ?_
    refine rb_aload_n 0 rfl rfl (rb_isR_ref _) dX4_count_40 ?_
    refine mm_getI (v := (ms.1 0 0)) rfl fl_X4_185 rfl dX4_count_41 ?_
    exact rb_iret rfl rfl (Nat.zero_le _) (Nat.zero_le _) dX4_count_44 ((K).2.1 c1)
  · skip
    refine rb_tableIn 45 (by omega) (by omega) (off := 44) (by rw [c1]; rfl) (by decide) dX4_count_1 ?_
    refine rb_aload_n 0 rfl rfl (rb_isR_ref _) dX4_count_45 ?_
    refine mm_getI (v := (ms.1 24 0)) rfl fl_X4_200 rfl dX4_count_46 ?_
    exact rb_iret rfl rfl (Nat.zero_le _) (Nat.zero_le _) dX4_count_49 ((K).2.2.1 c1)
  · skip
    refine rb_tableIn 50 (by omega) (by omega) (off := 49) (by rw [c1]; rfl) (by decide) dX4_count_1 ?_
    refine rb_aload_n 0 rfl rfl (rb_isR_ref _) dX4_count_50 ?_
    refine mm_getI (v := (ms.1 40 0)) rfl fl_X4_366 rfl dX4_count_51 ?_
    exact rb_iret rfl rfl (Nat.zero_le _) (Nat.zero_le _) dX4_count_54 ((K).2.2.2.1 c1)
  · skip
    refine rb_tableIn 55 (by omega) (by omega) (off := 54) (by rw [c1]; rfl) (by decide) dX4_count_1 ?_
    refine rb_aload_n 0 rfl rfl (rb_isR_ref _) dX4_count_55 ?_
    refine mm_getI (v := (ms.1 7 0)) rfl fl_X4_203 rfl dX4_count_56 ?_
    exact rb_iret rfl rfl (Nat.zero_le _) (Nat.zero_le _) dX4_count_59 ((K).2.2.2.2.1 c1)
  · skip
    refine rb_tableIn 60 (by omega) (by omega) (off := 59) (by rw [c1]; rfl) (by decide) dX4_count_1 ?_
    refine rb_aload_n 0 rfl rfl (rb_isR_ref _) dX4_count_60 ?_
    refine mm_getI (v := (ms.1 60 0)) rfl fl_X4_288 rfl dX4_count_61 ?_
    exact rb_iret rfl rfl (Nat.zero_le _) (Nat.zero_le _) dX4_count_64 ((K).2.2.2.2.2.1 c1)
  · skip
    refine rb_tableIn 65 (by omega) (by omega) (off := 64) (by rw [c1]; rfl) (by decide) dX4_count_1 ?_
    refine rb_aload_n 0 rfl rfl (rb_isR_ref _) dX4_count_65 ?_
    refine mm_getI (v := (ms.1 16 0)) rfl fl_X4_217 rfl dX4_count_66 ?_
    exact rb_iret rfl rfl (Nat.zero_le _) (Nat.zero_le _) dX4_count_69 ((K).2.2.2.2.2.2 c1)
theorem sgX4_digest_0 {κ : rb_K} {M0 : rb_H} {h : Nat} {ms : mm_S}  (K : rb_Bd κ mX4_digest (0, 0) (mm_H h ms M0) 6 [some (.ref h), some (.long (17 : Int64)), none, some (.int (0 : Int32)), none] []) : rb_Bd κ mX4_digest (0, 0) (mm_H h ms M0) 0 [some (.ref h), none, none, none, none] [] := by
  refine rb_ldc2 q2036 dX4_digest_0 ?_
  refine rb_lstore_n 1 rfl (ls' := [some (.ref h), some (.long (17 : Int64)), none, none, none]) (by decide) rfl rfl dX4_digest_3 ?_
  refine rb_iconst (v := (0 : Int32)) (by decide) dX4_digest_4 ?_
  refine rb_istore_n 3 rfl (ls' := [some (.ref h), some (.long (17 : Int64)), none, some (.int (0 : Int32)), none]) (by decide) rfl rfl dX4_digest_5 ?_
  exact K
theorem sgX4_digest_6 {κ : rb_K} {M0 : rb_H} {h : Nat} {ms : mm_S} {a1 : Int64} {a3 : Int32} (K : (((ms.1 24 0) ≤ a3 → rb_Bd κ mX4_digest (0, 0) (mm_H h ms M0) 97 [some (.ref h), some (.long a1), none, some (.int (0 : Int32)), none] []) ∧ (a3 < (ms.1 24 0) → rb_Bd κ mX4_digest (0, 0) (mm_H h ms M0) 17 [some (.ref h), some (.long a1), none, some (.int a3), some (.int (0 : Int32))] []))) : rb_Bd κ mX4_digest (0, 0) (mm_H h ms M0) 6 [some (.ref h), some (.long a1), none, some (.int a3), none] [] := by
  refine rb_iload_n 3 rfl rfl dX4_digest_6 ?_
  refine rb_aload_n 0 rfl rfl (rb_isR_ref _) dX4_digest_7 ?_
  refine mm_getI (v := (ms.1 24 0)) rfl fl_X4_200 rfl dX4_digest_8 ?_
  refine rb_icge 95 (by decide) dX4_digest_11 (fun c1 => ?_) (fun c1 => ?_)
  · skip
    refine rb_iconst (v := (0 : Int32)) (by decide) dX4_digest_95 ?_
    refine rb_istore_n 3 rfl (ls' := [some (.ref h), some (.long a1), none, some (.int (0 : Int32)), none]) (by decide) rfl rfl dX4_digest_96 ?_
    exact ((K).1 c1)
  · skip
    refine rb_iconst (v := (0 : Int32)) (by decide) dX4_digest_14 ?_
    refine rb_istore (ls' := [some (.ref h), some (.long a1), none, some (.int a3), some (.int (0 : Int32))]) (by decide) rfl rfl dX4_digest_15 ?_
    exact ((K).2 c1)
theorem sgX4_digest_17 {κ : rb_K} {M0 : rb_H} {h : Nat} {ms : mm_S} {a1 : Int64} {a3 : Int32} {a4 : Int32} (K : (vp_in a3 (mm_l 25) ∧ (((ms.1 25 (a3).toNatClampNeg) ≤ a4 → rb_Bd κ mX4_digest (0, 0) (mm_H h ms M0) 57 [some (.ref h), some (.long a1), none, some (.int a3), some (.int (0 : Int32))] []) ∧ (a4 < (ms.1 25 (a3).toNatClampNeg) → (vp_in (((24 : Int32) * a3) + a4) (mm_l 26) ∧ rb_Bd κ mX4_digest (0, 0) (mm_H h ms M0) 17 [some (.ref h), some (.long (((31 : Int64) * a1) + ((ms.1 26 ((((24 : Int32) * a3) + a4)).toNatClampNeg)).toInt64)), none, some (.int a3), some (.int (a4 + (1 : Int32)))] []))))) : rb_Bd κ mX4_digest (0, 0) (mm_H h ms M0) 17 [some (.ref h), some (.long a1), none, some (.int a3), some (.int a4)] [] := by
  refine rb_iload rfl dX4_digest_17 ?_
  refine rb_aload_n 0 rfl rfl (rb_isR_ref _) dX4_digest_19 ?_
  refine mm_getA (t := 2) fl_X4_72 rfl (by decide) dX4_digest_20 ?_
  refine rb_iload_n 3 rfl rfl dX4_digest_23 ?_
  refine mm_iald (k := 25) (v := (ms.1 25 (a3).toNatClampNeg)) rfl rfl (K).1 dX4_digest_24 ?_
  refine rb_icge 54 (by decide) dX4_digest_25 (fun c1 => ?_) (fun c1 => ?_)
  · skip
    refine rb_iconst (v := (0 : Int32)) (by decide) dX4_digest_54 ?_
    refine rb_istore (ls' := [some (.ref h), some (.long a1), none, some (.int a3), some (.int (0 : Int32))]) (by decide) rfl rfl dX4_digest_55 ?_
    exact (((K).2).1 c1)
  · skip
    refine rb_ldc2 q2037 dX4_digest_28 ?_
    refine rb_lload_n 1 rfl rfl dX4_digest_31 ?_
    refine rb_lmul (z := ((31 : Int64) * a1)) rfl dX4_digest_32 ?_
    refine rb_aload_n 0 rfl rfl (rb_isR_ref _) dX4_digest_33 ?_
    refine mm_getA (t := 2) fl_X4_75 rfl (by decide) dX4_digest_34 ?_
    refine rb_bipush (v := (24 : Int32)) (by decide) dX4_digest_37 ?_
    refine rb_iload_n 3 rfl rfl dX4_digest_39 ?_
    refine rb_imul (z := ((24 : Int32) * a3)) rfl dX4_digest_40 ?_
    refine rb_iload rfl dX4_digest_41 ?_
    refine rb_iadd (z := (((24 : Int32) * a3) + a4)) rfl dX4_digest_43 ?_
    refine mm_iald (k := 26) (v := (ms.1 26 ((((24 : Int32) * a3) + a4)).toNatClampNeg)) rfl rfl ((((K).2).2 c1)).1 dX4_digest_44 ?_
    refine rb_i2l (z := ((ms.1 26 ((((24 : Int32) * a3) + a4)).toNatClampNeg)).toInt64) rfl dX4_digest_45 ?_
    refine rb_ladd (z := (((31 : Int64) * a1) + ((ms.1 26 ((((24 : Int32) * a3) + a4)).toNatClampNeg)).toInt64)) rfl dX4_digest_46 ?_
    refine rb_lstore_n 1 rfl (ls' := [some (.ref h), some (.long (((31 : Int64) * a1) + ((ms.1 26 ((((24 : Int32) * a3) + a4)).toNatClampNeg)).toInt64)), none, some (.int a3), some (.int a4)]) (by decide) rfl rfl dX4_digest_47 ?_
    refine rb_iinc (ls' := [some (.ref h), some (.long (((31 : Int64) * a1) + ((ms.1 26 ((((24 : Int32) * a3) + a4)).toNatClampNeg)).toInt64)), none, some (.int a3), some (.int (a4 + (1 : Int32)))]) (v := (a4 + (1 : Int32))) rfl rfl (by decide) rfl rfl dX4_digest_48 ?_
    refine rb_goto 17 (by decide) dX4_digest_51 ?_
    exact ((((K).2).2 c1)).2
theorem sgX4_digest_57 {κ : rb_K} {M0 : rb_H} {h : Nat} {ms : mm_S} {a1 : Int64} {a3 : Int32} {a4 : Int32} (K : (vp_in a3 (mm_l 25) ∧ (((ms.1 25 (a3).toNatClampNeg) ≤ a4 → rb_Bd κ mX4_digest (0, 0) (mm_H h ms M0) 6 [some (.ref h), some (.long a1), none, some (.int (a3 + (1 : Int32))), some (.int a4)] []) ∧ (a4 < (ms.1 25 (a3).toNatClampNeg) → (∃ (x2 : Int32) (ms3 : mm_S) (d4 : Nat), mm_C κ.1 yX4_startedAt wX4_startedAt d4 h M0 ms [.ref h, .int a3, .int a4] (some (.int x2)) ms3 ∧ rb_dp κ d4 ∧ rb_Bd κ mX4_digest (0, 0) (mm_H h ms3 M0) 57 [some (.ref h), some (.long (((31 : Int64) * a1) + (x2).toInt64)), none, some (.int a3), some (.int (a4 + (1 : Int32)))] []))))) : rb_Bd κ mX4_digest (0, 0) (mm_H h ms M0) 57 [some (.ref h), some (.long a1), none, some (.int a3), some (.int a4)] [] := by
  refine rb_iload rfl dX4_digest_57 ?_
  refine rb_aload_n 0 rfl rfl (rb_isR_ref _) dX4_digest_59 ?_
  refine mm_getA (t := 2) fl_X4_72 rfl (by decide) dX4_digest_60 ?_
  refine rb_iload_n 3 rfl rfl dX4_digest_63 ?_
  refine mm_iald (k := 25) (v := (ms.1 25 (a3).toNatClampNeg)) rfl rfl (K).1 dX4_digest_64 ?_
  refine rb_icge 89 (by decide) dX4_digest_65 (fun c1 => ?_) (fun c1 => ?_)
  · skip
    refine rb_iinc (ls' := [some (.ref h), some (.long a1), none, some (.int (a3 + (1 : Int32))), some (.int a4)]) (v := (a3 + (1 : Int32))) rfl rfl (by decide) rfl rfl dX4_digest_89 ?_
    refine rb_goto 6 (by decide) dX4_digest_92 ?_
    exact (((K).2).1 c1)
  · skip
    refine rb_ldc2 q2037 dX4_digest_68 ?_
    refine rb_lload_n 1 rfl rfl dX4_digest_71 ?_
    refine rb_lmul (z := ((31 : Int64) * a1)) rfl dX4_digest_72 ?_
    refine rb_aload_n 0 rfl rfl (rb_isR_ref _) dX4_digest_73 ?_
    refine rb_iload_n 3 rfl rfl dX4_digest_74 ?_
    refine rb_iload rfl dX4_digest_75 ?_
    obtain ⟨x2, ms3, d4, h1, h2, Kx2⟩ := (((K).2).2 c1)
    refine mm_call st_X4_282 (rest := [.long ((31 : Int64) * a1)]) h1 rfl rfl mm_rc (Nat.le_of_ble_eq_true rfl) h2 dX4_digest_77 ?_
    show rb_Bd κ mX4_digest (0, 0) (mm_H h ms3 M0) 80 [some (.ref h), some (.long a1), none, some (.int a3), some (.int a4)] [.int x2, .long ((31 : Int64) * a1)]
    refine rb_i2l (z := (x2).toInt64) rfl dX4_digest_80 ?_
    refine rb_ladd (z := (((31 : Int64) * a1) + (x2).toInt64)) rfl dX4_digest_81 ?_
    refine rb_lstore_n 1 rfl (ls' := [some (.ref h), some (.long (((31 : Int64) * a1) + (x2).toInt64)), none, some (.int a3), some (.int a4)]) (by decide) rfl rfl dX4_digest_82 ?_
    refine rb_iinc (ls' := [some (.ref h), some (.long (((31 : Int64) * a1) + (x2).toInt64)), none, some (.int a3), some (.int (a4 + (1 : Int32)))]) (v := (a4 + (1 : Int32))) rfl rfl (by decide) rfl rfl dX4_digest_83 ?_
    refine rb_goto 57 (by decide) dX4_digest_86 ?_
    exact Kx2
theorem sgX4_digest_97 {κ : rb_K} {M0 : rb_H} {h : Nat} {ms : mm_S} {a1 : Int64} {a3 : Int32} (K : (((ms.1 40 0) ≤ a3 → rb_Bd κ mX4_digest (0, 0) (mm_H h ms M0) 178 [some (.ref h), some (.long a1), none, some (.int (0 : Int32)), none] []) ∧ (a3 < (ms.1 40 0) → (vp_in a3 (mm_l 41) ∧ rb_Bd κ mX4_digest (0, 0) (mm_H h ms M0) 122 [some (.ref h), some (.long (((31 : Int64) * a1) + ((ms.1 41 (a3).toNatClampNeg)).toInt64)), none, some (.int a3), some (.int (0 : Int32))] [])))) : rb_Bd κ mX4_digest (0, 0) (mm_H h ms M0) 97 [some (.ref h), some (.long a1), none, some (.int a3), none] [] := by
  refine rb_iload_n 3 rfl rfl dX4_digest_97 ?_
  refine rb_aload_n 0 rfl rfl (rb_isR_ref _) dX4_digest_98 ?_
  refine mm_getI (v := (ms.1 40 0)) rfl fl_X4_366 rfl dX4_digest_99 ?_
  refine rb_icge 176 (by decide) dX4_digest_102 (fun c1 => ?_) (fun c1 => ?_)
  · skip
    refine rb_iconst (v := (0 : Int32)) (by decide) dX4_digest_176 ?_
    refine rb_istore_n 3 rfl (ls' := [some (.ref h), some (.long a1), none, some (.int (0 : Int32)), none]) (by decide) rfl rfl dX4_digest_177 ?_
    exact ((K).1 c1)
  · skip
    refine rb_ldc2 q2037 dX4_digest_105 ?_
    refine rb_lload_n 1 rfl rfl dX4_digest_108 ?_
    refine rb_lmul (z := ((31 : Int64) * a1)) rfl dX4_digest_109 ?_
    refine rb_aload_n 0 rfl rfl (rb_isR_ref _) dX4_digest_110 ?_
    refine mm_getA (t := 2) fl_X4_114 rfl (by decide) dX4_digest_111 ?_
    refine rb_iload_n 3 rfl rfl dX4_digest_114 ?_
    refine mm_iald (k := 41) (v := (ms.1 41 (a3).toNatClampNeg)) rfl rfl (((K).2 c1)).1 dX4_digest_115 ?_
    refine rb_i2l (z := ((ms.1 41 (a3).toNatClampNeg)).toInt64) rfl dX4_digest_116 ?_
    refine rb_ladd (z := (((31 : Int64) * a1) + ((ms.1 41 (a3).toNatClampNeg)).toInt64)) rfl dX4_digest_117 ?_
    refine rb_lstore_n 1 rfl (ls' := [some (.ref h), some (.long (((31 : Int64) * a1) + ((ms.1 41 (a3).toNatClampNeg)).toInt64)), none, some (.int a3), none]) (by decide) rfl rfl dX4_digest_118 ?_
    refine rb_iconst (v := (0 : Int32)) (by decide) dX4_digest_119 ?_
    refine rb_istore (ls' := [some (.ref h), some (.long (((31 : Int64) * a1) + ((ms.1 41 (a3).toNatClampNeg)).toInt64)), none, some (.int a3), some (.int (0 : Int32))]) (by decide) rfl rfl dX4_digest_120 ?_
    exact (((K).2 c1)).2
theorem sgX4_digest_122 {κ : rb_K} {M0 : rb_H} {h : Nat} {ms : mm_S} {a1 : Int64} {a3 : Int32} {a4 : Int32} (K : (vp_in a3 (mm_l 41) ∧ (vp_in (ms.1 41 (a3).toNatClampNeg) (mm_l 25) ∧ (((ms.1 25 ((ms.1 41 (a3).toNatClampNeg)).toNatClampNeg) ≤ a4 → rb_Bd κ mX4_digest (0, 0) (mm_H h ms M0) 97 [some (.ref h), some (.long a1), none, some (.int (a3 + (1 : Int32))), some (.int a4)] []) ∧ (a4 < (ms.1 25 ((ms.1 41 (a3).toNatClampNeg)).toNatClampNeg) → (vp_in a3 (mm_l 41) ∧ (vp_in (((24 : Int32) * (ms.1 41 (a3).toNatClampNeg)) + a4) (mm_l 26) ∧ (∃ (x2 : Int64) (ms3 : mm_S) (d4 : Nat), mm_C κ.1 yX4_mixed wX4_mixed d4 h M0 ms [.ref h, .long a1, .int a3, .int a4, .int (ms.1 26 ((((24 : Int32) * (ms.1 41 (a3).toNatClampNeg)) + a4)).toNatClampNeg)] (some (.long x2)) ms3 ∧ rb_dp κ d4 ∧ rb_Bd κ mX4_digest (0, 0) (mm_H h ms3 M0) 122 [some (.ref h), some (.long x2), none, some (.int a3), some (.int (a4 + (1 : Int32)))] [])))))))) : rb_Bd κ mX4_digest (0, 0) (mm_H h ms M0) 122 [some (.ref h), some (.long a1), none, some (.int a3), some (.int a4)] [] := by
  refine rb_iload rfl dX4_digest_122 ?_
  refine rb_aload_n 0 rfl rfl (rb_isR_ref _) dX4_digest_124 ?_
  refine mm_getA (t := 2) fl_X4_72 rfl (by decide) dX4_digest_125 ?_
  refine rb_aload_n 0 rfl rfl (rb_isR_ref _) dX4_digest_128 ?_
  refine mm_getA (t := 2) fl_X4_114 rfl (by decide) dX4_digest_129 ?_
  refine rb_iload_n 3 rfl rfl dX4_digest_132 ?_
  refine mm_iald (k := 41) (v := (ms.1 41 (a3).toNatClampNeg)) rfl rfl (K).1 dX4_digest_133 ?_
  refine mm_iald (k := 25) (v := (ms.1 25 ((ms.1 41 (a3).toNatClampNeg)).toNatClampNeg)) rfl rfl ((K).2).1 dX4_digest_134 ?_
  refine rb_icge 170 (by decide) dX4_digest_135 (fun c1 => ?_) (fun c1 => ?_)
  · skip
    refine rb_iinc (ls' := [some (.ref h), some (.long a1), none, some (.int (a3 + (1 : Int32))), some (.int a4)]) (v := (a3 + (1 : Int32))) rfl rfl (by decide) rfl rfl dX4_digest_170 ?_
    refine rb_goto 97 (by decide) dX4_digest_173 ?_
    exact ((((K).2).2).1 c1)
  · skip
    refine rb_aload_n 0 rfl rfl (rb_isR_ref _) dX4_digest_138 ?_
    refine rb_lload_n 1 rfl rfl dX4_digest_139 ?_
    refine rb_iload_n 3 rfl rfl dX4_digest_140 ?_
    refine rb_iload rfl dX4_digest_141 ?_
    refine rb_aload_n 0 rfl rfl (rb_isR_ref _) dX4_digest_143 ?_
    refine mm_getA (t := 2) fl_X4_75 rfl (by decide) dX4_digest_144 ?_
    refine rb_bipush (v := (24 : Int32)) (by decide) dX4_digest_147 ?_
    refine rb_aload_n 0 rfl rfl (rb_isR_ref _) dX4_digest_149 ?_
    refine mm_getA (t := 2) fl_X4_114 rfl (by decide) dX4_digest_150 ?_
    refine rb_iload_n 3 rfl rfl dX4_digest_153 ?_
    refine mm_iald (k := 41) (v := (ms.1 41 (a3).toNatClampNeg)) rfl rfl (((((K).2).2).2 c1)).1 dX4_digest_154 ?_
    refine rb_imul (z := ((24 : Int32) * (ms.1 41 (a3).toNatClampNeg))) rfl dX4_digest_155 ?_
    refine rb_iload rfl dX4_digest_156 ?_
    refine rb_iadd (z := (((24 : Int32) * (ms.1 41 (a3).toNatClampNeg)) + a4)) rfl dX4_digest_158 ?_
    refine mm_iald (k := 26) (v := (ms.1 26 ((((24 : Int32) * (ms.1 41 (a3).toNatClampNeg)) + a4)).toNatClampNeg)) rfl rfl ((((((K).2).2).2 c1)).2).1 dX4_digest_159 ?_
    obtain ⟨x2, ms3, d4, h1, h2, Kx2⟩ := ((((((K).2).2).2 c1)).2).2
    refine mm_call st_X4_395 (rest := []) h1 rfl rfl mm_rc (Nat.le_of_ble_eq_true rfl) h2 dX4_digest_160 ?_
    show rb_Bd κ mX4_digest (0, 0) (mm_H h ms3 M0) 163 [some (.ref h), some (.long a1), none, some (.int a3), some (.int a4)] [.long x2]
    refine rb_lstore_n 1 rfl (ls' := [some (.ref h), some (.long x2), none, some (.int a3), some (.int a4)]) (by decide) rfl rfl dX4_digest_163 ?_
    refine rb_iinc (ls' := [some (.ref h), some (.long x2), none, some (.int a3), some (.int (a4 + (1 : Int32)))]) (v := (a4 + (1 : Int32))) rfl rfl (by decide) rfl rfl dX4_digest_164 ?_
    refine rb_goto 122 (by decide) dX4_digest_167 ?_
    exact Kx2
theorem sgX4_digest_178 {κ : rb_K} {M0 : rb_H} {h : Nat} {ms : mm_S} {a1 : Int64} {a3 : Int32} (K : (((8 : Int32) ≤ a3 → (κ.2.2.1 (.returned (some (.long a1))) (mm_H h ms M0))) ∧ (a3 < (8 : Int32) → (vp_in a3 (mm_l 46) ∧ rb_Bd κ mX4_digest (0, 0) (mm_H h ms M0) 178 [some (.ref h), some (.long (((31 : Int64) * a1) + (ms.2 46 (a3).toNatClampNeg))), none, some (.int (a3 + (1 : Int32))), none] [])))) : rb_Bd κ mX4_digest (0, 0) (mm_H h ms M0) 178 [some (.ref h), some (.long a1), none, some (.int a3), none] [] := by
  refine rb_iload_n 3 rfl rfl dX4_digest_178 ?_
  refine rb_bipush (v := (8 : Int32)) (by decide) dX4_digest_179 ?_
  refine rb_icge 203 (by decide) dX4_digest_181 (fun c1 => ?_) (fun c1 => ?_)
  · skip
    refine rb_lload_n 1 rfl rfl dX4_digest_203 ?_
    exact rb_lret rfl (Nat.zero_le _) (Nat.zero_le _) dX4_digest_204 ((K).1 c1)
  · skip
    refine rb_ldc2 q2037 dX4_digest_184 ?_
    refine rb_lload_n 1 rfl rfl dX4_digest_187 ?_
    refine rb_lmul (z := ((31 : Int64) * a1)) rfl dX4_digest_188 ?_
    refine rb_aload_n 0 rfl rfl (rb_isR_ref _) dX4_digest_189 ?_
    refine mm_getA (t := 3) fl_X4_131 rfl (by decide) dX4_digest_190 ?_
    refine rb_iload_n 3 rfl rfl dX4_digest_193 ?_
    refine mm_lald (k := 46) (v := (ms.2 46 (a3).toNatClampNeg)) rfl rfl (((K).2 c1)).1 dX4_digest_194 ?_
    refine rb_ladd (z := (((31 : Int64) * a1) + (ms.2 46 (a3).toNatClampNeg))) rfl dX4_digest_195 ?_
    refine rb_lstore_n 1 rfl (ls' := [some (.ref h), some (.long (((31 : Int64) * a1) + (ms.2 46 (a3).toNatClampNeg))), none, some (.int a3), none]) (by decide) rfl rfl dX4_digest_196 ?_
    refine rb_iinc (ls' := [some (.ref h), some (.long (((31 : Int64) * a1) + (ms.2 46 (a3).toNatClampNeg))), none, some (.int (a3 + (1 : Int32))), none]) (v := (a3 + (1 : Int32))) rfl rfl (by decide) rfl rfl dX4_digest_197 ?_
    refine rb_goto 178 (by decide) dX4_digest_200 ?_
    exact (((K).2 c1)).2
theorem sgX4_mixed_0 {κ : rb_K} {M0 : rb_H} {h : Nat} {ms : mm_S} {a1 : Int64} {a3 : Int32} {a4 : Int32} {a5 : Int32} (K : rb_Bd κ mX4_mixed (0, 0) (mm_H h ms M0) 15 [some (.ref h), some (.long a1), none, some (.int a3), some (.int a4), some (.int a5), some (.long a1), none, some (.int (((24 : Int32) * a3) + a4)), some (.int (0 : Int32)), none, none] []) : rb_Bd κ mX4_mixed (0, 0) (mm_H h ms M0) 0 [some (.ref h), some (.long a1), none, some (.int a3), some (.int a4), some (.int a5), none, none, none, none, none, none] [] := by
  refine rb_lload_n 1 rfl rfl dX4_mixed_0 ?_
  refine rb_lstore (ls' := [some (.ref h), some (.long a1), none, some (.int a3), some (.int a4), some (.int a5), some (.long a1), none, none, none, none, none]) (by decide) rfl rfl dX4_mixed_1 ?_
  refine rb_bipush (v := (24 : Int32)) (by decide) dX4_mixed_3 ?_
  refine rb_iload_n 3 rfl rfl dX4_mixed_5 ?_
  refine rb_imul (z := ((24 : Int32) * a3)) rfl dX4_mixed_6 ?_
  refine rb_iload rfl dX4_mixed_7 ?_
  refine rb_iadd (z := (((24 : Int32) * a3) + a4)) rfl dX4_mixed_9 ?_
  refine rb_istore (ls' := [some (.ref h), some (.long a1), none, some (.int a3), some (.int a4), some (.int a5), some (.long a1), none, some (.int (((24 : Int32) * a3) + a4)), none, none, none]) (by decide) rfl rfl dX4_mixed_10 ?_
  refine rb_iconst (v := (0 : Int32)) (by decide) dX4_mixed_12 ?_
  refine rb_istore (ls' := [some (.ref h), some (.long a1), none, some (.int a3), some (.int a4), some (.int a5), some (.long a1), none, some (.int (((24 : Int32) * a3) + a4)), some (.int (0 : Int32)), none, none]) (by decide) rfl rfl dX4_mixed_13 ?_
  exact K
theorem sgX4_mixed_15 {κ : rb_K} {M0 : rb_H} {h : Nat} {ms : mm_S} {a1 : Int64} {a3 : Int32} {a4 : Int32} {a5 : Int32} {a6 : Int64} {a8 : Int32} {a9 : Int32} (K : (vp_in a5 (mm_l 1) ∧ (((ms.1 1 (a5).toNatClampNeg) ≤ a9 → rb_Bd κ mX4_mixed (0, 0) (mm_H h ms M0) 57 [some (.ref h), some (.long a1), none, some (.int a3), some (.int a4), some (.int a5), some (.long a6), none, some (.int a8), some (.int (0 : Int32)), none, none] []) ∧ (a9 < (ms.1 1 (a5).toNatClampNeg) → (vp_in (((4 : Int32) * a8) + a9) (mm_l 42) ∧ rb_Bd κ mX4_mixed (0, 0) (mm_H h ms M0) 15 [some (.ref h), some (.long a1), none, some (.int a3), some (.int a4), some (.int a5), some (.long (((31 : Int64) * a6) + (ms.2 42 ((((4 : Int32) * a8) + a9)).toNatClampNeg))), none, some (.int a8), some (.int (a9 + (1 : Int32))), none, none] []))))) : rb_Bd κ mX4_mixed (0, 0) (mm_H h ms M0) 15 [some (.ref h), some (.long a1), none, some (.int a3), some (.int a4), some (.int a5), some (.long a6), none, some (.int a8), some (.int a9), none, none] [] := by
  refine rb_iload rfl dX4_mixed_15 ?_
  refine rb_aload_n 0 rfl rfl (rb_isR_ref _) dX4_mixed_17 ?_
  refine mm_getA (t := 2) fl_X4_7 rfl (by decide) dX4_mixed_18 ?_
  refine rb_iload rfl dX4_mixed_21 ?_
  refine mm_iald (k := 1) (v := (ms.1 1 (a5).toNatClampNeg)) rfl rfl (K).1 dX4_mixed_23 ?_
  refine rb_icge 54 (by decide) dX4_mixed_24 (fun c1 => ?_) (fun c1 => ?_)
  · skip
    refine rb_iconst (v := (0 : Int32)) (by decide) dX4_mixed_54 ?_
    refine rb_istore (ls' := [some (.ref h), some (.long a1), none, some (.int a3), some (.int a4), some (.int a5), some (.long a6), none, some (.int a8), some (.int (0 : Int32)), none, none]) (by decide) rfl rfl dX4_mixed_55 ?_
    exact (((K).2).1 c1)
  · skip
    refine rb_ldc2 q2037 dX4_mixed_27 ?_
    refine rb_lload rfl dX4_mixed_30 ?_
    refine rb_lmul (z := ((31 : Int64) * a6)) rfl dX4_mixed_32 ?_
    refine rb_aload_n 0 rfl rfl (rb_isR_ref _) dX4_mixed_33 ?_
    refine mm_getA (t := 3) fl_X4_117 rfl (by decide) dX4_mixed_34 ?_
    refine rb_iconst (v := (4 : Int32)) (by decide) dX4_mixed_37 ?_
    refine rb_iload rfl dX4_mixed_38 ?_
    refine rb_imul (z := ((4 : Int32) * a8)) rfl dX4_mixed_40 ?_
    refine rb_iload rfl dX4_mixed_41 ?_
    refine rb_iadd (z := (((4 : Int32) * a8) + a9)) rfl dX4_mixed_43 ?_
    refine mm_lald (k := 42) (v := (ms.2 42 ((((4 : Int32) * a8) + a9)).toNatClampNeg)) rfl rfl ((((K).2).2 c1)).1 dX4_mixed_44 ?_
    refine rb_ladd (z := (((31 : Int64) * a6) + (ms.2 42 ((((4 : Int32) * a8) + a9)).toNatClampNeg))) rfl dX4_mixed_45 ?_
    refine rb_lstore (ls' := [some (.ref h), some (.long a1), none, some (.int a3), some (.int a4), some (.int a5), some (.long (((31 : Int64) * a6) + (ms.2 42 ((((4 : Int32) * a8) + a9)).toNatClampNeg))), none, some (.int a8), some (.int a9), none, none]) (by decide) rfl rfl dX4_mixed_46 ?_
    refine rb_iinc (ls' := [some (.ref h), some (.long a1), none, some (.int a3), some (.int a4), some (.int a5), some (.long (((31 : Int64) * a6) + (ms.2 42 ((((4 : Int32) * a8) + a9)).toNatClampNeg))), none, some (.int a8), some (.int (a9 + (1 : Int32))), none, none]) (v := (a9 + (1 : Int32))) rfl rfl (by decide) rfl rfl dX4_mixed_48 ?_
    refine rb_goto 15 (by decide) dX4_mixed_51 ?_
    exact ((((K).2).2 c1)).2
theorem sgX4_mixed_57 {κ : rb_K} {M0 : rb_H} {h : Nat} {ms : mm_S} {a1 : Int64} {a3 : Int32} {a4 : Int32} {a5 : Int32} {a6 : Int64} {a8 : Int32} {a9 : Int32} (K : (vp_in a5 (mm_l 2) ∧ (((ms.1 2 (a5).toNatClampNeg) ≤ a9 → rb_Bd κ mX4_mixed (0, 0) (mm_H h ms M0) 161 [some (.ref h), some (.long a1), none, some (.int a3), some (.int a4), some (.int a5), some (.long a6), none, some (.int a8), some (.int (0 : Int32)), none, none] []) ∧ (a9 < (ms.1 2 (a5).toNatClampNeg) → (vp_in (((2 : Int32) * a8) + a9) (mm_l 43) ∧ ((0 ≤ (ms.1 43 ((((2 : Int32) * a8) + a9)).toNatClampNeg) → (vp_in (((2 : Int32) * a8) + a9) (mm_l 43) ∧ rb_Bd κ mX4_mixed (0, 0) (mm_H h ms M0) 112 [some (.ref h), some (.long a1), none, some (.int a3), some (.int a4), some (.int a5), some (.long (((31 : Int64) * a6) + ((ms.1 43 ((((2 : Int32) * a8) + a9)).toNatClampNeg)).toInt64)), none, some (.int a8), some (.int a9), some (.int (((2 : Int32) * a8) + a9)), some (.int (0 : Int32))] [])) ∧ ((ms.1 43 ((((2 : Int32) * a8) + a9)).toNatClampNeg) < 0 → rb_Bd κ mX4_mixed (0, 0) (mm_H h ms M0) 112 [some (.ref h), some (.long a1), none, some (.int a3), some (.int a4), some (.int a5), some (.long (((31 : Int64) * a6) + ((-1 : Int32)).toInt64)), none, some (.int a8), some (.int a9), some (.int (((2 : Int32) * a8) + a9)), some (.int (0 : Int32))] []))))))) : rb_Bd κ mX4_mixed (0, 0) (mm_H h ms M0) 57 [some (.ref h), some (.long a1), none, some (.int a3), some (.int a4), some (.int a5), some (.long a6), none, some (.int a8), some (.int a9), none, none] [] := by
  refine rb_iload rfl dX4_mixed_57 ?_
  refine rb_aload_n 0 rfl rfl (rb_isR_ref _) dX4_mixed_59 ?_
  refine mm_getA (t := 2) fl_X4_13 rfl (by decide) dX4_mixed_60 ?_
  refine rb_iload rfl dX4_mixed_63 ?_
  refine mm_iald (k := 2) (v := (ms.1 2 (a5).toNatClampNeg)) rfl rfl (K).1 dX4_mixed_65 ?_
  refine rb_icge 158 (by decide) dX4_mixed_66 (fun c1 => ?_) (fun c1 => ?_)
  · skip
    refine rb_iconst (v := (0 : Int32)) (by decide) dX4_mixed_158 ?_
    refine rb_istore (ls' := [some (.ref h), some (.long a1), none, some (.int a3), some (.int a4), some (.int a5), some (.long a6), none, some (.int a8), some (.int (0 : Int32)), none, none]) (by decide) rfl rfl dX4_mixed_159 ?_
    exact (((K).2).1 c1)
  · skip
    refine rb_iconst (v := (2 : Int32)) (by decide) dX4_mixed_69 ?_
    refine rb_iload rfl dX4_mixed_70 ?_
    refine rb_imul (z := ((2 : Int32) * a8)) rfl dX4_mixed_72 ?_
    refine rb_iload rfl dX4_mixed_73 ?_
    refine rb_iadd (z := (((2 : Int32) * a8) + a9)) rfl dX4_mixed_75 ?_
    refine rb_istore (ls' := [some (.ref h), some (.long a1), none, some (.int a3), some (.int a4), some (.int a5), some (.long a6), none, some (.int a8), some (.int a9), some (.int (((2 : Int32) * a8) + a9)), none]) (by decide) rfl rfl dX4_mixed_76 ?_
    refine rb_ldc2 q2037 dX4_mixed_78 ?_
    refine rb_lload rfl dX4_mixed_81 ?_
    refine rb_lmul (z := ((31 : Int64) * a6)) rfl dX4_mixed_83 ?_
    refine rb_aload_n 0 rfl rfl (rb_isR_ref _) dX4_mixed_84 ?_
    refine mm_getA (t := 2) fl_X4_121 rfl (by decide) dX4_mixed_85 ?_
    refine rb_iload rfl dX4_mixed_88 ?_
    refine mm_iald (k := 43) (v := (ms.1 43 ((((2 : Int32) * a8) + a9)).toNatClampNeg)) rfl rfl ((((K).2).2 c1)).1 dX4_mixed_90 ?_
    refine rb_ifge 98 (by decide) dX4_mixed_91 (fun c2 => ?_) (fun c2 => ?_)
    · skip
      refine rb_aload_n 0 rfl rfl (rb_isR_ref _) dX4_mixed_98 ?_
      refine mm_getA (t := 2) fl_X4_121 rfl (by decide) dX4_mixed_99 ?_
      refine rb_iload rfl dX4_mixed_102 ?_
      refine mm_iald (k := 43) (v := (ms.1 43 ((((2 : Int32) * a8) + a9)).toNatClampNeg)) rfl rfl (((((((K).2).2 c1)).2).1 c2)).1 dX4_mixed_104 ?_
      refine rb_i2l (z := ((ms.1 43 ((((2 : Int32) * a8) + a9)).toNatClampNeg)).toInt64) rfl dX4_mixed_105 ?_
      refine rb_ladd (z := (((31 : Int64) * a6) + ((ms.1 43 ((((2 : Int32) * a8) + a9)).toNatClampNeg)).toInt64)) rfl dX4_mixed_106 ?_
      refine rb_lstore (ls' := [some (.ref h), some (.long a1), none, some (.int a3), some (.int a4), some (.int a5), some (.long (((31 : Int64) * a6) + ((ms.1 43 ((((2 : Int32) * a8) + a9)).toNatClampNeg)).toInt64)), none, some (.int a8), some (.int a9), some (.int (((2 : Int32) * a8) + a9)), none]) (by decide) rfl rfl dX4_mixed_107 ?_
      refine rb_iconst (v := (0 : Int32)) (by decide) dX4_mixed_109 ?_
      refine rb_istore (ls' := [some (.ref h), some (.long a1), none, some (.int a3), some (.int a4), some (.int a5), some (.long (((31 : Int64) * a6) + ((ms.1 43 ((((2 : Int32) * a8) + a9)).toNatClampNeg)).toInt64)), none, some (.int a8), some (.int a9), some (.int (((2 : Int32) * a8) + a9)), some (.int (0 : Int32))]) (by decide) rfl rfl dX4_mixed_110 ?_
      exact (((((((K).2).2 c1)).2).1 c2)).2
    · skip
      refine rb_iconst (v := (-1 : Int32)) (by decide) dX4_mixed_94 ?_
      refine rb_goto 105 (by decide) dX4_mixed_95 ?_
      refine rb_i2l (z := ((-1 : Int32)).toInt64) rfl dX4_mixed_105 ?_
      refine rb_ladd (z := (((31 : Int64) * a6) + ((-1 : Int32)).toInt64)) rfl dX4_mixed_106 ?_
      refine rb_lstore (ls' := [some (.ref h), some (.long a1), none, some (.int a3), some (.int a4), some (.int a5), some (.long (((31 : Int64) * a6) + ((-1 : Int32)).toInt64)), none, some (.int a8), some (.int a9), some (.int (((2 : Int32) * a8) + a9)), none]) (by decide) rfl rfl dX4_mixed_107 ?_
      refine rb_iconst (v := (0 : Int32)) (by decide) dX4_mixed_109 ?_
      refine rb_istore (ls' := [some (.ref h), some (.long a1), none, some (.int a3), some (.int a4), some (.int a5), some (.long (((31 : Int64) * a6) + ((-1 : Int32)).toInt64)), none, some (.int a8), some (.int a9), some (.int (((2 : Int32) * a8) + a9)), some (.int (0 : Int32))]) (by decide) rfl rfl dX4_mixed_110 ?_
      exact ((((((K).2).2 c1)).2).2 c2)
theorem sgX4_mixed_112 {κ : rb_K} {M0 : rb_H} {h : Nat} {ms : mm_S} {a1 : Int64} {a3 : Int32} {a4 : Int32} {a5 : Int32} {a6 : Int64} {a8 : Int32} {a9 : Int32} {a10 : Int32} {a11 : Int32} (K : (vp_in a10 (mm_l 43) ∧ (((ms.1 43 (a10).toNatClampNeg) ≤ a11 → rb_Bd κ mX4_mixed (0, 0) (mm_H h ms M0) 57 [some (.ref h), some (.long a1), none, some (.int a3), some (.int a4), some (.int a5), some (.long a6), none, some (.int a8), some (.int (a9 + (1 : Int32))), some (.int a10), some (.int a11)] []) ∧ (a11 < (ms.1 43 (a10).toNatClampNeg) → (vp_in (((12 : Int32) * a10) + a11) (mm_l 44) ∧ rb_Bd κ mX4_mixed (0, 0) (mm_H h ms M0) 112 [some (.ref h), some (.long a1), none, some (.int a3), some (.int a4), some (.int a5), some (.long (((31 : Int64) * a6) + (ms.2 44 ((((12 : Int32) * a10) + a11)).toNatClampNeg))), none, some (.int a8), some (.int a9), some (.int a10), some (.int (a11 + (1 : Int32)))] []))))) : rb_Bd κ mX4_mixed (0, 0) (mm_H h ms M0) 112 [some (.ref h), some (.long a1), none, some (.int a3), some (.int a4), some (.int a5), some (.long a6), none, some (.int a8), some (.int a9), some (.int a10), some (.int a11)] [] := by
  refine rb_iload rfl dX4_mixed_112 ?_
  refine rb_aload_n 0 rfl rfl (rb_isR_ref _) dX4_mixed_114 ?_
  refine mm_getA (t := 2) fl_X4_121 rfl (by decide) dX4_mixed_115 ?_
  refine rb_iload rfl dX4_mixed_118 ?_
  refine mm_iald (k := 43) (v := (ms.1 43 (a10).toNatClampNeg)) rfl rfl (K).1 dX4_mixed_120 ?_
  refine rb_icge 152 (by decide) dX4_mixed_121 (fun c1 => ?_) (fun c1 => ?_)
  · skip
    refine rb_iinc (ls' := [some (.ref h), some (.long a1), none, some (.int a3), some (.int a4), some (.int a5), some (.long a6), none, some (.int a8), some (.int (a9 + (1 : Int32))), some (.int a10), some (.int a11)]) (v := (a9 + (1 : Int32))) rfl rfl (by decide) rfl rfl dX4_mixed_152 ?_
    refine rb_goto 57 (by decide) dX4_mixed_155 ?_
    exact (((K).2).1 c1)
  · skip
    refine rb_ldc2 q2037 dX4_mixed_124 ?_
    refine rb_lload rfl dX4_mixed_127 ?_
    refine rb_lmul (z := ((31 : Int64) * a6)) rfl dX4_mixed_129 ?_
    refine rb_aload_n 0 rfl rfl (rb_isR_ref _) dX4_mixed_130 ?_
    refine mm_getA (t := 3) fl_X4_125 rfl (by decide) dX4_mixed_131 ?_
    refine rb_bipush (v := (12 : Int32)) (by decide) dX4_mixed_134 ?_
    refine rb_iload rfl dX4_mixed_136 ?_
    refine rb_imul (z := ((12 : Int32) * a10)) rfl dX4_mixed_138 ?_
    refine rb_iload rfl dX4_mixed_139 ?_
    refine rb_iadd (z := (((12 : Int32) * a10) + a11)) rfl dX4_mixed_141 ?_
    refine mm_lald (k := 44) (v := (ms.2 44 ((((12 : Int32) * a10) + a11)).toNatClampNeg)) rfl rfl ((((K).2).2 c1)).1 dX4_mixed_142 ?_
    refine rb_ladd (z := (((31 : Int64) * a6) + (ms.2 44 ((((12 : Int32) * a10) + a11)).toNatClampNeg))) rfl dX4_mixed_143 ?_
    refine rb_lstore (ls' := [some (.ref h), some (.long a1), none, some (.int a3), some (.int a4), some (.int a5), some (.long (((31 : Int64) * a6) + (ms.2 44 ((((12 : Int32) * a10) + a11)).toNatClampNeg))), none, some (.int a8), some (.int a9), some (.int a10), some (.int a11)]) (by decide) rfl rfl dX4_mixed_144 ?_
    refine rb_iinc (ls' := [some (.ref h), some (.long a1), none, some (.int a3), some (.int a4), some (.int a5), some (.long (((31 : Int64) * a6) + (ms.2 44 ((((12 : Int32) * a10) + a11)).toNatClampNeg))), none, some (.int a8), some (.int a9), some (.int a10), some (.int (a11 + (1 : Int32)))]) (v := (a11 + (1 : Int32))) rfl rfl (by decide) rfl rfl dX4_mixed_146 ?_
    refine rb_goto 112 (by decide) dX4_mixed_149 ?_
    exact ((((K).2).2 c1)).2
theorem sgX4_mixed_161 {κ : rb_K} {M0 : rb_H} {h : Nat} {ms : mm_S} {a1 : Int64} {a3 : Int32} {a4 : Int32} {a5 : Int32} {a6 : Int64} {a8 : Int32} {a9 : Int32} (K : (vp_in a5 (mm_l 3) ∧ (((ms.1 3 (a5).toNatClampNeg) ≤ a9 → (κ.2.2.1 (.returned (some (.long a6))) (mm_H h ms M0))) ∧ (a9 < (ms.1 3 (a5).toNatClampNeg) → (vp_in (((2 : Int32) * a8) + a9) (mm_l 45) ∧ rb_Bd κ mX4_mixed (0, 0) (mm_H h ms M0) 161 [some (.ref h), some (.long a1), none, some (.int a3), some (.int a4), some (.int a5), some (.long (((31 : Int64) * a6) + ((ms.1 45 ((((2 : Int32) * a8) + a9)).toNatClampNeg)).toInt64)), none, some (.int a8), some (.int (a9 + (1 : Int32))), none, none] []))))) : rb_Bd κ mX4_mixed (0, 0) (mm_H h ms M0) 161 [some (.ref h), some (.long a1), none, some (.int a3), some (.int a4), some (.int a5), some (.long a6), none, some (.int a8), some (.int a9), none, none] [] := by
  refine rb_iload rfl dX4_mixed_161 ?_
  refine rb_aload_n 0 rfl rfl (rb_isR_ref _) dX4_mixed_163 ?_
  refine mm_getA (t := 2) fl_X4_16 rfl (by decide) dX4_mixed_164 ?_
  refine rb_iload rfl dX4_mixed_167 ?_
  refine mm_iald (k := 3) (v := (ms.1 3 (a5).toNatClampNeg)) rfl rfl (K).1 dX4_mixed_169 ?_
  refine rb_icge 201 (by decide) dX4_mixed_170 (fun c1 => ?_) (fun c1 => ?_)
  · skip
    refine rb_lload rfl dX4_mixed_201 ?_
    exact rb_lret rfl (Nat.zero_le _) (Nat.zero_le _) dX4_mixed_203 (((K).2).1 c1)
  · skip
    refine rb_ldc2 q2037 dX4_mixed_173 ?_
    refine rb_lload rfl dX4_mixed_176 ?_
    refine rb_lmul (z := ((31 : Int64) * a6)) rfl dX4_mixed_178 ?_
    refine rb_aload_n 0 rfl rfl (rb_isR_ref _) dX4_mixed_179 ?_
    refine mm_getA (t := 2) fl_X4_128 rfl (by decide) dX4_mixed_180 ?_
    refine rb_iconst (v := (2 : Int32)) (by decide) dX4_mixed_183 ?_
    refine rb_iload rfl dX4_mixed_184 ?_
    refine rb_imul (z := ((2 : Int32) * a8)) rfl dX4_mixed_186 ?_
    refine rb_iload rfl dX4_mixed_187 ?_
    refine rb_iadd (z := (((2 : Int32) * a8) + a9)) rfl dX4_mixed_189 ?_
    refine mm_iald (k := 45) (v := (ms.1 45 ((((2 : Int32) * a8) + a9)).toNatClampNeg)) rfl rfl ((((K).2).2 c1)).1 dX4_mixed_190 ?_
    refine rb_i2l (z := ((ms.1 45 ((((2 : Int32) * a8) + a9)).toNatClampNeg)).toInt64) rfl dX4_mixed_191 ?_
    refine rb_ladd (z := (((31 : Int64) * a6) + ((ms.1 45 ((((2 : Int32) * a8) + a9)).toNatClampNeg)).toInt64)) rfl dX4_mixed_192 ?_
    refine rb_lstore (ls' := [some (.ref h), some (.long a1), none, some (.int a3), some (.int a4), some (.int a5), some (.long (((31 : Int64) * a6) + ((ms.1 45 ((((2 : Int32) * a8) + a9)).toNatClampNeg)).toInt64)), none, some (.int a8), some (.int a9), none, none]) (by decide) rfl rfl dX4_mixed_193 ?_
    refine rb_iinc (ls' := [some (.ref h), some (.long a1), none, some (.int a3), some (.int a4), some (.int a5), some (.long (((31 : Int64) * a6) + ((ms.1 45 ((((2 : Int32) * a8) + a9)).toNatClampNeg)).toInt64)), none, some (.int a8), some (.int (a9 + (1 : Int32))), none, none]) (v := (a9 + (1 : Int32))) rfl rfl (by decide) rfl rfl dX4_mixed_195 ?_
    refine rb_goto 161 (by decide) dX4_mixed_198 ?_
    exact ((((K).2).2 c1)).2
