set_option maxRecDepth 100000
theorem sgX4_part_0 {κ : rb_K} {M0 : rb_H} {h : Nat} {ms : mm_S} {a1 : Int32} {a2 : Int32} {a3 : Int32} (K : (∃ (x1 : Int32) (ms2 : mm_S) (d3 : Nat), mm_C κ.1 yX4_in wX4_in d3 h M0 ms [.int a1, .int (0 : Int32), .int (4 : Int32)] (some (.int x1)) ms2 ∧ rb_dp κ d3 ∧ ((x1 = 0 → (κ.2.2.1 (.returned (some (.int (-1 : Int32)))) (mm_H h ms2 M0))) ∧ (¬ x1 = 0 → (∃ (x5 : Int32) (ms6 : mm_S) (d7 : Nat), mm_C κ.1 yX4_in wX4_in d7 h M0 ms2 [.int a2, .int (0 : Int32), .int (2 : Int32)] (some (.int x5)) ms6 ∧ rb_dp κ d7 ∧ ((x5 = 0 → (κ.2.2.1 (.returned (some (.int (-1 : Int32)))) (mm_H h ms6 M0))) ∧ (¬ x5 = 0 → (∃ (x9 : Int32) (ms10 : mm_S) (d11 : Nat), mm_C κ.1 yX4_in wX4_in d11 h M0 ms6 [.int a3, .int (0 : Int32), .int (2 : Int32)] (some (.int x9)) ms10 ∧ rb_dp κ d11 ∧ ((¬ x9 = 0 → ((¬ (ms10.1 0 0) = (24 : Int32) → (vp_in (ms10.1 0 0) (mm_l 1) ∧ (vp_in (ms10.1 0 0) (mm_l 2) ∧ (vp_in (ms10.1 0 0) (mm_l 3) ∧ (κ.2.2.1 (.returned (some (.int (((ms10.1 0 0) + (1 : Int32)) - (1 : Int32))))) (mm_H h (mm_sI (mm_sI (mm_sI (mm_sI ms10 1 ((ms10.1 0 0)).toNatClampNeg a1) 2 ((ms10.1 0 0)).toNatClampNeg a2) 3 ((ms10.1 0 0)).toNatClampNeg a3) 0 0 ((ms10.1 0 0) + (1 : Int32))) M0)))))) ∧ ((ms10.1 0 0) = (24 : Int32) → (κ.2.2.1 (.returned (some (.int (-2 : Int32)))) (mm_H h ms10 M0))))) ∧ (x9 = 0 → (κ.2.2.1 (.returned (some (.int (-1 : Int32)))) (mm_H h ms10 M0)))))))))))) : rb_Bd κ mX4_part (0, 0) (mm_H h ms M0) 0 [some (.ref h), some (.int a1), some (.int a2), some (.int a3)] [] := by
  refine rb_iload_n 1 rfl rfl dX4_part_0 ?_
  refine rb_iconst (v := (0 : Int32)) (by decide) dX4_part_1 ?_
  refine rb_iconst (v := (4 : Int32)) (by decide) dX4_part_2 ?_
  obtain ⟨x1, ms2, d3, h1, h2, Kx1⟩ := K
  refine mm_call st_X4_188 (rest := []) h1 rfl rfl mm_rn (Nat.le_of_ble_eq_true rfl) h2 dX4_part_3 ?_
  show rb_Bd κ mX4_part (0, 0) (mm_H h ms2 M0) 6 [some (.ref h), some (.int a1), some (.int a2), some (.int a3)] [.int x1]
  refine rb_ifeq 27 (by decide) dX4_part_6 (fun c4 => ?_) (fun c4 => ?_)
  · skip
    refine rb_iconst (v := (-1 : Int32)) (by decide) dX4_part_27 ?_
    exact rb_iret rfl rfl (Nat.zero_le _) (Nat.zero_le _) dX4_part_28 ((Kx1).1 c4)
  · skip
    refine rb_iload_n 2 rfl rfl dX4_part_9 ?_
    refine rb_iconst (v := (0 : Int32)) (by decide) dX4_part_10 ?_
    refine rb_iconst (v := (2 : Int32)) (by decide) dX4_part_11 ?_
    obtain ⟨x5, ms6, d7, h1, h2, Kx5⟩ := ((Kx1).2 c4)
    refine mm_call st_X4_188 (rest := []) h1 rfl rfl mm_rn (Nat.le_of_ble_eq_true rfl) h2 dX4_part_12 ?_
    show rb_Bd κ mX4_part (0, 0) (mm_H h ms6 M0) 15 [some (.ref h), some (.int a1), some (.int a2), some (.int a3)] [.int x5]
    refine rb_ifeq 27 (by decide) dX4_part_15 (fun c8 => ?_) (fun c8 => ?_)
    · skip
      refine rb_iconst (v := (-1 : Int32)) (by decide) dX4_part_27 ?_
      exact rb_iret rfl rfl (Nat.zero_le _) (Nat.zero_le _) dX4_part_28 ((Kx5).1 c8)
    · skip
      refine rb_iload_n 3 rfl rfl dX4_part_18 ?_
      refine rb_iconst (v := (0 : Int32)) (by decide) dX4_part_19 ?_
      refine rb_iconst (v := (2 : Int32)) (by decide) dX4_part_20 ?_
      obtain ⟨x9, ms10, d11, h1, h2, Kx9⟩ := ((Kx5).2 c8)
      refine mm_call st_X4_188 (rest := []) h1 rfl rfl mm_rn (Nat.le_of_ble_eq_true rfl) h2 dX4_part_21 ?_
      show rb_Bd κ mX4_part (0, 0) (mm_H h ms10 M0) 24 [some (.ref h), some (.int a1), some (.int a2), some (.int a3)] [.int x9]
      refine rb_ifne 29 (by decide) dX4_part_24 (fun c12 => ?_) (fun c12 => ?_)
      · skip
        refine rb_aload_n 0 rfl rfl (rb_isR_ref _) dX4_part_29 ?_
        refine mm_getI (v := (ms10.1 0 0)) rfl fl_X4_185 rfl dX4_part_30 ?_
        refine rb_bipush (v := (24 : Int32)) (by decide) dX4_part_33 ?_
        refine rb_icne 41 (by decide) dX4_part_35 (fun c13 => ?_) (fun c13 => ?_)
        · skip
          refine rb_aload_n 0 rfl rfl (rb_isR_ref _) dX4_part_41 ?_
          refine mm_getA (t := 2) fl_X4_7 rfl (by decide) dX4_part_42 ?_
          refine rb_aload_n 0 rfl rfl (rb_isR_ref _) dX4_part_45 ?_
          refine mm_getI (v := (ms10.1 0 0)) rfl fl_X4_185 rfl dX4_part_46 ?_
          refine rb_iload_n 1 rfl rfl dX4_part_49 ?_
          refine mm_iast (k := 1) rfl (((((Kx9).1 c12)).1 c13)).1 dX4_part_50 ?_
          refine rb_aload_n 0 rfl rfl (rb_isR_ref _) dX4_part_51 ?_
          refine mm_getA (t := 2) fl_X4_13 rfl (by decide) dX4_part_52 ?_
          refine rb_aload_n 0 rfl rfl (rb_isR_ref _) dX4_part_55 ?_
          refine mm_getI (v := (ms10.1 0 0)) rfl fl_X4_185 rfl dX4_part_56 ?_
          refine rb_iload_n 2 rfl rfl dX4_part_59 ?_
          refine mm_iast (k := 2) rfl ((((((Kx9).1 c12)).1 c13)).2).1 dX4_part_60 ?_
          refine rb_aload_n 0 rfl rfl (rb_isR_ref _) dX4_part_61 ?_
          refine mm_getA (t := 2) fl_X4_16 rfl (by decide) dX4_part_62 ?_
          refine rb_aload_n 0 rfl rfl (rb_isR_ref _) dX4_part_65 ?_
          refine mm_getI (v := (ms10.1 0 0)) rfl fl_X4_185 rfl dX4_part_66 ?_
          refine rb_iload_n 3 rfl rfl dX4_part_69 ?_
          refine mm_iast (k := 3) rfl (((((((Kx9).1 c12)).1 c13)).2).2).1 dX4_part_70 ?_
          refine rb_aload_n 0 rfl rfl (rb_isR_ref _) dX4_part_71 ?_
          refine rb_dup rfl dX4_part_72 ?_
          refine mm_getI (v := (ms10.1 0 0)) rfl fl_X4_185 rfl dX4_part_73 ?_
          refine rb_iconst (v := (1 : Int32)) (by decide) dX4_part_76 ?_
          refine rb_iadd (z := ((ms10.1 0 0) + (1 : Int32))) rfl dX4_part_77 ?_
          refine mm_putI fl_X4_185 rfl dX4_part_78 ?_
          refine rb_aload_n 0 rfl rfl (rb_isR_ref _) dX4_part_81 ?_
          refine mm_getI (v := ((ms10.1 0 0) + (1 : Int32))) rfl fl_X4_185 rfl dX4_part_82 ?_
          refine rb_iconst (v := (1 : Int32)) (by decide) dX4_part_85 ?_
          refine rb_isub (z := (((ms10.1 0 0) + (1 : Int32)) - (1 : Int32))) rfl dX4_part_86 ?_
          exact rb_iret rfl rfl (Nat.zero_le _) (Nat.zero_le _) dX4_part_87 (((((((Kx9).1 c12)).1 c13)).2).2).2
        · skip
          refine rb_bipush (v := (-2 : Int32)) (by decide) dX4_part_38 ?_
          exact rb_iret rfl rfl (Nat.zero_le _) (Nat.zero_le _) dX4_part_40 ((((Kx9).1 c12)).2 c13)
      · skip
        refine rb_iconst (v := (-1 : Int32)) (by decide) dX4_part_27 ?_
        exact rb_iret rfl rfl (Nat.zero_le _) (Nat.zero_le _) dX4_part_28 ((Kx9).2 c12)
theorem sgX4_in_0 {κ : rb_K} {M : rb_H} {a0 : Int32} {a1 : Int32} {a2 : Int32} (K : ((a0 < a1 → (κ.2.2.1 (.returned (some (.int (0 : Int32)))) M)) ∧ (a1 ≤ a0 → ((a2 < a0 → (κ.2.2.1 (.returned (some (.int (0 : Int32)))) M)) ∧ (a0 ≤ a2 → (κ.2.2.1 (.returned (some (.int (1 : Int32)))) M)))))) : rb_Bd κ mX4_in (0, 0) M 0 [some (.int a0), some (.int a1), some (.int a2)] [] := by
  refine rb_iload_n 0 rfl rfl dX4_in_0 ?_
  refine rb_iload_n 1 rfl rfl dX4_in_1 ?_
  refine rb_iclt 14 (by decide) dX4_in_2 (fun c1 => ?_) (fun c1 => ?_)
  · skip
    refine rb_iconst (v := (0 : Int32)) (by decide) dX4_in_14 ?_
    exact rb_iret rfl (by decide) (Nat.zero_le _) (Nat.zero_le _) dX4_in_15 ((K).1 c1)
  · skip
    refine rb_iload_n 0 rfl rfl dX4_in_5 ?_
    refine rb_iload_n 2 rfl rfl dX4_in_6 ?_
    refine rb_icgt 14 (by decide) dX4_in_7 (fun c2 => ?_) (fun c2 => ?_)
    · skip
      refine rb_iconst (v := (0 : Int32)) (by decide) dX4_in_14 ?_
      exact rb_iret rfl (by decide) (Nat.zero_le _) (Nat.zero_le _) dX4_in_15 ((((K).2 c1)).1 c2)
    · skip
      refine rb_iconst (v := (1 : Int32)) (by decide) dX4_in_10 ?_
      refine rb_goto 15 (by decide) dX4_in_11 ?_
      exact rb_iret rfl (by decide) (Nat.zero_le _) (Nat.zero_le _) dX4_in_15 ((((K).2 c1)).2 c2)
theorem sgX4_extend_0 {κ : rb_K} {M0 : rb_H} {h : Nat} {ms : mm_S} {a1 : Int32} {a2 : Int32} (K : (∃ (x1 : Int32) (ms2 : mm_S) (d3 : Nat), mm_C κ.1 yX4_isPart wX4_isPart d3 h M0 ms [.ref h, .int a1] (some (.int x1)) ms2 ∧ rb_dp κ d3 ∧ ((x1 = 0 → (κ.2.2.1 (.returned (some (.int (-1 : Int32)))) (mm_H h ms2 M0))) ∧ (¬ x1 = 0 → (∃ (x5 : Int32) (ms6 : mm_S) (d7 : Nat), mm_C κ.1 yX4_in wX4_in d7 h M0 ms2 [.int a2, .int (0 : Int32), .int (a1 - (1 : Int32))] (some (.int x5)) ms6 ∧ rb_dp κ d7 ∧ ((x5 = 0 → (κ.2.2.1 (.returned (some (.int (-1 : Int32)))) (mm_H h ms6 M0))) ∧ (¬ x5 = 0 → (∃ (x9 : Int32) (ms10 : mm_S) (d11 : Nat), mm_C κ.1 yX4_isExtended wX4_isExtended d11 h M0 ms6 [.ref h, .int a1, .int a2] (some (.int x9)) ms10 ∧ rb_dp κ d11 ∧ ((x9 = 0 → (vp_in a1 (mm_l 4) ∧ ((¬ (ms10.1 4 (a1).toNatClampNeg) = (4 : Int32) → (((ms10.1 24 0) ≤ 0 → (vp_in a1 (mm_l 4) ∧ (vp_in (((4 : Int32) * a1) + (ms10.1 4 (a1).toNatClampNeg)) (mm_l 5) ∧ (vp_in a1 (mm_l 4) ∧ (vp_in a1 (mm_l 4) ∧ (vp_in a1 (mm_l 4) ∧ (κ.2.2.1 (.returned (some (.int ((mm_sI ms10 4 (a1).toNatClampNeg ((ms10.1 4 (a1).toNatClampNeg) + (1 : Int32))).1 4 (a1).toNatClampNeg)))) (mm_H h (mm_sI (mm_sI ms10 5 ((((4 : Int32) * a1) + (ms10.1 4 (a1).toNatClampNeg))).toNatClampNeg a2) 4 (a1).toNatClampNeg ((ms10.1 4 (a1).toNatClampNeg) + (1 : Int32))) M0)))))))) ∧ (0 < (ms10.1 24 0) → (κ.2.2.1 (.returned (some (.int (-4 : Int32)))) (mm_H h ms10 M0))))) ∧ ((ms10.1 4 (a1).toNatClampNeg) = (4 : Int32) → (κ.2.2.1 (.returned (some (.int (-2 : Int32)))) (mm_H h ms10 M0)))))) ∧ (¬ x9 = 0 → (κ.2.2.1 (.returned (some (.int (-1 : Int32)))) (mm_H h ms10 M0)))))))))))) : rb_Bd κ mX4_extend (0, 0) (mm_H h ms M0) 0 [some (.ref h), some (.int a1), some (.int a2)] [] := by
  refine rb_aload_n 0 rfl rfl (rb_isR_ref _) dX4_extend_0 ?_
  refine rb_iload_n 1 rfl rfl dX4_extend_1 ?_
  obtain ⟨x1, ms2, d3, h1, h2, Kx1⟩ := K
  refine mm_call st_X4_192 (rest := []) h1 rfl rfl mm_rc (Nat.le_of_ble_eq_true rfl) h2 dX4_extend_2 ?_
  show rb_Bd κ mX4_extend (0, 0) (mm_H h ms2 M0) 5 [some (.ref h), some (.int a1), some (.int a2)] [.int x1]
  refine rb_ifeq 28 (by decide) dX4_extend_5 (fun c4 => ?_) (fun c4 => ?_)
  · skip
    refine rb_iconst (v := (-1 : Int32)) (by decide) dX4_extend_28 ?_
    exact rb_iret rfl rfl (Nat.zero_le _) (Nat.zero_le _) dX4_extend_29 ((Kx1).1 c4)
  · skip
    refine rb_iload_n 2 rfl rfl dX4_extend_8 ?_
    refine rb_iconst (v := (0 : Int32)) (by decide) dX4_extend_9 ?_
    refine rb_iload_n 1 rfl rfl dX4_extend_10 ?_
    refine rb_iconst (v := (1 : Int32)) (by decide) dX4_extend_11 ?_
    refine rb_isub (z := (a1 - (1 : Int32))) rfl dX4_extend_12 ?_
    obtain ⟨x5, ms6, d7, h1, h2, Kx5⟩ := ((Kx1).2 c4)
    refine mm_call st_X4_188 (rest := []) h1 rfl rfl mm_rn (Nat.le_of_ble_eq_true rfl) h2 dX4_extend_13 ?_
    show rb_Bd κ mX4_extend (0, 0) (mm_H h ms6 M0) 16 [some (.ref h), some (.int a1), some (.int a2)] [.int x5]
    refine rb_ifeq 28 (by decide) dX4_extend_16 (fun c8 => ?_) (fun c8 => ?_)
    · skip
      refine rb_iconst (v := (-1 : Int32)) (by decide) dX4_extend_28 ?_
      exact rb_iret rfl rfl (Nat.zero_le _) (Nat.zero_le _) dX4_extend_29 ((Kx5).1 c8)
    · skip
      refine rb_aload_n 0 rfl rfl (rb_isR_ref _) dX4_extend_19 ?_
      refine rb_iload_n 1 rfl rfl dX4_extend_20 ?_
      refine rb_iload_n 2 rfl rfl dX4_extend_21 ?_
      obtain ⟨x9, ms10, d11, h1, h2, Kx9⟩ := ((Kx5).2 c8)
      refine mm_call st_X4_196 (rest := []) h1 rfl rfl mm_rc (Nat.le_of_ble_eq_true rfl) h2 dX4_extend_22 ?_
      show rb_Bd κ mX4_extend (0, 0) (mm_H h ms10 M0) 25 [some (.ref h), some (.int a1), some (.int a2)] [.int x9]
      refine rb_ifeq 30 (by decide) dX4_extend_25 (fun c12 => ?_) (fun c12 => ?_)
      · skip
        refine rb_aload_n 0 rfl rfl (rb_isR_ref _) dX4_extend_30 ?_
        refine mm_getA (t := 2) fl_X4_19 rfl (by decide) dX4_extend_31 ?_
        refine rb_iload_n 1 rfl rfl dX4_extend_34 ?_
        refine mm_iald (k := 4) (v := (ms10.1 4 (a1).toNatClampNeg)) rfl rfl (((Kx9).1 c12)).1 dX4_extend_35 ?_
        refine rb_iconst (v := (4 : Int32)) (by decide) dX4_extend_36 ?_
        refine rb_icne 43 (by decide) dX4_extend_37 (fun c13 => ?_) (fun c13 => ?_)
        · skip
          refine rb_aload_n 0 rfl rfl (rb_isR_ref _) dX4_extend_43 ?_
          refine mm_getI (v := (ms10.1 24 0)) rfl fl_X4_200 rfl dX4_extend_44 ?_
          refine rb_ifle 53 (by decide) dX4_extend_47 (fun c14 => ?_) (fun c14 => ?_)
          · skip
            refine rb_aload_n 0 rfl rfl (rb_isR_ref _) dX4_extend_53 ?_
            refine mm_getA (t := 2) fl_X4_22 rfl (by decide) dX4_extend_54 ?_
            refine rb_iconst (v := (4 : Int32)) (by decide) dX4_extend_57 ?_
            refine rb_iload_n 1 rfl rfl dX4_extend_58 ?_
            refine rb_imul (z := ((4 : Int32) * a1)) rfl dX4_extend_59 ?_
            refine rb_aload_n 0 rfl rfl (rb_isR_ref _) dX4_extend_60 ?_
            refine mm_getA (t := 2) fl_X4_19 rfl (by decide) dX4_extend_61 ?_
            refine rb_iload_n 1 rfl rfl dX4_extend_64 ?_
            refine mm_iald (k := 4) (v := (ms10.1 4 (a1).toNatClampNeg)) rfl rfl ((((((((Kx9).1 c12)).2).1 c13)).1 c14)).1 dX4_extend_65 ?_
            refine rb_iadd (z := (((4 : Int32) * a1) + (ms10.1 4 (a1).toNatClampNeg))) rfl dX4_extend_66 ?_
            refine rb_iload_n 2 rfl rfl dX4_extend_67 ?_
            refine mm_iast (k := 5) rfl (((((((((Kx9).1 c12)).2).1 c13)).1 c14)).2).1 dX4_extend_68 ?_
            refine rb_aload_n 0 rfl rfl (rb_isR_ref _) dX4_extend_69 ?_
            refine mm_getA (t := 2) fl_X4_19 rfl (by decide) dX4_extend_70 ?_
            refine rb_iload_n 1 rfl rfl dX4_extend_73 ?_
            refine rb_dup2 rfl rfl dX4_extend_74 ?_
            refine mm_iald (k := 4) (v := (ms10.1 4 (a1).toNatClampNeg)) rfl rfl ((((((((((Kx9).1 c12)).2).1 c13)).1 c14)).2).2).1 dX4_extend_75 ?_
            refine rb_iconst (v := (1 : Int32)) (by decide) dX4_extend_76 ?_
            refine rb_iadd (z := ((ms10.1 4 (a1).toNatClampNeg) + (1 : Int32))) rfl dX4_extend_77 ?_
            refine mm_iast (k := 4) rfl (((((((((((Kx9).1 c12)).2).1 c13)).1 c14)).2).2).2).1 dX4_extend_78 ?_
            refine rb_aload_n 0 rfl rfl (rb_isR_ref _) dX4_extend_79 ?_
            refine mm_getA (t := 2) fl_X4_19 rfl (by decide) dX4_extend_80 ?_
            refine rb_iload_n 1 rfl rfl dX4_extend_83 ?_
            refine mm_iald (k := 4) (v := ((mm_sI ms10 4 (a1).toNatClampNeg ((ms10.1 4 (a1).toNatClampNeg) + (1 : Int32))).1 4 (a1).toNatClampNeg)) rfl rfl ((((((((((((Kx9).1 c12)).2).1 c13)).1 c14)).2).2).2).2).1 dX4_extend_84 ?_
            exact rb_iret rfl rfl (Nat.zero_le _) (Nat.zero_le _) dX4_extend_85 ((((((((((((Kx9).1 c12)).2).1 c13)).1 c14)).2).2).2).2).2
          · skip
            refine rb_bipush (v := (-4 : Int32)) (by decide) dX4_extend_50 ?_
            exact rb_iret rfl rfl (Nat.zero_le _) (Nat.zero_le _) dX4_extend_52 (((((((Kx9).1 c12)).2).1 c13)).2 c14)
        · skip
          refine rb_bipush (v := (-2 : Int32)) (by decide) dX4_extend_40 ?_
          exact rb_iret rfl rfl (Nat.zero_le _) (Nat.zero_le _) dX4_extend_42 (((((Kx9).1 c12)).2).2 c13)
      · skip
        refine rb_iconst (v := (-1 : Int32)) (by decide) dX4_extend_28 ?_
        exact rb_iret rfl rfl (Nat.zero_le _) (Nat.zero_le _) dX4_extend_29 ((Kx9).2 c12)
theorem sgX4_isPart_0 {κ : rb_K} {M0 : rb_H} {h : Nat} {ms : mm_S} {a1 : Int32} (K : (∃ (x1 : Int32) (ms2 : mm_S) (d3 : Nat), mm_C κ.1 yX4_in wX4_in d3 h M0 ms [.int a1, .int (0 : Int32), .int ((ms.1 0 0) - (1 : Int32))] (some (.int x1)) ms2 ∧ rb_dp κ d3 ∧ (narrow .boolean (.int x1) = .int x1 ∧ κ.2.2.1 (.returned (some (.int x1))) (mm_H h ms2 M0)))) : rb_Bd κ mX4_isPart (0, 0) (mm_H h ms M0) 0 [some (.ref h), some (.int a1)] [] := by
  refine rb_iload_n 1 rfl rfl dX4_isPart_0 ?_
  refine rb_iconst (v := (0 : Int32)) (by decide) dX4_isPart_1 ?_
  refine rb_aload_n 0 rfl rfl (rb_isR_ref _) dX4_isPart_2 ?_
  refine mm_getI (v := (ms.1 0 0)) rfl fl_X4_185 rfl dX4_isPart_3 ?_
  refine rb_iconst (v := (1 : Int32)) (by decide) dX4_isPart_6 ?_
  refine rb_isub (z := ((ms.1 0 0) - (1 : Int32))) rfl dX4_isPart_7 ?_
  obtain ⟨x1, ms2, d3, h1, h2, Kx1⟩ := K
  refine mm_call st_X4_188 (rest := []) h1 rfl rfl mm_rn (Nat.le_of_ble_eq_true rfl) h2 dX4_isPart_8 ?_
  show rb_Bd κ mX4_isPart (0, 0) (mm_H h ms2 M0) 11 [some (.ref h), some (.int a1)] [.int x1]
  exact rb_iret rfl (Kx1).1 (Nat.zero_le _) (Nat.zero_le _) dX4_isPart_11 (Kx1).2
theorem sgX4_isExtended_0 {κ : rb_K} {M0 : rb_H} {h : Nat} {ms : mm_S} {a1 : Int32} {a2 : Int32} (K : rb_Bd κ mX4_isExtended (0, 0) (mm_H h ms M0) 5 [some (.ref h), some (.int a1), some (.int a2), some (.int (0 : Int32)), some (.int (0 : Int32))] []) : rb_Bd κ mX4_isExtended (0, 0) (mm_H h ms M0) 0 [some (.ref h), some (.int a1), some (.int a2), none, none] [] := by
  refine rb_iconst (v := (0 : Int32)) (by decide) dX4_isExtended_0 ?_
  refine rb_istore_n 3 rfl (ls' := [some (.ref h), some (.int a1), some (.int a2), some (.int (0 : Int32)), none]) (by decide) rfl rfl dX4_isExtended_1 ?_
  refine rb_iconst (v := (0 : Int32)) (by decide) dX4_isExtended_2 ?_
  refine rb_istore (ls' := [some (.ref h), some (.int a1), some (.int a2), some (.int (0 : Int32)), some (.int (0 : Int32))]) (by decide) rfl rfl dX4_isExtended_3 ?_
  exact K
theorem sgX4_isExtended_5 {κ : rb_K} {M0 : rb_H} {h : Nat} {ms : mm_S} {a1 : Int32} {a2 : Int32} {a3 : Int32} {a4 : Int32} (K : (vp_in a1 (mm_l 4) ∧ (((ms.1 4 (a1).toNatClampNeg) ≤ a4 → (narrow .boolean (.int a3) = .int a3 ∧ κ.2.2.1 (.returned (some (.int a3))) (mm_H h ms M0))) ∧ (a4 < (ms.1 4 (a1).toNatClampNeg) → ((¬ a3 = 0 → rb_Bd κ mX4_isExtended (0, 0) (mm_H h ms M0) 5 [some (.ref h), some (.int a1), some (.int a2), some (.int (1 : Int32)), some (.int (a4 + (1 : Int32)))] []) ∧ (a3 = 0 → (vp_in (((4 : Int32) * a1) + a4) (mm_l 5) ∧ ((¬ (ms.1 5 ((((4 : Int32) * a1) + a4)).toNatClampNeg) = a2 → rb_Bd κ mX4_isExtended (0, 0) (mm_H h ms M0) 5 [some (.ref h), some (.int a1), some (.int a2), some (.int (0 : Int32)), some (.int (a4 + (1 : Int32)))] []) ∧ ((ms.1 5 ((((4 : Int32) * a1) + a4)).toNatClampNeg) = a2 → rb_Bd κ mX4_isExtended (0, 0) (mm_H h ms M0) 5 [some (.ref h), some (.int a1), some (.int a2), some (.int (1 : Int32)), some (.int (a4 + (1 : Int32)))] []))))))))) : rb_Bd κ mX4_isExtended (0, 0) (mm_H h ms M0) 5 [some (.ref h), some (.int a1), some (.int a2), some (.int a3), some (.int a4)] [] := by
  refine rb_iload rfl dX4_isExtended_5 ?_
  refine rb_aload_n 0 rfl rfl (rb_isR_ref _) dX4_isExtended_7 ?_
  refine mm_getA (t := 2) fl_X4_19 rfl (by decide) dX4_isExtended_8 ?_
  refine rb_iload_n 1 rfl rfl dX4_isExtended_11 ?_
  refine mm_iald (k := 4) (v := (ms.1 4 (a1).toNatClampNeg)) rfl rfl (K).1 dX4_isExtended_12 ?_
  refine rb_icge 47 (by decide) dX4_isExtended_13 (fun c1 => ?_) (fun c1 => ?_)
  · skip
    refine rb_iload_n 3 rfl rfl dX4_isExtended_47 ?_
    exact rb_iret rfl ((((K).2).1 c1)).1 (Nat.zero_le _) (Nat.zero_le _) dX4_isExtended_48 ((((K).2).1 c1)).2
  · skip
    refine rb_iload_n 3 rfl rfl dX4_isExtended_16 ?_
    refine rb_ifne 35 (by decide) dX4_isExtended_17 (fun c2 => ?_) (fun c2 => ?_)
    · skip
      refine rb_iconst (v := (1 : Int32)) (by decide) dX4_isExtended_35 ?_
      refine rb_goto 40 (by decide) dX4_isExtended_36 ?_
      refine rb_istore_n 3 rfl (ls' := [some (.ref h), some (.int a1), some (.int a2), some (.int (1 : Int32)), some (.int a4)]) (by decide) rfl rfl dX4_isExtended_40 ?_
      refine rb_iinc (ls' := [some (.ref h), some (.int a1), some (.int a2), some (.int (1 : Int32)), some (.int (a4 + (1 : Int32)))]) (v := (a4 + (1 : Int32))) rfl rfl (by decide) rfl rfl dX4_isExtended_41 ?_
      refine rb_goto 5 (by decide) dX4_isExtended_44 ?_
      exact (((((K).2).2 c1)).1 c2)
    · skip
      refine rb_aload_n 0 rfl rfl (rb_isR_ref _) dX4_isExtended_20 ?_
      refine mm_getA (t := 2) fl_X4_22 rfl (by decide) dX4_isExtended_21 ?_
      refine rb_iconst (v := (4 : Int32)) (by decide) dX4_isExtended_24 ?_
      refine rb_iload_n 1 rfl rfl dX4_isExtended_25 ?_
      refine rb_imul (z := ((4 : Int32) * a1)) rfl dX4_isExtended_26 ?_
      refine rb_iload rfl dX4_isExtended_27 ?_
      refine rb_iadd (z := (((4 : Int32) * a1) + a4)) rfl dX4_isExtended_29 ?_
      refine mm_iald (k := 5) (v := (ms.1 5 ((((4 : Int32) * a1) + a4)).toNatClampNeg)) rfl rfl ((((((K).2).2 c1)).2 c2)).1 dX4_isExtended_30 ?_
      refine rb_iload_n 2 rfl rfl dX4_isExtended_31 ?_
      refine rb_icne 39 (by decide) dX4_isExtended_32 (fun c3 => ?_) (fun c3 => ?_)
      · skip
        refine rb_iconst (v := (0 : Int32)) (by decide) dX4_isExtended_39 ?_
        refine rb_istore_n 3 rfl (ls' := [some (.ref h), some (.int a1), some (.int a2), some (.int (0 : Int32)), some (.int a4)]) (by decide) rfl rfl dX4_isExtended_40 ?_
        refine rb_iinc (ls' := [some (.ref h), some (.int a1), some (.int a2), some (.int (0 : Int32)), some (.int (a4 + (1 : Int32)))]) (v := (a4 + (1 : Int32))) rfl rfl (by decide) rfl rfl dX4_isExtended_41 ?_
        refine rb_goto 5 (by decide) dX4_isExtended_44 ?_
        exact ((((((((K).2).2 c1)).2 c2)).2).1 c3)
      · skip
        refine rb_iconst (v := (1 : Int32)) (by decide) dX4_isExtended_35 ?_
        refine rb_goto 40 (by decide) dX4_isExtended_36 ?_
        refine rb_istore_n 3 rfl (ls' := [some (.ref h), some (.int a1), some (.int a2), some (.int (1 : Int32)), some (.int a4)]) (by decide) rfl rfl dX4_isExtended_40 ?_
        refine rb_iinc (ls' := [some (.ref h), some (.int a1), some (.int a2), some (.int (1 : Int32)), some (.int (a4 + (1 : Int32)))]) (v := (a4 + (1 : Int32))) rfl rfl (by decide) rfl rfl dX4_isExtended_41 ?_
        refine rb_goto 5 (by decide) dX4_isExtended_44 ?_
        exact ((((((((K).2).2 c1)).2 c2)).2).2 c3)
theorem sgX4_want_0 {κ : rb_K} {M0 : rb_H} {h : Nat} {ms : mm_S} {a1 : Int32} {a2 : Int32} (K : (∃ (x1 : Int32) (ms2 : mm_S) (d3 : Nat), mm_C κ.1 yX4_isPart wX4_isPart d3 h M0 ms [.ref h, .int a1] (some (.int x1)) ms2 ∧ rb_dp κ d3 ∧ ((x1 = 0 → (κ.2.2.1 (.returned (some (.int (-1 : Int32)))) (mm_H h ms2 M0))) ∧ (¬ x1 = 0 → (∃ (x5 : Int32) (ms6 : mm_S) (d7 : Nat), mm_C κ.1 yX4_isPart wX4_isPart d7 h M0 ms2 [.ref h, .int a2] (some (.int x5)) ms6 ∧ rb_dp κ d7 ∧ ((x5 = 0 → (κ.2.2.1 (.returned (some (.int (-1 : Int32)))) (mm_H h ms6 M0))) ∧ (¬ x5 = 0 → ((¬ a1 = a2 → ((¬ (ms6.1 7 0) = (30 : Int32) → (((ms6.1 24 0) ≤ 0 → (vp_in (ms6.1 7 0) (mm_l 8) ∧ (vp_in (ms6.1 7 0) (mm_l 9) ∧ (κ.2.2.1 (.returned (some (.int ((ms6.1 7 0) + (1 : Int32))))) (mm_H h (mm_sI (mm_sI (mm_sI ms6 8 ((ms6.1 7 0)).toNatClampNeg a1) 9 ((ms6.1 7 0)).toNatClampNeg a2) 7 0 ((ms6.1 7 0) + (1 : Int32))) M0))))) ∧ (0 < (ms6.1 24 0) → (κ.2.2.1 (.returned (some (.int (-4 : Int32)))) (mm_H h ms6 M0))))) ∧ ((ms6.1 7 0) = (30 : Int32) → (κ.2.2.1 (.returned (some (.int (-2 : Int32)))) (mm_H h ms6 M0))))) ∧ (a1 = a2 → (κ.2.2.1 (.returned (some (.int (-1 : Int32)))) (mm_H h ms6 M0))))))))))) : rb_Bd κ mX4_want (0, 0) (mm_H h ms M0) 0 [some (.ref h), some (.int a1), some (.int a2)] [] := by
  refine rb_aload_n 0 rfl rfl (rb_isR_ref _) dX4_want_0 ?_
  refine rb_iload_n 1 rfl rfl dX4_want_1 ?_
  obtain ⟨x1, ms2, d3, h1, h2, Kx1⟩ := K
  refine mm_call st_X4_192 (rest := []) h1 rfl rfl mm_rc (Nat.le_of_ble_eq_true rfl) h2 dX4_want_2 ?_
  show rb_Bd κ mX4_want (0, 0) (mm_H h ms2 M0) 5 [some (.ref h), some (.int a1), some (.int a2)] [.int x1]
  refine rb_ifeq 21 (by decide) dX4_want_5 (fun c4 => ?_) (fun c4 => ?_)
  · skip
    refine rb_iconst (v := (-1 : Int32)) (by decide) dX4_want_21 ?_
    exact rb_iret rfl rfl (Nat.zero_le _) (Nat.zero_le _) dX4_want_22 ((Kx1).1 c4)
  · skip
    refine rb_aload_n 0 rfl rfl (rb_isR_ref _) dX4_want_8 ?_
    refine rb_iload_n 2 rfl rfl dX4_want_9 ?_
    obtain ⟨x5, ms6, d7, h1, h2, Kx5⟩ := ((Kx1).2 c4)
    refine mm_call st_X4_192 (rest := []) h1 rfl rfl mm_rc (Nat.le_of_ble_eq_true rfl) h2 dX4_want_10 ?_
    show rb_Bd κ mX4_want (0, 0) (mm_H h ms6 M0) 13 [some (.ref h), some (.int a1), some (.int a2)] [.int x5]
    refine rb_ifeq 21 (by decide) dX4_want_13 (fun c8 => ?_) (fun c8 => ?_)
    · skip
      refine rb_iconst (v := (-1 : Int32)) (by decide) dX4_want_21 ?_
      exact rb_iret rfl rfl (Nat.zero_le _) (Nat.zero_le _) dX4_want_22 ((Kx5).1 c8)
    · skip
      refine rb_iload_n 1 rfl rfl dX4_want_16 ?_
      refine rb_iload_n 2 rfl rfl dX4_want_17 ?_
      refine rb_icne 23 (by decide) dX4_want_18 (fun c9 => ?_) (fun c9 => ?_)
      · skip
        refine rb_aload_n 0 rfl rfl (rb_isR_ref _) dX4_want_23 ?_
        refine mm_getI (v := (ms6.1 7 0)) rfl fl_X4_203 rfl dX4_want_24 ?_
        refine rb_bipush (v := (30 : Int32)) (by decide) dX4_want_27 ?_
        refine rb_icne 35 (by decide) dX4_want_29 (fun c10 => ?_) (fun c10 => ?_)
        · skip
          refine rb_aload_n 0 rfl rfl (rb_isR_ref _) dX4_want_35 ?_
          refine mm_getI (v := (ms6.1 24 0)) rfl fl_X4_200 rfl dX4_want_36 ?_
          refine rb_ifle 45 (by decide) dX4_want_39 (fun c11 => ?_) (fun c11 => ?_)
          · skip
            refine rb_aload_n 0 rfl rfl (rb_isR_ref _) dX4_want_45 ?_
            refine mm_getA (t := 2) fl_X4_29 rfl (by decide) dX4_want_46 ?_
            refine rb_aload_n 0 rfl rfl (rb_isR_ref _) dX4_want_49 ?_
            refine mm_getI (v := (ms6.1 7 0)) rfl fl_X4_203 rfl dX4_want_50 ?_
            refine rb_iload_n 1 rfl rfl dX4_want_53 ?_
            refine mm_iast (k := 8) rfl (((((((((Kx5).2 c8)).1 c9)).1 c10)).1 c11)).1 dX4_want_54 ?_
            refine rb_aload_n 0 rfl rfl (rb_isR_ref _) dX4_want_55 ?_
            refine mm_getA (t := 2) fl_X4_32 rfl (by decide) dX4_want_56 ?_
            refine rb_aload_n 0 rfl rfl (rb_isR_ref _) dX4_want_59 ?_
            refine mm_getI (v := (ms6.1 7 0)) rfl fl_X4_203 rfl dX4_want_60 ?_
            refine rb_iload_n 2 rfl rfl dX4_want_63 ?_
            refine mm_iast (k := 9) rfl ((((((((((Kx5).2 c8)).1 c9)).1 c10)).1 c11)).2).1 dX4_want_64 ?_
            refine rb_aload_n 0 rfl rfl (rb_isR_ref _) dX4_want_65 ?_
            refine rb_dup rfl dX4_want_66 ?_
            refine mm_getI (v := (ms6.1 7 0)) rfl fl_X4_203 rfl dX4_want_67 ?_
            refine rb_iconst (v := (1 : Int32)) (by decide) dX4_want_70 ?_
            refine rb_iadd (z := ((ms6.1 7 0) + (1 : Int32))) rfl dX4_want_71 ?_
            refine mm_putI fl_X4_203 rfl dX4_want_72 ?_
            refine rb_aload_n 0 rfl rfl (rb_isR_ref _) dX4_want_75 ?_
            refine mm_getI (v := ((ms6.1 7 0) + (1 : Int32))) rfl fl_X4_203 rfl dX4_want_76 ?_
            exact rb_iret rfl rfl (Nat.zero_le _) (Nat.zero_le _) dX4_want_79 ((((((((((Kx5).2 c8)).1 c9)).1 c10)).1 c11)).2).2
          · skip
            refine rb_bipush (v := (-4 : Int32)) (by decide) dX4_want_42 ?_
            exact rb_iret rfl rfl (Nat.zero_le _) (Nat.zero_le _) dX4_want_44 ((((((((Kx5).2 c8)).1 c9)).1 c10)).2 c11)
        · skip
          refine rb_bipush (v := (-2 : Int32)) (by decide) dX4_want_32 ?_
          exact rb_iret rfl rfl (Nat.zero_le _) (Nat.zero_le _) dX4_want_34 ((((((Kx5).2 c8)).1 c9)).2 c10)
      · skip
        refine rb_iconst (v := (-1 : Int32)) (by decide) dX4_want_21 ?_
        exact rb_iret rfl rfl (Nat.zero_le _) (Nat.zero_le _) dX4_want_22 ((((Kx5).2 c8)).2 c9)
theorem sgX4_body_0 {κ : rb_K} {M0 : rb_H} {h : Nat} {ms : mm_S} {a1 : Int32} {a2 : Int32} {a3 : Int32} {a4 : Int32} (K : (∃ (x1 : Int32) (ms2 : mm_S) (d3 : Nat), mm_C κ.1 yX4_isPart wX4_isPart d3 h M0 ms [.ref h, .int a1] (some (.int x1)) ms2 ∧ rb_dp κ d3 ∧ ((x1 = 0 → (κ.2.2.1 (.returned (some (.int (-1 : Int32)))) (mm_H h ms2 M0))) ∧ (¬ x1 = 0 → (∃ (x5 : Int32) (ms6 : mm_S) (d7 : Nat), mm_C κ.1 yX4_in wX4_in d7 h M0 ms2 [.int a2, .int (0 : Int32), .int (2 : Int32)] (some (.int x5)) ms6 ∧ rb_dp κ d7 ∧ ((x5 = 0 → (κ.2.2.1 (.returned (some (.int (-1 : Int32)))) (mm_H h ms6 M0))) ∧ (¬ x5 = 0 → ((a2 = (2 : Int32) → ((a4 = (-9 : Int32) → (((ms6.1 24 0) ≤ 0 → (∃ (x12 : Int32) (ms13 : mm_S) (d14 : Nat), mm_C κ.1 yX4_bodyOf wX4_bodyOf d14 h M0 ms6 [.int a1, .int a2, .int a3] (some (.int x12)) ms13 ∧ rb_dp κ d14 ∧ (vp_in x12 (mm_l 10) ∧ (vp_in x12 (mm_l 11) ∧ (κ.2.2.1 (.returned (some (.int (1 : Int32)))) (mm_H h (mm_sI (mm_sI (mm_sI ms13 15 0 x12) 10 (x12).toNatClampNeg (0 : Int32)) 11 (x12).toNatClampNeg a4) M0)))))) ∧ (0 < (ms6.1 24 0) → (κ.2.2.1 (.returned (some (.int (-4 : Int32)))) (mm_H h ms6 M0))))) ∧ (¬ a4 = (-9 : Int32) → (∃ (x15 : Int32) (ms16 : mm_S) (d17 : Nat), mm_C κ.1 yX4_in wX4_in d17 h M0 ms6 [.int a4, .int (0 : Int32), .int (16 : Int32)] (some (.int x15)) ms16 ∧ rb_dp κ d17 ∧ ((¬ x15 = 0 → (((ms16.1 24 0) ≤ 0 → (∃ (x20 : Int32) (ms21 : mm_S) (d22 : Nat), mm_C κ.1 yX4_bodyOf wX4_bodyOf d22 h M0 ms16 [.int a1, .int a2, .int a3] (some (.int x20)) ms21 ∧ rb_dp κ d22 ∧ (vp_in x20 (mm_l 10) ∧ (vp_in x20 (mm_l 11) ∧ (κ.2.2.1 (.returned (some (.int (1 : Int32)))) (mm_H h (mm_sI (mm_sI (mm_sI ms21 15 0 x20) 10 (x20).toNatClampNeg (0 : Int32)) 11 (x20).toNatClampNeg a4) M0)))))) ∧ (0 < (ms16.1 24 0) → (κ.2.2.1 (.returned (some (.int (-4 : Int32)))) (mm_H h ms16 M0))))) ∧ (x15 = 0 → (κ.2.2.1 (.returned (some (.int (-1 : Int32)))) (mm_H h ms16 M0)))))))) ∧ (¬ a2 = (2 : Int32) → (∃ (x23 : Int32) (ms24 : mm_S) (d25 : Nat), mm_C κ.1 yX4_isMember wX4_isMember d25 h M0 ms6 [.int a3] (some (.int x23)) ms24 ∧ rb_dp κ d25 ∧ ((x23 = 0 → (κ.2.2.1 (.returned (some (.int (-1 : Int32)))) (mm_H h ms24 M0))) ∧ (¬ x23 = 0 → ((a4 = (-9 : Int32) → (((ms24.1 24 0) ≤ 0 → (∃ (x29 : Int32) (ms30 : mm_S) (d31 : Nat), mm_C κ.1 yX4_bodyOf wX4_bodyOf d31 h M0 ms24 [.int a1, .int a2, .int a3] (some (.int x29)) ms30 ∧ rb_dp κ d31 ∧ (vp_in x29 (mm_l 10) ∧ (vp_in x29 (mm_l 11) ∧ (κ.2.2.1 (.returned (some (.int (1 : Int32)))) (mm_H h (mm_sI (mm_sI (mm_sI ms30 15 0 x29) 10 (x29).toNatClampNeg (0 : Int32)) 11 (x29).toNatClampNeg a4) M0)))))) ∧ (0 < (ms24.1 24 0) → (κ.2.2.1 (.returned (some (.int (-4 : Int32)))) (mm_H h ms24 M0))))) ∧ (¬ a4 = (-9 : Int32) → (∃ (x32 : Int32) (ms33 : mm_S) (d34 : Nat), mm_C κ.1 yX4_in wX4_in d34 h M0 ms24 [.int a4, .int (0 : Int32), .int (16 : Int32)] (some (.int x32)) ms33 ∧ rb_dp κ d34 ∧ ((¬ x32 = 0 → (((ms33.1 24 0) ≤ 0 → (∃ (x37 : Int32) (ms38 : mm_S) (d39 : Nat), mm_C κ.1 yX4_bodyOf wX4_bodyOf d39 h M0 ms33 [.int a1, .int a2, .int a3] (some (.int x37)) ms38 ∧ rb_dp κ d39 ∧ (vp_in x37 (mm_l 10) ∧ (vp_in x37 (mm_l 11) ∧ (κ.2.2.1 (.returned (some (.int (1 : Int32)))) (mm_H h (mm_sI (mm_sI (mm_sI ms38 15 0 x37) 10 (x37).toNatClampNeg (0 : Int32)) 11 (x37).toNatClampNeg a4) M0)))))) ∧ (0 < (ms33.1 24 0) → (κ.2.2.1 (.returned (some (.int (-4 : Int32)))) (mm_H h ms33 M0))))) ∧ (x32 = 0 → (κ.2.2.1 (.returned (some (.int (-1 : Int32)))) (mm_H h ms33 M0))))))))))))))))))) : rb_Bd κ mX4_body (0, 0) (mm_H h ms M0) 0 [some (.ref h), some (.int a1), some (.int a2), some (.int a3), some (.int a4)] [] := by
  refine rb_aload_n 0 rfl rfl (rb_isR_ref _) dX4_body_0 ?_
  refine rb_iload_n 1 rfl rfl dX4_body_1 ?_
  obtain ⟨x1, ms2, d3, h1, h2, Kx1⟩ := K
  refine mm_call st_X4_192 (rest := []) h1 rfl rfl mm_rc (Nat.le_of_ble_eq_true rfl) h2 dX4_body_2 ?_
  show rb_Bd κ mX4_body (0, 0) (mm_H h ms2 M0) 5 [some (.ref h), some (.int a1), some (.int a2), some (.int a3), some (.int a4)] [.int x1]
  refine rb_ifeq 47 (by decide) dX4_body_5 (fun c4 => ?_) (fun c4 => ?_)
  · skip
    refine rb_iconst (v := (-1 : Int32)) (by decide) dX4_body_47 ?_
    exact rb_iret rfl rfl (Nat.zero_le _) (Nat.zero_le _) dX4_body_48 ((Kx1).1 c4)
  · skip
    refine rb_iload_n 2 rfl rfl dX4_body_8 ?_
    refine rb_iconst (v := (0 : Int32)) (by decide) dX4_body_9 ?_
    refine rb_iconst (v := (2 : Int32)) (by decide) dX4_body_10 ?_
    obtain ⟨x5, ms6, d7, h1, h2, Kx5⟩ := ((Kx1).2 c4)
    refine mm_call st_X4_188 (rest := []) h1 rfl rfl mm_rn (Nat.le_of_ble_eq_true rfl) h2 dX4_body_11 ?_
    show rb_Bd κ mX4_body (0, 0) (mm_H h ms6 M0) 14 [some (.ref h), some (.int a1), some (.int a2), some (.int a3), some (.int a4)] [.int x5]
    refine rb_ifeq 47 (by decide) dX4_body_14 (fun c8 => ?_) (fun c8 => ?_)
    · skip
      refine rb_iconst (v := (-1 : Int32)) (by decide) dX4_body_47 ?_
      exact rb_iret rfl rfl (Nat.zero_le _) (Nat.zero_le _) dX4_body_48 ((Kx5).1 c8)
    · skip
      refine rb_iload_n 2 rfl rfl dX4_body_17 ?_
      refine rb_iconst (v := (2 : Int32)) (by decide) dX4_body_18 ?_
      refine rb_iceq 29 (by decide) dX4_body_19 (fun c9 => ?_) (fun c9 => ?_)
      · skip
        refine rb_iload rfl dX4_body_29 ?_
        refine rb_bipush (v := (-9 : Int32)) (by decide) dX4_body_31 ?_
        refine rb_iceq 49 (by decide) dX4_body_33 (fun c10 => ?_) (fun c10 => ?_)
        · skip
          refine rb_aload_n 0 rfl rfl (rb_isR_ref _) dX4_body_49 ?_
          refine mm_getI (v := (ms6.1 24 0)) rfl fl_X4_200 rfl dX4_body_50 ?_
          refine rb_ifle 59 (by decide) dX4_body_53 (fun c11 => ?_) (fun c11 => ?_)
          · skip
            refine rb_aload_n 0 rfl rfl (rb_isR_ref _) dX4_body_59 ?_
            refine rb_iload_n 1 rfl rfl dX4_body_60 ?_
            refine rb_iload_n 2 rfl rfl dX4_body_61 ?_
            refine rb_iload_n 3 rfl rfl dX4_body_62 ?_
            obtain ⟨x12, ms13, d14, h1, h2, Kx12⟩ := ((((((((Kx5).2 c8)).1 c9)).1 c10)).1 c11)
            refine mm_call st_X4_209 (rest := [.ref h]) h1 rfl rfl mm_rn (Nat.le_of_ble_eq_true rfl) h2 dX4_body_63 ?_
            show rb_Bd κ mX4_body (0, 0) (mm_H h ms13 M0) 66 [some (.ref h), some (.int a1), some (.int a2), some (.int a3), some (.int a4)] [.int x12, .ref h]
            refine mm_putI fl_X4_50 rfl dX4_body_66 ?_
            refine rb_aload_n 0 rfl rfl (rb_isR_ref _) dX4_body_69 ?_
            refine mm_getA (t := 2) fl_X4_35 rfl (by decide) dX4_body_70 ?_
            refine rb_aload_n 0 rfl rfl (rb_isR_ref _) dX4_body_73 ?_
            refine mm_getI (v := x12) rfl fl_X4_50 rfl dX4_body_74 ?_
            refine rb_iconst (v := (0 : Int32)) (by decide) dX4_body_77 ?_
            refine mm_iast (k := 10) rfl (Kx12).1 dX4_body_78 ?_
            refine rb_aload_n 0 rfl rfl (rb_isR_ref _) dX4_body_79 ?_
            refine mm_getA (t := 2) fl_X4_38 rfl (by decide) dX4_body_80 ?_
            refine rb_aload_n 0 rfl rfl (rb_isR_ref _) dX4_body_83 ?_
            refine mm_getI (v := x12) rfl fl_X4_50 rfl dX4_body_84 ?_
            refine rb_iload rfl dX4_body_87 ?_
            refine mm_iast (k := 11) rfl ((Kx12).2).1 dX4_body_89 ?_
            refine rb_iconst (v := (1 : Int32)) (by decide) dX4_body_90 ?_
            exact rb_iret rfl rfl (Nat.zero_le _) (Nat.zero_le _) dX4_body_91 ((Kx12).2).2
          · skip
            refine rb_bipush (v := (-4 : Int32)) (by decide) dX4_body_56 ?_
            exact rb_iret rfl rfl (Nat.zero_le _) (Nat.zero_le _) dX4_body_58 ((((((((Kx5).2 c8)).1 c9)).1 c10)).2 c11)
        · skip
          refine rb_iload rfl dX4_body_36 ?_
          refine rb_iconst (v := (0 : Int32)) (by decide) dX4_body_38 ?_
          refine rb_bipush (v := (16 : Int32)) (by decide) dX4_body_39 ?_
          obtain ⟨x15, ms16, d17, h1, h2, Kx15⟩ := ((((((Kx5).2 c8)).1 c9)).2 c10)
          refine mm_call st_X4_188 (rest := []) h1 rfl rfl mm_rn (Nat.le_of_ble_eq_true rfl) h2 dX4_body_41 ?_
          show rb_Bd κ mX4_body (0, 0) (mm_H h ms16 M0) 44 [some (.ref h), some (.int a1), some (.int a2), some (.int a3), some (.int a4)] [.int x15]
          refine rb_ifne 49 (by decide) dX4_body_44 (fun c18 => ?_) (fun c18 => ?_)
          · skip
            refine rb_aload_n 0 rfl rfl (rb_isR_ref _) dX4_body_49 ?_
            refine mm_getI (v := (ms16.1 24 0)) rfl fl_X4_200 rfl dX4_body_50 ?_
            refine rb_ifle 59 (by decide) dX4_body_53 (fun c19 => ?_) (fun c19 => ?_)
            · skip
              refine rb_aload_n 0 rfl rfl (rb_isR_ref _) dX4_body_59 ?_
              refine rb_iload_n 1 rfl rfl dX4_body_60 ?_
              refine rb_iload_n 2 rfl rfl dX4_body_61 ?_
              refine rb_iload_n 3 rfl rfl dX4_body_62 ?_
              obtain ⟨x20, ms21, d22, h1, h2, Kx20⟩ := ((((Kx15).1 c18)).1 c19)
              refine mm_call st_X4_209 (rest := [.ref h]) h1 rfl rfl mm_rn (Nat.le_of_ble_eq_true rfl) h2 dX4_body_63 ?_
              show rb_Bd κ mX4_body (0, 0) (mm_H h ms21 M0) 66 [some (.ref h), some (.int a1), some (.int a2), some (.int a3), some (.int a4)] [.int x20, .ref h]
              refine mm_putI fl_X4_50 rfl dX4_body_66 ?_
              refine rb_aload_n 0 rfl rfl (rb_isR_ref _) dX4_body_69 ?_
              refine mm_getA (t := 2) fl_X4_35 rfl (by decide) dX4_body_70 ?_
              refine rb_aload_n 0 rfl rfl (rb_isR_ref _) dX4_body_73 ?_
              refine mm_getI (v := x20) rfl fl_X4_50 rfl dX4_body_74 ?_
              refine rb_iconst (v := (0 : Int32)) (by decide) dX4_body_77 ?_
              refine mm_iast (k := 10) rfl (Kx20).1 dX4_body_78 ?_
              refine rb_aload_n 0 rfl rfl (rb_isR_ref _) dX4_body_79 ?_
              refine mm_getA (t := 2) fl_X4_38 rfl (by decide) dX4_body_80 ?_
              refine rb_aload_n 0 rfl rfl (rb_isR_ref _) dX4_body_83 ?_
              refine mm_getI (v := x20) rfl fl_X4_50 rfl dX4_body_84 ?_
              refine rb_iload rfl dX4_body_87 ?_
              refine mm_iast (k := 11) rfl ((Kx20).2).1 dX4_body_89 ?_
              refine rb_iconst (v := (1 : Int32)) (by decide) dX4_body_90 ?_
              exact rb_iret rfl rfl (Nat.zero_le _) (Nat.zero_le _) dX4_body_91 ((Kx20).2).2
            · skip
              refine rb_bipush (v := (-4 : Int32)) (by decide) dX4_body_56 ?_
              exact rb_iret rfl rfl (Nat.zero_le _) (Nat.zero_le _) dX4_body_58 ((((Kx15).1 c18)).2 c19)
          · skip
            refine rb_iconst (v := (-1 : Int32)) (by decide) dX4_body_47 ?_
            exact rb_iret rfl rfl (Nat.zero_le _) (Nat.zero_le _) dX4_body_48 ((Kx15).2 c18)
      · skip
        refine rb_iload_n 3 rfl rfl dX4_body_22 ?_
        obtain ⟨x23, ms24, d25, h1, h2, Kx23⟩ := ((((Kx5).2 c8)).2 c9)
        refine mm_call st_X4_206 (rest := []) h1 rfl rfl mm_rn (Nat.le_of_ble_eq_true rfl) h2 dX4_body_23 ?_
        show rb_Bd κ mX4_body (0, 0) (mm_H h ms24 M0) 26 [some (.ref h), some (.int a1), some (.int a2), some (.int a3), some (.int a4)] [.int x23]
        refine rb_ifeq 47 (by decide) dX4_body_26 (fun c26 => ?_) (fun c26 => ?_)
        · skip
          refine rb_iconst (v := (-1 : Int32)) (by decide) dX4_body_47 ?_
          exact rb_iret rfl rfl (Nat.zero_le _) (Nat.zero_le _) dX4_body_48 ((Kx23).1 c26)
        · skip
          refine rb_iload rfl dX4_body_29 ?_
          refine rb_bipush (v := (-9 : Int32)) (by decide) dX4_body_31 ?_
          refine rb_iceq 49 (by decide) dX4_body_33 (fun c27 => ?_) (fun c27 => ?_)
          · skip
            refine rb_aload_n 0 rfl rfl (rb_isR_ref _) dX4_body_49 ?_
            refine mm_getI (v := (ms24.1 24 0)) rfl fl_X4_200 rfl dX4_body_50 ?_
            refine rb_ifle 59 (by decide) dX4_body_53 (fun c28 => ?_) (fun c28 => ?_)
            · skip
              refine rb_aload_n 0 rfl rfl (rb_isR_ref _) dX4_body_59 ?_
              refine rb_iload_n 1 rfl rfl dX4_body_60 ?_
              refine rb_iload_n 2 rfl rfl dX4_body_61 ?_
              refine rb_iload_n 3 rfl rfl dX4_body_62 ?_
              obtain ⟨x29, ms30, d31, h1, h2, Kx29⟩ := ((((((Kx23).2 c26)).1 c27)).1 c28)
              refine mm_call st_X4_209 (rest := [.ref h]) h1 rfl rfl mm_rn (Nat.le_of_ble_eq_true rfl) h2 dX4_body_63 ?_
              show rb_Bd κ mX4_body (0, 0) (mm_H h ms30 M0) 66 [some (.ref h), some (.int a1), some (.int a2), some (.int a3), some (.int a4)] [.int x29, .ref h]
              refine mm_putI fl_X4_50 rfl dX4_body_66 ?_
              refine rb_aload_n 0 rfl rfl (rb_isR_ref _) dX4_body_69 ?_
              refine mm_getA (t := 2) fl_X4_35 rfl (by decide) dX4_body_70 ?_
              refine rb_aload_n 0 rfl rfl (rb_isR_ref _) dX4_body_73 ?_
              refine mm_getI (v := x29) rfl fl_X4_50 rfl dX4_body_74 ?_
              refine rb_iconst (v := (0 : Int32)) (by decide) dX4_body_77 ?_
              refine mm_iast (k := 10) rfl (Kx29).1 dX4_body_78 ?_
              refine rb_aload_n 0 rfl rfl (rb_isR_ref _) dX4_body_79 ?_
              refine mm_getA (t := 2) fl_X4_38 rfl (by decide) dX4_body_80 ?_
              refine rb_aload_n 0 rfl rfl (rb_isR_ref _) dX4_body_83 ?_
              refine mm_getI (v := x29) rfl fl_X4_50 rfl dX4_body_84 ?_
              refine rb_iload rfl dX4_body_87 ?_
              refine mm_iast (k := 11) rfl ((Kx29).2).1 dX4_body_89 ?_
              refine rb_iconst (v := (1 : Int32)) (by decide) dX4_body_90 ?_
              exact rb_iret rfl rfl (Nat.zero_le _) (Nat.zero_le _) dX4_body_91 ((Kx29).2).2
            · skip
              refine rb_bipush (v := (-4 : Int32)) (by decide) dX4_body_56 ?_
              exact rb_iret rfl rfl (Nat.zero_le _) (Nat.zero_le _) dX4_body_58 ((((((Kx23).2 c26)).1 c27)).2 c28)
          · skip
            refine rb_iload rfl dX4_body_36 ?_
            refine rb_iconst (v := (0 : Int32)) (by decide) dX4_body_38 ?_
            refine rb_bipush (v := (16 : Int32)) (by decide) dX4_body_39 ?_
            obtain ⟨x32, ms33, d34, h1, h2, Kx32⟩ := ((((Kx23).2 c26)).2 c27)
            refine mm_call st_X4_188 (rest := []) h1 rfl rfl mm_rn (Nat.le_of_ble_eq_true rfl) h2 dX4_body_41 ?_
            show rb_Bd κ mX4_body (0, 0) (mm_H h ms33 M0) 44 [some (.ref h), some (.int a1), some (.int a2), some (.int a3), some (.int a4)] [.int x32]
            refine rb_ifne 49 (by decide) dX4_body_44 (fun c35 => ?_) (fun c35 => ?_)
            · skip
              refine rb_aload_n 0 rfl rfl (rb_isR_ref _) dX4_body_49 ?_
              refine mm_getI (v := (ms33.1 24 0)) rfl fl_X4_200 rfl dX4_body_50 ?_
              refine rb_ifle 59 (by decide) dX4_body_53 (fun c36 => ?_) (fun c36 => ?_)
              · skip
                refine rb_aload_n 0 rfl rfl (rb_isR_ref _) dX4_body_59 ?_
                refine rb_iload_n 1 rfl rfl dX4_body_60 ?_
                refine rb_iload_n 2 rfl rfl dX4_body_61 ?_
                refine rb_iload_n 3 rfl rfl dX4_body_62 ?_
                obtain ⟨x37, ms38, d39, h1, h2, Kx37⟩ := ((((Kx32).1 c35)).1 c36)
                refine mm_call st_X4_209 (rest := [.ref h]) h1 rfl rfl mm_rn (Nat.le_of_ble_eq_true rfl) h2 dX4_body_63 ?_
                show rb_Bd κ mX4_body (0, 0) (mm_H h ms38 M0) 66 [some (.ref h), some (.int a1), some (.int a2), some (.int a3), some (.int a4)] [.int x37, .ref h]
                refine mm_putI fl_X4_50 rfl dX4_body_66 ?_
                refine rb_aload_n 0 rfl rfl (rb_isR_ref _) dX4_body_69 ?_
                refine mm_getA (t := 2) fl_X4_35 rfl (by decide) dX4_body_70 ?_
                refine rb_aload_n 0 rfl rfl (rb_isR_ref _) dX4_body_73 ?_
                refine mm_getI (v := x37) rfl fl_X4_50 rfl dX4_body_74 ?_
                refine rb_iconst (v := (0 : Int32)) (by decide) dX4_body_77 ?_
                refine mm_iast (k := 10) rfl (Kx37).1 dX4_body_78 ?_
                refine rb_aload_n 0 rfl rfl (rb_isR_ref _) dX4_body_79 ?_
                refine mm_getA (t := 2) fl_X4_38 rfl (by decide) dX4_body_80 ?_
                refine rb_aload_n 0 rfl rfl (rb_isR_ref _) dX4_body_83 ?_
                refine mm_getI (v := x37) rfl fl_X4_50 rfl dX4_body_84 ?_
                refine rb_iload rfl dX4_body_87 ?_
                refine mm_iast (k := 11) rfl ((Kx37).2).1 dX4_body_89 ?_
                refine rb_iconst (v := (1 : Int32)) (by decide) dX4_body_90 ?_
                exact rb_iret rfl rfl (Nat.zero_le _) (Nat.zero_le _) dX4_body_91 ((Kx37).2).2
              · skip
                refine rb_bipush (v := (-4 : Int32)) (by decide) dX4_body_56 ?_
                exact rb_iret rfl rfl (Nat.zero_le _) (Nat.zero_le _) dX4_body_58 ((((Kx32).1 c35)).2 c36)
            · skip
              refine rb_iconst (v := (-1 : Int32)) (by decide) dX4_body_47 ?_
              exact rb_iret rfl rfl (Nat.zero_le _) (Nat.zero_le _) dX4_body_48 ((Kx32).2 c35)
theorem sgX4_isMember_0 {κ : rb_K} {M : rb_H} {a0 : Int32} (K : (∃ (x1 : Int32) (d3 : Nat), rb_Ct κ.1 yX4_in wX4_in d3 (0, 0) [.int a0, .int (0 : Int32), .int (11 : Int32)] M (fun o M' => o = .returned (some (.int x1)) ∧ M' = M) ∧ rb_dp κ d3 ∧ (narrow .boolean (.int x1) = .int x1 ∧ κ.2.2.1 (.returned (some (.int x1))) M))) : rb_Bd κ mX4_isMember (0, 0) M 0 [some (.int a0)] [] := by
  refine rb_iload_n 0 rfl rfl dX4_isMember_0 ?_
  refine rb_iconst (v := (0 : Int32)) (by decide) dX4_isMember_1 ?_
  refine rb_bipush (v := (11 : Int32)) (by decide) dX4_isMember_2 ?_
  obtain ⟨x1, d3, h1, h2, Kx1⟩ := K
  refine rb_call st_X4_188 (rest := []) h1 rfl rfl mm_rn (Nat.le_of_ble_eq_true rfl) h2.1 h2.2 (Nat.zero_le _) (Nat.zero_le _) dX4_isMember_4 (fun o M' hp => ?_)
  obtain ⟨rfl, hM⟩ := hp
  rw [hM]
  show rb_Bd κ mX4_isMember (0, 0) M 7 [some (.int a0)] [.int x1]
  exact rb_iret rfl (Kx1).1 (Nat.zero_le _) (Nat.zero_le _) dX4_isMember_7 (Kx1).2
theorem sgX4_bodyOf_0 {κ : rb_K} {M : rb_H} {a0 : Int32} {a1 : Int32} {a2 : Int32} (K : ((¬ a1 = (2 : Int32) → (κ.2.2.1 (.returned (some (.int (((25 : Int32) * a0) + (((12 : Int32) * a1) + a2))))) M)) ∧ (a1 = (2 : Int32) → (κ.2.2.1 (.returned (some (.int (((25 : Int32) * a0) + (24 : Int32))))) M)))) : rb_Bd κ mX4_bodyOf (0, 0) M 0 [some (.int a0), some (.int a1), some (.int a2)] [] := by
  refine rb_bipush (v := (25 : Int32)) (by decide) dX4_bodyOf_0 ?_
  refine rb_iload_n 0 rfl rfl dX4_bodyOf_2 ?_
  refine rb_imul (z := ((25 : Int32) * a0)) rfl dX4_bodyOf_3 ?_
  refine rb_iload_n 1 rfl rfl dX4_bodyOf_4 ?_
  refine rb_iconst (v := (2 : Int32)) (by decide) dX4_bodyOf_5 ?_
  refine rb_icne 14 (by decide) dX4_bodyOf_6 (fun c1 => ?_) (fun c1 => ?_)
  · skip
    refine rb_bipush (v := (12 : Int32)) (by decide) dX4_bodyOf_14 ?_
    refine rb_iload_n 1 rfl rfl dX4_bodyOf_16 ?_
    refine rb_imul (z := ((12 : Int32) * a1)) rfl dX4_bodyOf_17 ?_
    refine rb_iload_n 2 rfl rfl dX4_bodyOf_18 ?_
    refine rb_iadd (z := (((12 : Int32) * a1) + a2)) rfl dX4_bodyOf_19 ?_
    refine rb_iadd (z := (((25 : Int32) * a0) + (((12 : Int32) * a1) + a2))) rfl dX4_bodyOf_20 ?_
    exact rb_iret rfl rfl (Nat.zero_le _) (Nat.zero_le _) dX4_bodyOf_21 ((K).1 c1)
  · skip
    refine rb_bipush (v := (24 : Int32)) (by decide) dX4_bodyOf_9 ?_
    refine rb_goto 20 (by decide) dX4_bodyOf_11 ?_
    refine rb_iadd (z := (((25 : Int32) * a0) + (24 : Int32))) rfl dX4_bodyOf_20 ?_
    exact rb_iret rfl rfl (Nat.zero_le _) (Nat.zero_le _) dX4_bodyOf_21 ((K).2 c1)
theorem sgX4_act_0 {κ : rb_K} {M0 : rb_H} {h : Nat} {ms : mm_S} {a1 : Int32} {a2 : Int32} {a3 : Int32} (K : (∃ (x1 : Int32) (ms2 : mm_S) (d3 : Nat), mm_C κ.1 yX4_in wX4_in d3 h M0 ms [.int a1, .int (0 : Int32), .int (19 : Int32)] (some (.int x1)) ms2 ∧ rb_dp κ d3 ∧ ((x1 = 0 → (κ.2.2.1 (.returned (some (.int (-1 : Int32)))) (mm_H h ms2 M0))) ∧ (¬ x1 = 0 → (((ms2.1 15 0) < 0 → (((ms2.1 15 0) < 0 → (((ms2.1 15 0) < 0 → (κ.2.2.1 (.returned (some (.int (-4 : Int32)))) (mm_H h ms2 M0))) ∧ (0 ≤ (ms2.1 15 0) → (((ms2.1 24 0) ≤ 0 → (vp_in (ms2.1 15 0) (mm_l 10) ∧ (vp_in (((10 : Int32) * (ms2.1 15 0)) + (ms2.1 10 ((ms2.1 15 0)).toNatClampNeg)) (mm_l 12) ∧ (vp_in (((10 : Int32) * (ms2.1 15 0)) + (ms2.1 10 ((ms2.1 15 0)).toNatClampNeg)) (mm_l 13) ∧ (vp_in (((10 : Int32) * (ms2.1 15 0)) + (ms2.1 10 ((ms2.1 15 0)).toNatClampNeg)) (mm_l 14) ∧ (vp_in (ms2.1 15 0) (mm_l 10) ∧ (vp_in (ms2.1 15 0) (mm_l 10) ∧ (vp_in (ms2.1 15 0) (mm_l 10) ∧ (κ.2.2.1 (.returned (some (.int ((mm_sI ms2 10 ((ms2.1 15 0)).toNatClampNeg ((ms2.1 10 ((ms2.1 15 0)).toNatClampNeg) + (1 : Int32))).1 10 ((ms2.1 15 0)).toNatClampNeg)))) (mm_H h (mm_sI (mm_sI (mm_sI (mm_sI ms2 12 ((((10 : Int32) * (ms2.1 15 0)) + (ms2.1 10 ((ms2.1 15 0)).toNatClampNeg))).toNatClampNeg a1) 13 ((((10 : Int32) * (ms2.1 15 0)) + (ms2.1 10 ((ms2.1 15 0)).toNatClampNeg))).toNatClampNeg a2) 14 ((((10 : Int32) * (ms2.1 15 0)) + (ms2.1 10 ((ms2.1 15 0)).toNatClampNeg))).toNatClampNeg a3) 10 ((ms2.1 15 0)).toNatClampNeg ((ms2.1 10 ((ms2.1 15 0)).toNatClampNeg) + (1 : Int32))) M0)))))))))) ∧ (0 < (ms2.1 24 0) → (κ.2.2.1 (.returned (some (.int (-4 : Int32)))) (mm_H h ms2 M0))))))) ∧ (0 ≤ (ms2.1 15 0) → (vp_in (ms2.1 15 0) (mm_l 10) ∧ ((¬ (ms2.1 10 ((ms2.1 15 0)).toNatClampNeg) = (10 : Int32) → (((ms2.1 15 0) < 0 → (κ.2.2.1 (.returned (some (.int (-4 : Int32)))) (mm_H h ms2 M0))) ∧ (0 ≤ (ms2.1 15 0) → (((ms2.1 24 0) ≤ 0 → (vp_in (ms2.1 15 0) (mm_l 10) ∧ (vp_in (((10 : Int32) * (ms2.1 15 0)) + (ms2.1 10 ((ms2.1 15 0)).toNatClampNeg)) (mm_l 12) ∧ (vp_in (((10 : Int32) * (ms2.1 15 0)) + (ms2.1 10 ((ms2.1 15 0)).toNatClampNeg)) (mm_l 13) ∧ (vp_in (((10 : Int32) * (ms2.1 15 0)) + (ms2.1 10 ((ms2.1 15 0)).toNatClampNeg)) (mm_l 14) ∧ (vp_in (ms2.1 15 0) (mm_l 10) ∧ (vp_in (ms2.1 15 0) (mm_l 10) ∧ (vp_in (ms2.1 15 0) (mm_l 10) ∧ (κ.2.2.1 (.returned (some (.int ((mm_sI ms2 10 ((ms2.1 15 0)).toNatClampNeg ((ms2.1 10 ((ms2.1 15 0)).toNatClampNeg) + (1 : Int32))).1 10 ((ms2.1 15 0)).toNatClampNeg)))) (mm_H h (mm_sI (mm_sI (mm_sI (mm_sI ms2 12 ((((10 : Int32) * (ms2.1 15 0)) + (ms2.1 10 ((ms2.1 15 0)).toNatClampNeg))).toNatClampNeg a1) 13 ((((10 : Int32) * (ms2.1 15 0)) + (ms2.1 10 ((ms2.1 15 0)).toNatClampNeg))).toNatClampNeg a2) 14 ((((10 : Int32) * (ms2.1 15 0)) + (ms2.1 10 ((ms2.1 15 0)).toNatClampNeg))).toNatClampNeg a3) 10 ((ms2.1 15 0)).toNatClampNeg ((ms2.1 10 ((ms2.1 15 0)).toNatClampNeg) + (1 : Int32))) M0)))))))))) ∧ (0 < (ms2.1 24 0) → (κ.2.2.1 (.returned (some (.int (-4 : Int32)))) (mm_H h ms2 M0))))))) ∧ ((ms2.1 10 ((ms2.1 15 0)).toNatClampNeg) = (10 : Int32) → (κ.2.2.1 (.returned (some (.int (-2 : Int32)))) (mm_H h ms2 M0)))))))) ∧ (0 ≤ (ms2.1 15 0) → (∃ (x12 : Int32) (ms13 : mm_S) (d14 : Nat), mm_C κ.1 yX4_isRight wX4_isRight d14 h M0 ms2 [.ref h, .int a1, .int ((ms2.1 15 0) / (25 : Int32)), .int a2, .int a3] (some (.int x12)) ms13 ∧ rb_dp κ d14 ∧ ((¬ x12 = 0 → (((ms13.1 15 0) < 0 → (((ms13.1 15 0) < 0 → (κ.2.2.1 (.returned (some (.int (-4 : Int32)))) (mm_H h ms13 M0))) ∧ (0 ≤ (ms13.1 15 0) → (((ms13.1 24 0) ≤ 0 → (vp_in (ms13.1 15 0) (mm_l 10) ∧ (vp_in (((10 : Int32) * (ms13.1 15 0)) + (ms13.1 10 ((ms13.1 15 0)).toNatClampNeg)) (mm_l 12) ∧ (vp_in (((10 : Int32) * (ms13.1 15 0)) + (ms13.1 10 ((ms13.1 15 0)).toNatClampNeg)) (mm_l 13) ∧ (vp_in (((10 : Int32) * (ms13.1 15 0)) + (ms13.1 10 ((ms13.1 15 0)).toNatClampNeg)) (mm_l 14) ∧ (vp_in (ms13.1 15 0) (mm_l 10) ∧ (vp_in (ms13.1 15 0) (mm_l 10) ∧ (vp_in (ms13.1 15 0) (mm_l 10) ∧ (κ.2.2.1 (.returned (some (.int ((mm_sI ms13 10 ((ms13.1 15 0)).toNatClampNeg ((ms13.1 10 ((ms13.1 15 0)).toNatClampNeg) + (1 : Int32))).1 10 ((ms13.1 15 0)).toNatClampNeg)))) (mm_H h (mm_sI (mm_sI (mm_sI (mm_sI ms13 12 ((((10 : Int32) * (ms13.1 15 0)) + (ms13.1 10 ((ms13.1 15 0)).toNatClampNeg))).toNatClampNeg a1) 13 ((((10 : Int32) * (ms13.1 15 0)) + (ms13.1 10 ((ms13.1 15 0)).toNatClampNeg))).toNatClampNeg a2) 14 ((((10 : Int32) * (ms13.1 15 0)) + (ms13.1 10 ((ms13.1 15 0)).toNatClampNeg))).toNatClampNeg a3) 10 ((ms13.1 15 0)).toNatClampNeg ((ms13.1 10 ((ms13.1 15 0)).toNatClampNeg) + (1 : Int32))) M0)))))))))) ∧ (0 < (ms13.1 24 0) → (κ.2.2.1 (.returned (some (.int (-4 : Int32)))) (mm_H h ms13 M0))))))) ∧ (0 ≤ (ms13.1 15 0) → (vp_in (ms13.1 15 0) (mm_l 10) ∧ ((¬ (ms13.1 10 ((ms13.1 15 0)).toNatClampNeg) = (10 : Int32) → (((ms13.1 15 0) < 0 → (κ.2.2.1 (.returned (some (.int (-4 : Int32)))) (mm_H h ms13 M0))) ∧ (0 ≤ (ms13.1 15 0) → (((ms13.1 24 0) ≤ 0 → (vp_in (ms13.1 15 0) (mm_l 10) ∧ (vp_in (((10 : Int32) * (ms13.1 15 0)) + (ms13.1 10 ((ms13.1 15 0)).toNatClampNeg)) (mm_l 12) ∧ (vp_in (((10 : Int32) * (ms13.1 15 0)) + (ms13.1 10 ((ms13.1 15 0)).toNatClampNeg)) (mm_l 13) ∧ (vp_in (((10 : Int32) * (ms13.1 15 0)) + (ms13.1 10 ((ms13.1 15 0)).toNatClampNeg)) (mm_l 14) ∧ (vp_in (ms13.1 15 0) (mm_l 10) ∧ (vp_in (ms13.1 15 0) (mm_l 10) ∧ (vp_in (ms13.1 15 0) (mm_l 10) ∧ (κ.2.2.1 (.returned (some (.int ((mm_sI ms13 10 ((ms13.1 15 0)).toNatClampNeg ((ms13.1 10 ((ms13.1 15 0)).toNatClampNeg) + (1 : Int32))).1 10 ((ms13.1 15 0)).toNatClampNeg)))) (mm_H h (mm_sI (mm_sI (mm_sI (mm_sI ms13 12 ((((10 : Int32) * (ms13.1 15 0)) + (ms13.1 10 ((ms13.1 15 0)).toNatClampNeg))).toNatClampNeg a1) 13 ((((10 : Int32) * (ms13.1 15 0)) + (ms13.1 10 ((ms13.1 15 0)).toNatClampNeg))).toNatClampNeg a2) 14 ((((10 : Int32) * (ms13.1 15 0)) + (ms13.1 10 ((ms13.1 15 0)).toNatClampNeg))).toNatClampNeg a3) 10 ((ms13.1 15 0)).toNatClampNeg ((ms13.1 10 ((ms13.1 15 0)).toNatClampNeg) + (1 : Int32))) M0)))))))))) ∧ (0 < (ms13.1 24 0) → (κ.2.2.1 (.returned (some (.int (-4 : Int32)))) (mm_H h ms13 M0))))))) ∧ ((ms13.1 10 ((ms13.1 15 0)).toNatClampNeg) = (10 : Int32) → (κ.2.2.1 (.returned (some (.int (-2 : Int32)))) (mm_H h ms13 M0)))))))) ∧ (x12 = 0 → (κ.2.2.1 (.returned (some (.int (-1 : Int32)))) (mm_H h ms13 M0))))))))))) : rb_Bd κ mX4_act (0, 0) (mm_H h ms M0) 0 [some (.ref h), some (.int a1), some (.int a2), some (.int a3), none] [] := by
  refine rb_iload_n 1 rfl rfl dX4_act_0 ?_
  refine rb_iconst (v := (0 : Int32)) (by decide) dX4_act_1 ?_
  refine rb_bipush (v := (19 : Int32)) (by decide) dX4_act_2 ?_
  obtain ⟨x1, ms2, d3, h1, h2, Kx1⟩ := K
  refine mm_call st_X4_188 (rest := []) h1 rfl rfl mm_rn (Nat.le_of_ble_eq_true rfl) h2 dX4_act_4 ?_
  show rb_Bd κ mX4_act (0, 0) (mm_H h ms2 M0) 7 [some (.ref h), some (.int a1), some (.int a2), some (.int a3), none] [.int x1]
  refine rb_ifeq 34 (by decide) dX4_act_7 (fun c4 => ?_) (fun c4 => ?_)
  · skip
    refine rb_iconst (v := (-1 : Int32)) (by decide) dX4_act_34 ?_
    exact rb_iret rfl rfl (Nat.zero_le _) (Nat.zero_le _) dX4_act_35 ((Kx1).1 c4)
  · skip
    refine rb_aload_n 0 rfl rfl (rb_isR_ref _) dX4_act_10 ?_
    refine mm_getI (v := (ms2.1 15 0)) rfl fl_X4_50 rfl dX4_act_11 ?_
    refine rb_iflt 36 (by decide) dX4_act_14 (fun c5 => ?_) (fun c5 => ?_)
    · skip
      refine rb_aload_n 0 rfl rfl (rb_isR_ref _) dX4_act_36 ?_
      refine mm_getI (v := (ms2.1 15 0)) rfl fl_X4_50 rfl dX4_act_37 ?_
      refine rb_iflt 60 (by decide) dX4_act_40 (fun c6 => ?_) (fun c6 => ?_)
      · skip
        refine rb_aload_n 0 rfl rfl (rb_isR_ref _) dX4_act_60 ?_
        refine mm_getI (v := (ms2.1 15 0)) rfl fl_X4_50 rfl dX4_act_61 ?_
        refine rb_iflt 74 (by decide) dX4_act_64 (fun c7 => ?_) (fun c7 => ?_)
        · skip
          refine rb_bipush (v := (-4 : Int32)) (by decide) dX4_act_74 ?_
          exact rb_iret rfl rfl (Nat.zero_le _) (Nat.zero_le _) dX4_act_76 ((((((((Kx1).2 c4)).1 c5)).1 c6)).1 c7)
        · skip
          refine rb_aload_n 0 rfl rfl (rb_isR_ref _) dX4_act_67 ?_
          refine mm_getI (v := (ms2.1 24 0)) rfl fl_X4_200 rfl dX4_act_68 ?_
          refine rb_ifle 77 (by decide) dX4_act_71 (fun c8 => ?_) (fun c8 => ?_)
          · skip
            refine rb_bipush (v := (10 : Int32)) (by decide) dX4_act_77 ?_
            refine rb_aload_n 0 rfl rfl (rb_isR_ref _) dX4_act_79 ?_
            refine mm_getI (v := (ms2.1 15 0)) rfl fl_X4_50 rfl dX4_act_80 ?_
            refine rb_imul (z := ((10 : Int32) * (ms2.1 15 0))) rfl dX4_act_83 ?_
            refine rb_aload_n 0 rfl rfl (rb_isR_ref _) dX4_act_84 ?_
            refine mm_getA (t := 2) fl_X4_35 rfl (by decide) dX4_act_85 ?_
            refine rb_aload_n 0 rfl rfl (rb_isR_ref _) dX4_act_88 ?_
            refine mm_getI (v := (ms2.1 15 0)) rfl fl_X4_50 rfl dX4_act_89 ?_
            refine mm_iald (k := 10) (v := (ms2.1 10 ((ms2.1 15 0)).toNatClampNeg)) rfl rfl (((((((((((Kx1).2 c4)).1 c5)).1 c6)).2 c7)).1 c8)).1 dX4_act_92 ?_
            refine rb_iadd (z := (((10 : Int32) * (ms2.1 15 0)) + (ms2.1 10 ((ms2.1 15 0)).toNatClampNeg))) rfl dX4_act_93 ?_
            refine rb_istore (ls' := [some (.ref h), some (.int a1), some (.int a2), some (.int a3), some (.int (((10 : Int32) * (ms2.1 15 0)) + (ms2.1 10 ((ms2.1 15 0)).toNatClampNeg)))]) (by decide) rfl rfl dX4_act_94 ?_
            refine rb_aload_n 0 rfl rfl (rb_isR_ref _) dX4_act_96 ?_
            refine mm_getA (t := 2) fl_X4_41 rfl (by decide) dX4_act_97 ?_
            refine rb_iload rfl dX4_act_100 ?_
            refine rb_iload_n 1 rfl rfl dX4_act_102 ?_
            refine mm_iast (k := 12) rfl ((((((((((((Kx1).2 c4)).1 c5)).1 c6)).2 c7)).1 c8)).2).1 dX4_act_103 ?_
            refine rb_aload_n 0 rfl rfl (rb_isR_ref _) dX4_act_104 ?_
            refine mm_getA (t := 2) fl_X4_44 rfl (by decide) dX4_act_105 ?_
            refine rb_iload rfl dX4_act_108 ?_
            refine rb_iload_n 2 rfl rfl dX4_act_110 ?_
            refine mm_iast (k := 13) rfl (((((((((((((Kx1).2 c4)).1 c5)).1 c6)).2 c7)).1 c8)).2).2).1 dX4_act_111 ?_
            refine rb_aload_n 0 rfl rfl (rb_isR_ref _) dX4_act_112 ?_
            refine mm_getA (t := 2) fl_X4_47 rfl (by decide) dX4_act_113 ?_
            refine rb_iload rfl dX4_act_116 ?_
            refine rb_iload_n 3 rfl rfl dX4_act_118 ?_
            refine mm_iast (k := 14) rfl ((((((((((((((Kx1).2 c4)).1 c5)).1 c6)).2 c7)).1 c8)).2).2).2).1 dX4_act_119 ?_
            refine rb_aload_n 0 rfl rfl (rb_isR_ref _) dX4_act_120 ?_
            refine mm_getA (t := 2) fl_X4_35 rfl (by decide) dX4_act_121 ?_
            refine rb_aload_n 0 rfl rfl (rb_isR_ref _) dX4_act_124 ?_
            refine mm_getI (v := (ms2.1 15 0)) rfl fl_X4_50 rfl dX4_act_125 ?_
            refine rb_dup2 rfl rfl dX4_act_128 ?_
            refine mm_iald (k := 10) (v := (ms2.1 10 ((ms2.1 15 0)).toNatClampNeg)) rfl rfl (((((((((((((((Kx1).2 c4)).1 c5)).1 c6)).2 c7)).1 c8)).2).2).2).2).1 dX4_act_129 ?_
            refine rb_iconst (v := (1 : Int32)) (by decide) dX4_act_130 ?_
            refine rb_iadd (z := ((ms2.1 10 ((ms2.1 15 0)).toNatClampNeg) + (1 : Int32))) rfl dX4_act_131 ?_
            refine mm_iast (k := 10) rfl ((((((((((((((((Kx1).2 c4)).1 c5)).1 c6)).2 c7)).1 c8)).2).2).2).2).2).1 dX4_act_132 ?_
            refine rb_aload_n 0 rfl rfl (rb_isR_ref _) dX4_act_133 ?_
            refine mm_getA (t := 2) fl_X4_35 rfl (by decide) dX4_act_134 ?_
            refine rb_aload_n 0 rfl rfl (rb_isR_ref _) dX4_act_137 ?_
            refine mm_getI (v := (ms2.1 15 0)) rfl fl_X4_50 rfl dX4_act_138 ?_
            refine mm_iald (k := 10) (v := ((mm_sI ms2 10 ((ms2.1 15 0)).toNatClampNeg ((ms2.1 10 ((ms2.1 15 0)).toNatClampNeg) + (1 : Int32))).1 10 ((ms2.1 15 0)).toNatClampNeg)) rfl rfl (((((((((((((((((Kx1).2 c4)).1 c5)).1 c6)).2 c7)).1 c8)).2).2).2).2).2).2).1 dX4_act_141 ?_
            exact rb_iret rfl rfl (Nat.zero_le _) (Nat.zero_le _) dX4_act_142 (((((((((((((((((Kx1).2 c4)).1 c5)).1 c6)).2 c7)).1 c8)).2).2).2).2).2).2).2
          · skip
            refine rb_bipush (v := (-4 : Int32)) (by decide) dX4_act_74 ?_
            exact rb_iret rfl rfl (Nat.zero_le _) (Nat.zero_le _) dX4_act_76 ((((((((((Kx1).2 c4)).1 c5)).1 c6)).2 c7)).2 c8)
      · skip
        refine rb_aload_n 0 rfl rfl (rb_isR_ref _) dX4_act_43 ?_
        refine mm_getA (t := 2) fl_X4_35 rfl (by decide) dX4_act_44 ?_
        refine rb_aload_n 0 rfl rfl (rb_isR_ref _) dX4_act_47 ?_
        refine mm_getI (v := (ms2.1 15 0)) rfl fl_X4_50 rfl dX4_act_48 ?_
        refine mm_iald (k := 10) (v := (ms2.1 10 ((ms2.1 15 0)).toNatClampNeg)) rfl rfl (((((((Kx1).2 c4)).1 c5)).2 c6)).1 dX4_act_51 ?_
        refine rb_bipush (v := (10 : Int32)) (by decide) dX4_act_52 ?_
        refine rb_icne 60 (by decide) dX4_act_54 (fun c9 => ?_) (fun c9 => ?_)
        · skip
          refine rb_aload_n 0 rfl rfl (rb_isR_ref _) dX4_act_60 ?_
          refine mm_getI (v := (ms2.1 15 0)) rfl fl_X4_50 rfl dX4_act_61 ?_
          refine rb_iflt 74 (by decide) dX4_act_64 (fun c10 => ?_) (fun c10 => ?_)
          · skip
            refine rb_bipush (v := (-4 : Int32)) (by decide) dX4_act_74 ?_
            exact rb_iret rfl rfl (Nat.zero_le _) (Nat.zero_le _) dX4_act_76 (((((((((((Kx1).2 c4)).1 c5)).2 c6)).2).1 c9)).1 c10)
          · skip
            refine rb_aload_n 0 rfl rfl (rb_isR_ref _) dX4_act_67 ?_
            refine mm_getI (v := (ms2.1 24 0)) rfl fl_X4_200 rfl dX4_act_68 ?_
            refine rb_ifle 77 (by decide) dX4_act_71 (fun c11 => ?_) (fun c11 => ?_)
            · skip
              refine rb_bipush (v := (10 : Int32)) (by decide) dX4_act_77 ?_
              refine rb_aload_n 0 rfl rfl (rb_isR_ref _) dX4_act_79 ?_
              refine mm_getI (v := (ms2.1 15 0)) rfl fl_X4_50 rfl dX4_act_80 ?_
              refine rb_imul (z := ((10 : Int32) * (ms2.1 15 0))) rfl dX4_act_83 ?_
              refine rb_aload_n 0 rfl rfl (rb_isR_ref _) dX4_act_84 ?_
              refine mm_getA (t := 2) fl_X4_35 rfl (by decide) dX4_act_85 ?_
              refine rb_aload_n 0 rfl rfl (rb_isR_ref _) dX4_act_88 ?_
              refine mm_getI (v := (ms2.1 15 0)) rfl fl_X4_50 rfl dX4_act_89 ?_
              refine mm_iald (k := 10) (v := (ms2.1 10 ((ms2.1 15 0)).toNatClampNeg)) rfl rfl ((((((((((((((Kx1).2 c4)).1 c5)).2 c6)).2).1 c9)).2 c10)).1 c11)).1 dX4_act_92 ?_
              refine rb_iadd (z := (((10 : Int32) * (ms2.1 15 0)) + (ms2.1 10 ((ms2.1 15 0)).toNatClampNeg))) rfl dX4_act_93 ?_
              refine rb_istore (ls' := [some (.ref h), some (.int a1), some (.int a2), some (.int a3), some (.int (((10 : Int32) * (ms2.1 15 0)) + (ms2.1 10 ((ms2.1 15 0)).toNatClampNeg)))]) (by decide) rfl rfl dX4_act_94 ?_
              refine rb_aload_n 0 rfl rfl (rb_isR_ref _) dX4_act_96 ?_
              refine mm_getA (t := 2) fl_X4_41 rfl (by decide) dX4_act_97 ?_
              refine rb_iload rfl dX4_act_100 ?_
              refine rb_iload_n 1 rfl rfl dX4_act_102 ?_
              refine mm_iast (k := 12) rfl (((((((((((((((Kx1).2 c4)).1 c5)).2 c6)).2).1 c9)).2 c10)).1 c11)).2).1 dX4_act_103 ?_
              refine rb_aload_n 0 rfl rfl (rb_isR_ref _) dX4_act_104 ?_
              refine mm_getA (t := 2) fl_X4_44 rfl (by decide) dX4_act_105 ?_
              refine rb_iload rfl dX4_act_108 ?_
              refine rb_iload_n 2 rfl rfl dX4_act_110 ?_
              refine mm_iast (k := 13) rfl ((((((((((((((((Kx1).2 c4)).1 c5)).2 c6)).2).1 c9)).2 c10)).1 c11)).2).2).1 dX4_act_111 ?_
              refine rb_aload_n 0 rfl rfl (rb_isR_ref _) dX4_act_112 ?_
              refine mm_getA (t := 2) fl_X4_47 rfl (by decide) dX4_act_113 ?_
              refine rb_iload rfl dX4_act_116 ?_
              refine rb_iload_n 3 rfl rfl dX4_act_118 ?_
              refine mm_iast (k := 14) rfl (((((((((((((((((Kx1).2 c4)).1 c5)).2 c6)).2).1 c9)).2 c10)).1 c11)).2).2).2).1 dX4_act_119 ?_
              refine rb_aload_n 0 rfl rfl (rb_isR_ref _) dX4_act_120 ?_
              refine mm_getA (t := 2) fl_X4_35 rfl (by decide) dX4_act_121 ?_
              refine rb_aload_n 0 rfl rfl (rb_isR_ref _) dX4_act_124 ?_
              refine mm_getI (v := (ms2.1 15 0)) rfl fl_X4_50 rfl dX4_act_125 ?_
              refine rb_dup2 rfl rfl dX4_act_128 ?_
              refine mm_iald (k := 10) (v := (ms2.1 10 ((ms2.1 15 0)).toNatClampNeg)) rfl rfl ((((((((((((((((((Kx1).2 c4)).1 c5)).2 c6)).2).1 c9)).2 c10)).1 c11)).2).2).2).2).1 dX4_act_129 ?_
              refine rb_iconst (v := (1 : Int32)) (by decide) dX4_act_130 ?_
              refine rb_iadd (z := ((ms2.1 10 ((ms2.1 15 0)).toNatClampNeg) + (1 : Int32))) rfl dX4_act_131 ?_
              refine mm_iast (k := 10) rfl (((((((((((((((((((Kx1).2 c4)).1 c5)).2 c6)).2).1 c9)).2 c10)).1 c11)).2).2).2).2).2).1 dX4_act_132 ?_
              refine rb_aload_n 0 rfl rfl (rb_isR_ref _) dX4_act_133 ?_
              refine mm_getA (t := 2) fl_X4_35 rfl (by decide) dX4_act_134 ?_
              refine rb_aload_n 0 rfl rfl (rb_isR_ref _) dX4_act_137 ?_
              refine mm_getI (v := (ms2.1 15 0)) rfl fl_X4_50 rfl dX4_act_138 ?_
              refine mm_iald (k := 10) (v := ((mm_sI ms2 10 ((ms2.1 15 0)).toNatClampNeg ((ms2.1 10 ((ms2.1 15 0)).toNatClampNeg) + (1 : Int32))).1 10 ((ms2.1 15 0)).toNatClampNeg)) rfl rfl ((((((((((((((((((((Kx1).2 c4)).1 c5)).2 c6)).2).1 c9)).2 c10)).1 c11)).2).2).2).2).2).2).1 dX4_act_141 ?_
              exact rb_iret rfl rfl (Nat.zero_le _) (Nat.zero_le _) dX4_act_142 ((((((((((((((((((((Kx1).2 c4)).1 c5)).2 c6)).2).1 c9)).2 c10)).1 c11)).2).2).2).2).2).2).2
            · skip
              refine rb_bipush (v := (-4 : Int32)) (by decide) dX4_act_74 ?_
              exact rb_iret rfl rfl (Nat.zero_le _) (Nat.zero_le _) dX4_act_76 (((((((((((((Kx1).2 c4)).1 c5)).2 c6)).2).1 c9)).2 c10)).2 c11)
        · skip
          refine rb_bipush (v := (-2 : Int32)) (by decide) dX4_act_57 ?_
          exact rb_iret rfl rfl (Nat.zero_le _) (Nat.zero_le _) dX4_act_59 (((((((((Kx1).2 c4)).1 c5)).2 c6)).2).2 c9)
    · skip
      refine rb_aload_n 0 rfl rfl (rb_isR_ref _) dX4_act_17 ?_
      refine rb_iload_n 1 rfl rfl dX4_act_18 ?_
      refine rb_aload_n 0 rfl rfl (rb_isR_ref _) dX4_act_19 ?_
      refine mm_getI (v := (ms2.1 15 0)) rfl fl_X4_50 rfl dX4_act_20 ?_
      refine rb_bipush (v := (25 : Int32)) (by decide) dX4_act_23 ?_
      refine rb_idiv (z := ((ms2.1 15 0) / (25 : Int32))) (by decide) rfl dX4_act_25 ?_
      refine rb_iload_n 2 rfl rfl dX4_act_26 ?_
      refine rb_iload_n 3 rfl rfl dX4_act_27 ?_
      obtain ⟨x12, ms13, d14, h1, h2, Kx12⟩ := ((((Kx1).2 c4)).2 c5)
      refine mm_call st_X4_213 (rest := []) h1 rfl rfl mm_rc (Nat.le_of_ble_eq_true rfl) h2 dX4_act_28 ?_
      show rb_Bd κ mX4_act (0, 0) (mm_H h ms13 M0) 31 [some (.ref h), some (.int a1), some (.int a2), some (.int a3), none] [.int x12]
      refine rb_ifne 36 (by decide) dX4_act_31 (fun c15 => ?_) (fun c15 => ?_)
      · skip
        refine rb_aload_n 0 rfl rfl (rb_isR_ref _) dX4_act_36 ?_
        refine mm_getI (v := (ms13.1 15 0)) rfl fl_X4_50 rfl dX4_act_37 ?_
        refine rb_iflt 60 (by decide) dX4_act_40 (fun c16 => ?_) (fun c16 => ?_)
        · skip
          refine rb_aload_n 0 rfl rfl (rb_isR_ref _) dX4_act_60 ?_
          refine mm_getI (v := (ms13.1 15 0)) rfl fl_X4_50 rfl dX4_act_61 ?_
          refine rb_iflt 74 (by decide) dX4_act_64 (fun c17 => ?_) (fun c17 => ?_)
          · skip
            refine rb_bipush (v := (-4 : Int32)) (by decide) dX4_act_74 ?_
            exact rb_iret rfl rfl (Nat.zero_le _) (Nat.zero_le _) dX4_act_76 ((((((Kx12).1 c15)).1 c16)).1 c17)
          · skip
            refine rb_aload_n 0 rfl rfl (rb_isR_ref _) dX4_act_67 ?_
            refine mm_getI (v := (ms13.1 24 0)) rfl fl_X4_200 rfl dX4_act_68 ?_
            refine rb_ifle 77 (by decide) dX4_act_71 (fun c18 => ?_) (fun c18 => ?_)
            · skip
              refine rb_bipush (v := (10 : Int32)) (by decide) dX4_act_77 ?_
              refine rb_aload_n 0 rfl rfl (rb_isR_ref _) dX4_act_79 ?_
              refine mm_getI (v := (ms13.1 15 0)) rfl fl_X4_50 rfl dX4_act_80 ?_
              refine rb_imul (z := ((10 : Int32) * (ms13.1 15 0))) rfl dX4_act_83 ?_
              refine rb_aload_n 0 rfl rfl (rb_isR_ref _) dX4_act_84 ?_
              refine mm_getA (t := 2) fl_X4_35 rfl (by decide) dX4_act_85 ?_
              refine rb_aload_n 0 rfl rfl (rb_isR_ref _) dX4_act_88 ?_
              refine mm_getI (v := (ms13.1 15 0)) rfl fl_X4_50 rfl dX4_act_89 ?_
              refine mm_iald (k := 10) (v := (ms13.1 10 ((ms13.1 15 0)).toNatClampNeg)) rfl rfl (((((((((Kx12).1 c15)).1 c16)).2 c17)).1 c18)).1 dX4_act_92 ?_
              refine rb_iadd (z := (((10 : Int32) * (ms13.1 15 0)) + (ms13.1 10 ((ms13.1 15 0)).toNatClampNeg))) rfl dX4_act_93 ?_
              refine rb_istore (ls' := [some (.ref h), some (.int a1), some (.int a2), some (.int a3), some (.int (((10 : Int32) * (ms13.1 15 0)) + (ms13.1 10 ((ms13.1 15 0)).toNatClampNeg)))]) (by decide) rfl rfl dX4_act_94 ?_
              refine rb_aload_n 0 rfl rfl (rb_isR_ref _) dX4_act_96 ?_
              refine mm_getA (t := 2) fl_X4_41 rfl (by decide) dX4_act_97 ?_
              refine rb_iload rfl dX4_act_100 ?_
              refine rb_iload_n 1 rfl rfl dX4_act_102 ?_
              refine mm_iast (k := 12) rfl ((((((((((Kx12).1 c15)).1 c16)).2 c17)).1 c18)).2).1 dX4_act_103 ?_
              refine rb_aload_n 0 rfl rfl (rb_isR_ref _) dX4_act_104 ?_
              refine mm_getA (t := 2) fl_X4_44 rfl (by decide) dX4_act_105 ?_
              refine rb_iload rfl dX4_act_108 ?_
              refine rb_iload_n 2 rfl rfl dX4_act_110 ?_
              refine mm_iast (k := 13) rfl (((((((((((Kx12).1 c15)).1 c16)).2 c17)).1 c18)).2).2).1 dX4_act_111 ?_
              refine rb_aload_n 0 rfl rfl (rb_isR_ref _) dX4_act_112 ?_
              refine mm_getA (t := 2) fl_X4_47 rfl (by decide) dX4_act_113 ?_
              refine rb_iload rfl dX4_act_116 ?_
              refine rb_iload_n 3 rfl rfl dX4_act_118 ?_
              refine mm_iast (k := 14) rfl ((((((((((((Kx12).1 c15)).1 c16)).2 c17)).1 c18)).2).2).2).1 dX4_act_119 ?_
              refine rb_aload_n 0 rfl rfl (rb_isR_ref _) dX4_act_120 ?_
              refine mm_getA (t := 2) fl_X4_35 rfl (by decide) dX4_act_121 ?_
              refine rb_aload_n 0 rfl rfl (rb_isR_ref _) dX4_act_124 ?_
              refine mm_getI (v := (ms13.1 15 0)) rfl fl_X4_50 rfl dX4_act_125 ?_
              refine rb_dup2 rfl rfl dX4_act_128 ?_
              refine mm_iald (k := 10) (v := (ms13.1 10 ((ms13.1 15 0)).toNatClampNeg)) rfl rfl (((((((((((((Kx12).1 c15)).1 c16)).2 c17)).1 c18)).2).2).2).2).1 dX4_act_129 ?_
              refine rb_iconst (v := (1 : Int32)) (by decide) dX4_act_130 ?_
              refine rb_iadd (z := ((ms13.1 10 ((ms13.1 15 0)).toNatClampNeg) + (1 : Int32))) rfl dX4_act_131 ?_
              refine mm_iast (k := 10) rfl ((((((((((((((Kx12).1 c15)).1 c16)).2 c17)).1 c18)).2).2).2).2).2).1 dX4_act_132 ?_
              refine rb_aload_n 0 rfl rfl (rb_isR_ref _) dX4_act_133 ?_
              refine mm_getA (t := 2) fl_X4_35 rfl (by decide) dX4_act_134 ?_
              refine rb_aload_n 0 rfl rfl (rb_isR_ref _) dX4_act_137 ?_
              refine mm_getI (v := (ms13.1 15 0)) rfl fl_X4_50 rfl dX4_act_138 ?_
              refine mm_iald (k := 10) (v := ((mm_sI ms13 10 ((ms13.1 15 0)).toNatClampNeg ((ms13.1 10 ((ms13.1 15 0)).toNatClampNeg) + (1 : Int32))).1 10 ((ms13.1 15 0)).toNatClampNeg)) rfl rfl (((((((((((((((Kx12).1 c15)).1 c16)).2 c17)).1 c18)).2).2).2).2).2).2).1 dX4_act_141 ?_
              exact rb_iret rfl rfl (Nat.zero_le _) (Nat.zero_le _) dX4_act_142 (((((((((((((((Kx12).1 c15)).1 c16)).2 c17)).1 c18)).2).2).2).2).2).2).2
            · skip
              refine rb_bipush (v := (-4 : Int32)) (by decide) dX4_act_74 ?_
              exact rb_iret rfl rfl (Nat.zero_le _) (Nat.zero_le _) dX4_act_76 ((((((((Kx12).1 c15)).1 c16)).2 c17)).2 c18)
        · skip
          refine rb_aload_n 0 rfl rfl (rb_isR_ref _) dX4_act_43 ?_
          refine mm_getA (t := 2) fl_X4_35 rfl (by decide) dX4_act_44 ?_
          refine rb_aload_n 0 rfl rfl (rb_isR_ref _) dX4_act_47 ?_
          refine mm_getI (v := (ms13.1 15 0)) rfl fl_X4_50 rfl dX4_act_48 ?_
          refine mm_iald (k := 10) (v := (ms13.1 10 ((ms13.1 15 0)).toNatClampNeg)) rfl rfl (((((Kx12).1 c15)).2 c16)).1 dX4_act_51 ?_
          refine rb_bipush (v := (10 : Int32)) (by decide) dX4_act_52 ?_
          refine rb_icne 60 (by decide) dX4_act_54 (fun c19 => ?_) (fun c19 => ?_)
          · skip
            refine rb_aload_n 0 rfl rfl (rb_isR_ref _) dX4_act_60 ?_
            refine mm_getI (v := (ms13.1 15 0)) rfl fl_X4_50 rfl dX4_act_61 ?_
            refine rb_iflt 74 (by decide) dX4_act_64 (fun c20 => ?_) (fun c20 => ?_)
            · skip
              refine rb_bipush (v := (-4 : Int32)) (by decide) dX4_act_74 ?_
              exact rb_iret rfl rfl (Nat.zero_le _) (Nat.zero_le _) dX4_act_76 (((((((((Kx12).1 c15)).2 c16)).2).1 c19)).1 c20)
            · skip
              refine rb_aload_n 0 rfl rfl (rb_isR_ref _) dX4_act_67 ?_
              refine mm_getI (v := (ms13.1 24 0)) rfl fl_X4_200 rfl dX4_act_68 ?_
              refine rb_ifle 77 (by decide) dX4_act_71 (fun c21 => ?_) (fun c21 => ?_)
              · skip
                refine rb_bipush (v := (10 : Int32)) (by decide) dX4_act_77 ?_
                refine rb_aload_n 0 rfl rfl (rb_isR_ref _) dX4_act_79 ?_
                refine mm_getI (v := (ms13.1 15 0)) rfl fl_X4_50 rfl dX4_act_80 ?_
                refine rb_imul (z := ((10 : Int32) * (ms13.1 15 0))) rfl dX4_act_83 ?_
                refine rb_aload_n 0 rfl rfl (rb_isR_ref _) dX4_act_84 ?_
                refine mm_getA (t := 2) fl_X4_35 rfl (by decide) dX4_act_85 ?_
                refine rb_aload_n 0 rfl rfl (rb_isR_ref _) dX4_act_88 ?_
                refine mm_getI (v := (ms13.1 15 0)) rfl fl_X4_50 rfl dX4_act_89 ?_
                refine mm_iald (k := 10) (v := (ms13.1 10 ((ms13.1 15 0)).toNatClampNeg)) rfl rfl ((((((((((((Kx12).1 c15)).2 c16)).2).1 c19)).2 c20)).1 c21)).1 dX4_act_92 ?_
                refine rb_iadd (z := (((10 : Int32) * (ms13.1 15 0)) + (ms13.1 10 ((ms13.1 15 0)).toNatClampNeg))) rfl dX4_act_93 ?_
                refine rb_istore (ls' := [some (.ref h), some (.int a1), some (.int a2), some (.int a3), some (.int (((10 : Int32) * (ms13.1 15 0)) + (ms13.1 10 ((ms13.1 15 0)).toNatClampNeg)))]) (by decide) rfl rfl dX4_act_94 ?_
                refine rb_aload_n 0 rfl rfl (rb_isR_ref _) dX4_act_96 ?_
                refine mm_getA (t := 2) fl_X4_41 rfl (by decide) dX4_act_97 ?_
                refine rb_iload rfl dX4_act_100 ?_
                refine rb_iload_n 1 rfl rfl dX4_act_102 ?_
                refine mm_iast (k := 12) rfl (((((((((((((Kx12).1 c15)).2 c16)).2).1 c19)).2 c20)).1 c21)).2).1 dX4_act_103 ?_
                refine rb_aload_n 0 rfl rfl (rb_isR_ref _) dX4_act_104 ?_
                refine mm_getA (t := 2) fl_X4_44 rfl (by decide) dX4_act_105 ?_
                refine rb_iload rfl dX4_act_108 ?_
                refine rb_iload_n 2 rfl rfl dX4_act_110 ?_
                refine mm_iast (k := 13) rfl ((((((((((((((Kx12).1 c15)).2 c16)).2).1 c19)).2 c20)).1 c21)).2).2).1 dX4_act_111 ?_
                refine rb_aload_n 0 rfl rfl (rb_isR_ref _) dX4_act_112 ?_
                refine mm_getA (t := 2) fl_X4_47 rfl (by decide) dX4_act_113 ?_
                refine rb_iload rfl dX4_act_116 ?_
                refine rb_iload_n 3 rfl rfl dX4_act_118 ?_
                refine mm_iast (k := 14) rfl (((((((((((((((Kx12).1 c15)).2 c16)).2).1 c19)).2 c20)).1 c21)).2).2).2).1 dX4_act_119 ?_
                refine rb_aload_n 0 rfl rfl (rb_isR_ref _) dX4_act_120 ?_
                refine mm_getA (t := 2) fl_X4_35 rfl (by decide) dX4_act_121 ?_
                refine rb_aload_n 0 rfl rfl (rb_isR_ref _) dX4_act_124 ?_
                refine mm_getI (v := (ms13.1 15 0)) rfl fl_X4_50 rfl dX4_act_125 ?_
                refine rb_dup2 rfl rfl dX4_act_128 ?_
                refine mm_iald (k := 10) (v := (ms13.1 10 ((ms13.1 15 0)).toNatClampNeg)) rfl rfl ((((((((((((((((Kx12).1 c15)).2 c16)).2).1 c19)).2 c20)).1 c21)).2).2).2).2).1 dX4_act_129 ?_
                refine rb_iconst (v := (1 : Int32)) (by decide) dX4_act_130 ?_
                refine rb_iadd (z := ((ms13.1 10 ((ms13.1 15 0)).toNatClampNeg) + (1 : Int32))) rfl dX4_act_131 ?_
                refine mm_iast (k := 10) rfl (((((((((((((((((Kx12).1 c15)).2 c16)).2).1 c19)).2 c20)).1 c21)).2).2).2).2).2).1 dX4_act_132 ?_
                refine rb_aload_n 0 rfl rfl (rb_isR_ref _) dX4_act_133 ?_
                refine mm_getA (t := 2) fl_X4_35 rfl (by decide) dX4_act_134 ?_
                refine rb_aload_n 0 rfl rfl (rb_isR_ref _) dX4_act_137 ?_
                refine mm_getI (v := (ms13.1 15 0)) rfl fl_X4_50 rfl dX4_act_138 ?_
                refine mm_iald (k := 10) (v := ((mm_sI ms13 10 ((ms13.1 15 0)).toNatClampNeg ((ms13.1 10 ((ms13.1 15 0)).toNatClampNeg) + (1 : Int32))).1 10 ((ms13.1 15 0)).toNatClampNeg)) rfl rfl ((((((((((((((((((Kx12).1 c15)).2 c16)).2).1 c19)).2 c20)).1 c21)).2).2).2).2).2).2).1 dX4_act_141 ?_
                exact rb_iret rfl rfl (Nat.zero_le _) (Nat.zero_le _) dX4_act_142 ((((((((((((((((((Kx12).1 c15)).2 c16)).2).1 c19)).2 c20)).1 c21)).2).2).2).2).2).2).2
              · skip
                refine rb_bipush (v := (-4 : Int32)) (by decide) dX4_act_74 ?_
                exact rb_iret rfl rfl (Nat.zero_le _) (Nat.zero_le _) dX4_act_76 (((((((((((Kx12).1 c15)).2 c16)).2).1 c19)).2 c20)).2 c21)
          · skip
            refine rb_bipush (v := (-2 : Int32)) (by decide) dX4_act_57 ?_
            exact rb_iret rfl rfl (Nat.zero_le _) (Nat.zero_le _) dX4_act_59 (((((((Kx12).1 c15)).2 c16)).2).2 c19)
      · skip
        refine rb_iconst (v := (-1 : Int32)) (by decide) dX4_act_34 ?_
        exact rb_iret rfl rfl (Nat.zero_le _) (Nat.zero_le _) dX4_act_35 ((Kx12).2 c15)
theorem sgX4_isRight_0 {κ : rb_K} {M0 : rb_H} {h : Nat} {ms : mm_S} {a1 : Int32} {a2 : Int32} {a3 : Int32} {a4 : Int32} (K : ((((a1).toInt < 0 ∨ 19 < (a1).toInt) → (κ.2.2.1 (.returned (some (.int (1 : Int32)))) (mm_H h ms M0))) ∧ ((a1).toInt = 0 → (∃ (x2 : Int32) (ms3 : mm_S) (d4 : Nat), mm_C κ.1 yX4_in wX4_in d4 h M0 ms [.int a3, .int (-1000 : Int32), .int (1000 : Int32)] (some (.int x2)) ms3 ∧ rb_dp κ d4 ∧ (narrow .boolean (.int x2) = .int x2 ∧ κ.2.2.1 (.returned (some (.int x2))) (mm_H h ms3 M0)))) ∧ ((a1).toInt = 1 → (κ.2.2.1 (.returned (some (.int (1 : Int32)))) (mm_H h ms M0))) ∧ ((a1).toInt = 2 → (∃ (x5 : Int32) (ms6 : mm_S) (d7 : Nat), mm_C κ.1 yX4_in wX4_in d7 h M0 ms [.int a3, .int (-1000 : Int32), .int (1000 : Int32)] (some (.int x5)) ms6 ∧ rb_dp κ d7 ∧ (narrow .boolean (.int x5) = .int x5 ∧ κ.2.2.1 (.returned (some (.int x5))) (mm_H h ms6 M0)))) ∧ ((a1).toInt = 3 → (∃ (x8 : Int32) (ms9 : mm_S) (d10 : Nat), mm_C κ.1 yX4_in wX4_in d10 h M0 ms [.int a3, .int (-1000 : Int32), .int (1000 : Int32)] (some (.int x8)) ms9 ∧ rb_dp κ d10 ∧ (narrow .boolean (.int x8) = .int x8 ∧ κ.2.2.1 (.returned (some (.int x8))) (mm_H h ms9 M0)))) ∧ ((a1).toInt = 4 → (vp_in a2 (mm_l 1) ∧ (∃ (x11 : Int32) (ms12 : mm_S) (d13 : Nat), mm_C κ.1 yX4_in wX4_in d13 h M0 ms [.int a3, .int (0 : Int32), .int ((ms.1 1 (a2).toNatClampNeg) - (1 : Int32))] (some (.int x11)) ms12 ∧ rb_dp κ d13 ∧ (narrow .boolean (.int x11) = .int x11 ∧ κ.2.2.1 (.returned (some (.int x11))) (mm_H h ms12 M0))))) ∧ ((a1).toInt = 5 → (vp_in a2 (mm_l 1) ∧ (∃ (x14 : Int32) (ms15 : mm_S) (d16 : Nat), mm_C κ.1 yX4_in wX4_in d16 h M0 ms [.int a3, .int (0 : Int32), .int ((ms.1 1 (a2).toNatClampNeg) - (1 : Int32))] (some (.int x14)) ms15 ∧ rb_dp κ d16 ∧ (narrow .boolean (.int x14) = .int x14 ∧ κ.2.2.1 (.returned (some (.int x14))) (mm_H h ms15 M0))))) ∧ ((a1).toInt = 6 → (vp_in a2 (mm_l 1) ∧ (∃ (x17 : Int32) (ms18 : mm_S) (d19 : Nat), mm_C κ.1 yX4_in wX4_in d19 h M0 ms [.int a3, .int (0 : Int32), .int ((ms.1 1 (a2).toNatClampNeg) - (1 : Int32))] (some (.int x17)) ms18 ∧ rb_dp κ d19 ∧ (narrow .boolean (.int x17) = .int x17 ∧ κ.2.2.1 (.returned (some (.int x17))) (mm_H h ms18 M0))))) ∧ ((a1).toInt = 7 → (∃ (x20 : Int32) (ms21 : mm_S) (d22 : Nat), mm_C κ.1 yX4_in wX4_in d22 h M0 ms [.int a3, .int (0 : Int32), .int (7 : Int32)] (some (.int x20)) ms21 ∧ rb_dp κ d22 ∧ (narrow .boolean (.int x20) = .int x20 ∧ κ.2.2.1 (.returned (some (.int x20))) (mm_H h ms21 M0)))) ∧ ((a1).toInt = 8 → (∃ (x23 : Int32) (ms24 : mm_S) (d25 : Nat), mm_C κ.1 yX4_in wX4_in d25 h M0 ms [.int a3, .int (0 : Int32), .int (7 : Int32)] (some (.int x23)) ms24 ∧ rb_dp κ d25 ∧ (narrow .boolean (.int x23) = .int x23 ∧ κ.2.2.1 (.returned (some (.int x23))) (mm_H h ms24 M0)))) ∧ ((a1).toInt = 9 → (κ.2.2.1 (.returned (some (.int (1 : Int32)))) (mm_H h ms M0))) ∧ ((a1).toInt = 10 → (∃ (x26 : Int32) (ms27 : mm_S) (d28 : Nat), mm_C κ.1 yX4_isMember wX4_isMember d28 h M0 ms [.int a3] (some (.int x26)) ms27 ∧ rb_dp κ d28 ∧ (narrow .boolean (.int x26) = .int x26 ∧ κ.2.2.1 (.returned (some (.int x26))) (mm_H h ms27 M0)))) ∧ ((a1).toInt = 11 → (∃ (x29 : Int32) (ms30 : mm_S) (d31 : Nat), mm_C κ.1 yX4_in wX4_in d31 h M0 ms [.int a3, .int (0 : Int32), .int (3 : Int32)] (some (.int x29)) ms30 ∧ rb_dp κ d31 ∧ (narrow .boolean (.int x29) = .int x29 ∧ κ.2.2.1 (.returned (some (.int x29))) (mm_H h ms30 M0)))) ∧ ((a1).toInt = 12 → (∃ (x32 : Int32) (ms33 : mm_S) (d34 : Nat), mm_C κ.1 yX4_in wX4_in d34 h M0 ms [.int a3, .int (0 : Int32), .int (10 : Int32)] (some (.int x32)) ms33 ∧ rb_dp κ d34 ∧ (narrow .boolean (.int x32) = .int x32 ∧ κ.2.2.1 (.returned (some (.int x32))) (mm_H h ms33 M0)))) ∧ ((a1).toInt = 13 → (∃ (x35 : Int32) (ms36 : mm_S) (d37 : Nat), mm_C κ.1 yX4_in wX4_in d37 h M0 ms [.int a3, .int (0 : Int32), .int (9 : Int32)] (some (.int x35)) ms36 ∧ rb_dp κ d37 ∧ (narrow .boolean (.int x35) = .int x35 ∧ κ.2.2.1 (.returned (some (.int x35))) (mm_H h ms36 M0)))) ∧ ((a1).toInt = 14 → (κ.2.2.1 (.returned (some (.int (1 : Int32)))) (mm_H h ms M0))) ∧ ((a1).toInt = 15 → (vp_in a2 (mm_l 2) ∧ (∃ (x38 : Int32) (ms39 : mm_S) (d40 : Nat), mm_C κ.1 yX4_in wX4_in d40 h M0 ms [.int a3, .int (0 : Int32), .int ((ms.1 2 (a2).toNatClampNeg) - (1 : Int32))] (some (.int x38)) ms39 ∧ rb_dp κ d40 ∧ (narrow .boolean (.int x38) = .int x38 ∧ κ.2.2.1 (.returned (some (.int x38))) (mm_H h ms39 M0))))) ∧ ((a1).toInt = 16 → (vp_in a2 (mm_l 2) ∧ (∃ (x41 : Int32) (ms42 : mm_S) (d43 : Nat), mm_C κ.1 yX4_in wX4_in d43 h M0 ms [.int a3, .int (0 : Int32), .int ((ms.1 2 (a2).toNatClampNeg) - (1 : Int32))] (some (.int x41)) ms42 ∧ rb_dp κ d43 ∧ ((x41 = 0 → (κ.2.2.1 (.returned (some (.int (0 : Int32)))) (mm_H h ms42 M0))) ∧ (¬ x41 = 0 → (vp_in a2 (mm_l 1) ∧ (∃ (x45 : Int32) (ms46 : mm_S) (d47 : Nat), mm_C κ.1 yX4_in wX4_in d47 h M0 ms42 [.int a4, .int (0 : Int32), .int ((ms42.1 1 (a2).toNatClampNeg) - (1 : Int32))] (some (.int x45)) ms46 ∧ rb_dp κ d47 ∧ ((x45 = 0 → (κ.2.2.1 (.returned (some (.int (0 : Int32)))) (mm_H h ms46 M0))) ∧ (¬ x45 = 0 → (κ.2.2.1 (.returned (some (.int (1 : Int32)))) (mm_H h ms46 M0))))))))))) ∧ ((a1).toInt = 17 → (vp_in a2 (mm_l 2) ∧ (∃ (x49 : Int32) (ms50 : mm_S) (d51 : Nat), mm_C κ.1 yX4_in wX4_in d51 h M0 ms [.int a3, .int (0 : Int32), .int ((ms.1 2 (a2).toNatClampNeg) - (1 : Int32))] (some (.int x49)) ms50 ∧ rb_dp κ d51 ∧ ((x49 = 0 → (κ.2.2.1 (.returned (some (.int (0 : Int32)))) (mm_H h ms50 M0))) ∧ (¬ x49 = 0 → (vp_in a2 (mm_l 1) ∧ (∃ (x53 : Int32) (ms54 : mm_S) (d55 : Nat), mm_C κ.1 yX4_in wX4_in d55 h M0 ms50 [.int a4, .int (0 : Int32), .int ((ms50.1 1 (a2).toNatClampNeg) - (1 : Int32))] (some (.int x53)) ms54 ∧ rb_dp κ d55 ∧ ((x53 = 0 → (κ.2.2.1 (.returned (some (.int (0 : Int32)))) (mm_H h ms54 M0))) ∧ (¬ x53 = 0 → (κ.2.2.1 (.returned (some (.int (1 : Int32)))) (mm_H h ms54 M0))))))))))) ∧ ((a1).toInt = 18 → (vp_in a2 (mm_l 3) ∧ (∃ (x57 : Int32) (ms58 : mm_S) (d59 : Nat), mm_C κ.1 yX4_in wX4_in d59 h M0 ms [.int a3, .int (0 : Int32), .int ((ms.1 3 (a2).toNatClampNeg) - (1 : Int32))] (some (.int x57)) ms58 ∧ rb_dp κ d59 ∧ ((x57 = 0 → (κ.2.2.1 (.returned (some (.int (0 : Int32)))) (mm_H h ms58 M0))) ∧ (¬ x57 = 0 → (∃ (x61 : Int32) (ms62 : mm_S) (d63 : Nat), mm_C κ.1 yX4_isMember wX4_isMember d63 h M0 ms58 [.int a4] (some (.int x61)) ms62 ∧ rb_dp κ d63 ∧ ((x61 = 0 → (κ.2.2.1 (.returned (some (.int (0 : Int32)))) (mm_H h ms62 M0))) ∧ (¬ x61 = 0 → (κ.2.2.1 (.returned (some (.int (1 : Int32)))) (mm_H h ms62 M0)))))))))) ∧ ((a1).toInt = 19 → (vp_in a2 (mm_l 3) ∧ (∃ (x65 : Int32) (ms66 : mm_S) (d67 : Nat), mm_C κ.1 yX4_in wX4_in d67 h M0 ms [.int a3, .int (0 : Int32), .int ((ms.1 3 (a2).toNatClampNeg) - (1 : Int32))] (some (.int x65)) ms66 ∧ rb_dp κ d67 ∧ ((x65 = 0 → (κ.2.2.1 (.returned (some (.int (0 : Int32)))) (mm_H h ms66 M0))) ∧ (¬ x65 = 0 → (∃ (x69 : Int32) (ms70 : mm_S) (d71 : Nat), mm_C κ.1 yX4_in wX4_in d71 h M0 ms66 [.int a4, .int (0 : Int32), .int (23 : Int32)] (some (.int x69)) ms70 ∧ rb_dp κ d71 ∧ ((x69 = 0 → (κ.2.2.1 (.returned (some (.int (0 : Int32)))) (mm_H h ms70 M0))) ∧ (¬ x69 = 0 → (κ.2.2.1 (.returned (some (.int (1 : Int32)))) (mm_H h ms70 M0)))))))))))) : rb_Bd κ mX4_isRight (0, 0) (mm_H h ms M0) 0 [some (.ref h), some (.int a1), some (.int a2), some (.int a3), some (.int a4)] [] := by
  refine rb_iload_n 1 rfl rfl dX4_isRight_0 ?_
  rcases mm_sw19 (a1).toInt 0 with c1 | c1 | c1 | c1 | c1 | c1 | c1 | c1 | c1 | c1 | c1 | c1 | c1 | c1 | c1 | c1 | c1 | c1 | c1 | c1 | c1
  · skip
    refine rb_tableOut 273 (by omega) (by decide) dX4_isRight_1 ?_
    refine rb_iconst (v := (1 : Int32)) (by decide) dX4_isRight_273 ?_
    exact rb_iret rfl (by decide) (Nat.zero_le _) (Nat.zero_le _) dX4_isRight_274 ((K).1 (by omega))
  · skip
    refine rb_tableIn 96 (by omega) (by omega) (off := 95) (by rw [c1]; rfl) (by decide) dX4_isRight_1 ?_
    refine rb_iload_n 3 rfl rfl dX4_isRight_96 ?_
    refine rb_sipush (v := (-1000 : Int32)) (by decide) dX4_isRight_97 ?_
    refine rb_sipush (v := (1000 : Int32)) (by decide) dX4_isRight_100 ?_
    obtain ⟨x2, ms3, d4, h1, h2, Kx2⟩ := ((K).2.1 c1)
    refine mm_call st_X4_188 (rest := []) h1 rfl rfl mm_rn (Nat.le_of_ble_eq_true rfl) h2 dX4_isRight_103 ?_
    show rb_Bd κ mX4_isRight (0, 0) (mm_H h ms3 M0) 106 [some (.ref h), some (.int a1), some (.int a2), some (.int a3), some (.int a4)] [.int x2]
    exact rb_iret rfl (Kx2).1 (Nat.zero_le _) (Nat.zero_le _) dX4_isRight_106 (Kx2).2
  · skip
    refine rb_tableIn 273 (by omega) (by omega) (off := 272) (by rw [c1]; rfl) (by decide) dX4_isRight_1 ?_
    refine rb_iconst (v := (1 : Int32)) (by decide) dX4_isRight_273 ?_
    exact rb_iret rfl (by decide) (Nat.zero_le _) (Nat.zero_le _) dX4_isRight_274 ((K).2.2.1 c1)
  · skip
    refine rb_tableIn 96 (by omega) (by omega) (off := 95) (by rw [c1]; rfl) (by decide) dX4_isRight_1 ?_
    refine rb_iload_n 3 rfl rfl dX4_isRight_96 ?_
    refine rb_sipush (v := (-1000 : Int32)) (by decide) dX4_isRight_97 ?_
    refine rb_sipush (v := (1000 : Int32)) (by decide) dX4_isRight_100 ?_
    obtain ⟨x5, ms6, d7, h1, h2, Kx5⟩ := ((K).2.2.2.1 c1)
    refine mm_call st_X4_188 (rest := []) h1 rfl rfl mm_rn (Nat.le_of_ble_eq_true rfl) h2 dX4_isRight_103 ?_
    show rb_Bd κ mX4_isRight (0, 0) (mm_H h ms6 M0) 106 [some (.ref h), some (.int a1), some (.int a2), some (.int a3), some (.int a4)] [.int x5]
    exact rb_iret rfl (Kx5).1 (Nat.zero_le _) (Nat.zero_le _) dX4_isRight_106 (Kx5).2
  · skip
    refine rb_tableIn 96 (by omega) (by omega) (off := 95) (by rw [c1]; rfl) (by decide) dX4_isRight_1 ?_
    refine rb_iload_n 3 rfl rfl dX4_isRight_96 ?_
    refine rb_sipush (v := (-1000 : Int32)) (by decide) dX4_isRight_97 ?_
    refine rb_sipush (v := (1000 : Int32)) (by decide) dX4_isRight_100 ?_
    obtain ⟨x8, ms9, d10, h1, h2, Kx8⟩ := ((K).2.2.2.2.1 c1)
    refine mm_call st_X4_188 (rest := []) h1 rfl rfl mm_rn (Nat.le_of_ble_eq_true rfl) h2 dX4_isRight_103 ?_
    show rb_Bd κ mX4_isRight (0, 0) (mm_H h ms9 M0) 106 [some (.ref h), some (.int a1), some (.int a2), some (.int a3), some (.int a4)] [.int x8]
    exact rb_iret rfl (Kx8).1 (Nat.zero_le _) (Nat.zero_le _) dX4_isRight_106 (Kx8).2
  · skip
    refine rb_tableIn 107 (by omega) (by omega) (off := 106) (by rw [c1]; rfl) (by decide) dX4_isRight_1 ?_
    refine rb_iload_n 3 rfl rfl dX4_isRight_107 ?_
    refine rb_iconst (v := (0 : Int32)) (by decide) dX4_isRight_108 ?_
    refine rb_aload_n 0 rfl rfl (rb_isR_ref _) dX4_isRight_109 ?_
    refine mm_getA (t := 2) fl_X4_7 rfl (by decide) dX4_isRight_110 ?_
    refine rb_iload_n 2 rfl rfl dX4_isRight_113 ?_
    refine mm_iald (k := 1) (v := (ms.1 1 (a2).toNatClampNeg)) rfl rfl (((K).2.2.2.2.2.1 c1)).1 dX4_isRight_114 ?_
    refine rb_iconst (v := (1 : Int32)) (by decide) dX4_isRight_115 ?_
    refine rb_isub (z := ((ms.1 1 (a2).toNatClampNeg) - (1 : Int32))) rfl dX4_isRight_116 ?_
    obtain ⟨x11, ms12, d13, h1, h2, Kx11⟩ := (((K).2.2.2.2.2.1 c1)).2
    refine mm_call st_X4_188 (rest := []) h1 rfl rfl mm_rn (Nat.le_of_ble_eq_true rfl) h2 dX4_isRight_117 ?_
    show rb_Bd κ mX4_isRight (0, 0) (mm_H h ms12 M0) 120 [some (.ref h), some (.int a1), some (.int a2), some (.int a3), some (.int a4)] [.int x11]
    exact rb_iret rfl (Kx11).1 (Nat.zero_le _) (Nat.zero_le _) dX4_isRight_120 (Kx11).2
  · skip
    refine rb_tableIn 107 (by omega) (by omega) (off := 106) (by rw [c1]; rfl) (by decide) dX4_isRight_1 ?_
    refine rb_iload_n 3 rfl rfl dX4_isRight_107 ?_
    refine rb_iconst (v := (0 : Int32)) (by decide) dX4_isRight_108 ?_
    refine rb_aload_n 0 rfl rfl (rb_isR_ref _) dX4_isRight_109 ?_
    refine mm_getA (t := 2) fl_X4_7 rfl (by decide) dX4_isRight_110 ?_
    refine rb_iload_n 2 rfl rfl dX4_isRight_113 ?_
    refine mm_iald (k := 1) (v := (ms.1 1 (a2).toNatClampNeg)) rfl rfl (((K).2.2.2.2.2.2.1 c1)).1 dX4_isRight_114 ?_
    refine rb_iconst (v := (1 : Int32)) (by decide) dX4_isRight_115 ?_
    refine rb_isub (z := ((ms.1 1 (a2).toNatClampNeg) - (1 : Int32))) rfl dX4_isRight_116 ?_
    obtain ⟨x14, ms15, d16, h1, h2, Kx14⟩ := (((K).2.2.2.2.2.2.1 c1)).2
    refine mm_call st_X4_188 (rest := []) h1 rfl rfl mm_rn (Nat.le_of_ble_eq_true rfl) h2 dX4_isRight_117 ?_
    show rb_Bd κ mX4_isRight (0, 0) (mm_H h ms15 M0) 120 [some (.ref h), some (.int a1), some (.int a2), some (.int a3), some (.int a4)] [.int x14]
    exact rb_iret rfl (Kx14).1 (Nat.zero_le _) (Nat.zero_le _) dX4_isRight_120 (Kx14).2
  · skip
    refine rb_tableIn 107 (by omega) (by omega) (off := 106) (by rw [c1]; rfl) (by decide) dX4_isRight_1 ?_
    refine rb_iload_n 3 rfl rfl dX4_isRight_107 ?_
    refine rb_iconst (v := (0 : Int32)) (by decide) dX4_isRight_108 ?_
    refine rb_aload_n 0 rfl rfl (rb_isR_ref _) dX4_isRight_109 ?_
    refine mm_getA (t := 2) fl_X4_7 rfl (by decide) dX4_isRight_110 ?_
    refine rb_iload_n 2 rfl rfl dX4_isRight_113 ?_
    refine mm_iald (k := 1) (v := (ms.1 1 (a2).toNatClampNeg)) rfl rfl (((K).2.2.2.2.2.2.2.1 c1)).1 dX4_isRight_114 ?_
    refine rb_iconst (v := (1 : Int32)) (by decide) dX4_isRight_115 ?_
    refine rb_isub (z := ((ms.1 1 (a2).toNatClampNeg) - (1 : Int32))) rfl dX4_isRight_116 ?_
    obtain ⟨x17, ms18, d19, h1, h2, Kx17⟩ := (((K).2.2.2.2.2.2.2.1 c1)).2
    refine mm_call st_X4_188 (rest := []) h1 rfl rfl mm_rn (Nat.le_of_ble_eq_true rfl) h2 dX4_isRight_117 ?_
    show rb_Bd κ mX4_isRight (0, 0) (mm_H h ms18 M0) 120 [some (.ref h), some (.int a1), some (.int a2), some (.int a3), some (.int a4)] [.int x17]
    exact rb_iret rfl (Kx17).1 (Nat.zero_le _) (Nat.zero_le _) dX4_isRight_120 (Kx17).2
  · skip
    refine rb_tableIn 121 (by omega) (by omega) (off := 120) (by rw [c1]; rfl) (by decide) dX4_isRight_1 ?_
    refine rb_iload_n 3 rfl rfl dX4_isRight_121 ?_
    refine rb_iconst (v := (0 : Int32)) (by decide) dX4_isRight_122 ?_
    refine rb_bipush (v := (7 : Int32)) (by decide) dX4_isRight_123 ?_
    obtain ⟨x20, ms21, d22, h1, h2, Kx20⟩ := ((K).2.2.2.2.2.2.2.2.1 c1)
    refine mm_call st_X4_188 (rest := []) h1 rfl rfl mm_rn (Nat.le_of_ble_eq_true rfl) h2 dX4_isRight_125 ?_
    show rb_Bd κ mX4_isRight (0, 0) (mm_H h ms21 M0) 128 [some (.ref h), some (.int a1), some (.int a2), some (.int a3), some (.int a4)] [.int x20]
    exact rb_iret rfl (Kx20).1 (Nat.zero_le _) (Nat.zero_le _) dX4_isRight_128 (Kx20).2
  · skip
    refine rb_tableIn 121 (by omega) (by omega) (off := 120) (by rw [c1]; rfl) (by decide) dX4_isRight_1 ?_
    refine rb_iload_n 3 rfl rfl dX4_isRight_121 ?_
    refine rb_iconst (v := (0 : Int32)) (by decide) dX4_isRight_122 ?_
    refine rb_bipush (v := (7 : Int32)) (by decide) dX4_isRight_123 ?_
    obtain ⟨x23, ms24, d25, h1, h2, Kx23⟩ := ((K).2.2.2.2.2.2.2.2.2.1 c1)
    refine mm_call st_X4_188 (rest := []) h1 rfl rfl mm_rn (Nat.le_of_ble_eq_true rfl) h2 dX4_isRight_125 ?_
    show rb_Bd κ mX4_isRight (0, 0) (mm_H h ms24 M0) 128 [some (.ref h), some (.int a1), some (.int a2), some (.int a3), some (.int a4)] [.int x23]
    exact rb_iret rfl (Kx23).1 (Nat.zero_le _) (Nat.zero_le _) dX4_isRight_128 (Kx23).2
  · skip
    refine rb_tableIn 273 (by omega) (by omega) (off := 272) (by rw [c1]; rfl) (by decide) dX4_isRight_1 ?_
    refine rb_iconst (v := (1 : Int32)) (by decide) dX4_isRight_273 ?_
    exact rb_iret rfl (by decide) (Nat.zero_le _) (Nat.zero_le _) dX4_isRight_274 ((K).2.2.2.2.2.2.2.2.2.2.1 c1)
  · skip
    refine rb_tableIn 129 (by omega) (by omega) (off := 128) (by rw [c1]; rfl) (by decide) dX4_isRight_1 ?_
    refine rb_iload_n 3 rfl rfl dX4_isRight_129 ?_
    obtain ⟨x26, ms27, d28, h1, h2, Kx26⟩ := ((K).2.2.2.2.2.2.2.2.2.2.2.1 c1)
    refine mm_call st_X4_206 (rest := []) h1 rfl rfl mm_rn (Nat.le_of_ble_eq_true rfl) h2 dX4_isRight_130 ?_
    show rb_Bd κ mX4_isRight (0, 0) (mm_H h ms27 M0) 133 [some (.ref h), some (.int a1), some (.int a2), some (.int a3), some (.int a4)] [.int x26]
    exact rb_iret rfl (Kx26).1 (Nat.zero_le _) (Nat.zero_le _) dX4_isRight_133 (Kx26).2
  · skip
    refine rb_tableIn 134 (by omega) (by omega) (off := 133) (by rw [c1]; rfl) (by decide) dX4_isRight_1 ?_
    refine rb_iload_n 3 rfl rfl dX4_isRight_134 ?_
    refine rb_iconst (v := (0 : Int32)) (by decide) dX4_isRight_135 ?_
    refine rb_iconst (v := (3 : Int32)) (by decide) dX4_isRight_136 ?_
    obtain ⟨x29, ms30, d31, h1, h2, Kx29⟩ := ((K).2.2.2.2.2.2.2.2.2.2.2.2.1 c1)
    refine mm_call st_X4_188 (rest := []) h1 rfl rfl mm_rn (Nat.le_of_ble_eq_true rfl) h2 dX4_isRight_137 ?_
    show rb_Bd κ mX4_isRight (0, 0) (mm_H h ms30 M0) 140 [some (.ref h), some (.int a1), some (.int a2), some (.int a3), some (.int a4)] [.int x29]
    exact rb_iret rfl (Kx29).1 (Nat.zero_le _) (Nat.zero_le _) dX4_isRight_140 (Kx29).2
  · skip
    refine rb_tableIn 141 (by omega) (by omega) (off := 140) (by rw [c1]; rfl) (by decide) dX4_isRight_1 ?_
    refine rb_iload_n 3 rfl rfl dX4_isRight_141 ?_
    refine rb_iconst (v := (0 : Int32)) (by decide) dX4_isRight_142 ?_
    refine rb_bipush (v := (10 : Int32)) (by decide) dX4_isRight_143 ?_
    obtain ⟨x32, ms33, d34, h1, h2, Kx32⟩ := ((K).2.2.2.2.2.2.2.2.2.2.2.2.2.1 c1)
    refine mm_call st_X4_188 (rest := []) h1 rfl rfl mm_rn (Nat.le_of_ble_eq_true rfl) h2 dX4_isRight_145 ?_
    show rb_Bd κ mX4_isRight (0, 0) (mm_H h ms33 M0) 148 [some (.ref h), some (.int a1), some (.int a2), some (.int a3), some (.int a4)] [.int x32]
    exact rb_iret rfl (Kx32).1 (Nat.zero_le _) (Nat.zero_le _) dX4_isRight_148 (Kx32).2
  · skip
    refine rb_tableIn 149 (by omega) (by omega) (off := 148) (by rw [c1]; rfl) (by decide) dX4_isRight_1 ?_
    refine rb_iload_n 3 rfl rfl dX4_isRight_149 ?_
    refine rb_iconst (v := (0 : Int32)) (by decide) dX4_isRight_150 ?_
    refine rb_bipush (v := (9 : Int32)) (by decide) dX4_isRight_151 ?_
    obtain ⟨x35, ms36, d37, h1, h2, Kx35⟩ := ((K).2.2.2.2.2.2.2.2.2.2.2.2.2.2.1 c1)
    refine mm_call st_X4_188 (rest := []) h1 rfl rfl mm_rn (Nat.le_of_ble_eq_true rfl) h2 dX4_isRight_153 ?_
    show rb_Bd κ mX4_isRight (0, 0) (mm_H h ms36 M0) 156 [some (.ref h), some (.int a1), some (.int a2), some (.int a3), some (.int a4)] [.int x35]
    exact rb_iret rfl (Kx35).1 (Nat.zero_le _) (Nat.zero_le _) dX4_isRight_156 (Kx35).2
  · skip
    refine rb_tableIn 273 (by omega) (by omega) (off := 272) (by rw [c1]; rfl) (by decide) dX4_isRight_1 ?_
    refine rb_iconst (v := (1 : Int32)) (by decide) dX4_isRight_273 ?_
    exact rb_iret rfl (by decide) (Nat.zero_le _) (Nat.zero_le _) dX4_isRight_274 ((K).2.2.2.2.2.2.2.2.2.2.2.2.2.2.2.1 c1)
  · skip
    refine rb_tableIn 157 (by omega) (by omega) (off := 156) (by rw [c1]; rfl) (by decide) dX4_isRight_1 ?_
    refine rb_iload_n 3 rfl rfl dX4_isRight_157 ?_
    refine rb_iconst (v := (0 : Int32)) (by decide) dX4_isRight_158 ?_
    refine rb_aload_n 0 rfl rfl (rb_isR_ref _) dX4_isRight_159 ?_
    refine mm_getA (t := 2) fl_X4_13 rfl (by decide) dX4_isRight_160 ?_
    refine rb_iload_n 2 rfl rfl dX4_isRight_163 ?_
    refine mm_iald (k := 2) (v := (ms.1 2 (a2).toNatClampNeg)) rfl rfl (((K).2.2.2.2.2.2.2.2.2.2.2.2.2.2.2.2.1 c1)).1 dX4_isRight_164 ?_
    refine rb_iconst (v := (1 : Int32)) (by decide) dX4_isRight_165 ?_
    refine rb_isub (z := ((ms.1 2 (a2).toNatClampNeg) - (1 : Int32))) rfl dX4_isRight_166 ?_
    obtain ⟨x38, ms39, d40, h1, h2, Kx38⟩ := (((K).2.2.2.2.2.2.2.2.2.2.2.2.2.2.2.2.1 c1)).2
    refine mm_call st_X4_188 (rest := []) h1 rfl rfl mm_rn (Nat.le_of_ble_eq_true rfl) h2 dX4_isRight_167 ?_
    show rb_Bd κ mX4_isRight (0, 0) (mm_H h ms39 M0) 170 [some (.ref h), some (.int a1), some (.int a2), some (.int a3), some (.int a4)] [.int x38]
    exact rb_iret rfl (Kx38).1 (Nat.zero_le _) (Nat.zero_le _) dX4_isRight_170 (Kx38).2
  · skip
    refine rb_tableIn 171 (by omega) (by omega) (off := 170) (by rw [c1]; rfl) (by decide) dX4_isRight_1 ?_
    refine rb_iload_n 3 rfl rfl dX4_isRight_171 ?_
    refine rb_iconst (v := (0 : Int32)) (by decide) dX4_isRight_172 ?_
    refine rb_aload_n 0 rfl rfl (rb_isR_ref _) dX4_isRight_173 ?_
    refine mm_getA (t := 2) fl_X4_13 rfl (by decide) dX4_isRight_174 ?_
    refine rb_iload_n 2 rfl rfl dX4_isRight_177 ?_
    refine mm_iald (k := 2) (v := (ms.1 2 (a2).toNatClampNeg)) rfl rfl (((K).2.2.2.2.2.2.2.2.2.2.2.2.2.2.2.2.2.1 c1)).1 dX4_isRight_178 ?_
    refine rb_iconst (v := (1 : Int32)) (by decide) dX4_isRight_179 ?_
    refine rb_isub (z := ((ms.1 2 (a2).toNatClampNeg) - (1 : Int32))) rfl dX4_isRight_180 ?_
    obtain ⟨x41, ms42, d43, h1, h2, Kx41⟩ := (((K).2.2.2.2.2.2.2.2.2.2.2.2.2.2.2.2.2.1 c1)).2
    refine mm_call st_X4_188 (rest := []) h1 rfl rfl mm_rn (Nat.le_of_ble_eq_true rfl) h2 dX4_isRight_181 ?_
    show rb_Bd κ mX4_isRight (0, 0) (mm_H h ms42 M0) 184 [some (.ref h), some (.int a1), some (.int a2), some (.int a3), some (.int a4)] [.int x41]
    refine rb_ifeq 208 (by decide) dX4_isRight_184 (fun c44 => ?_) (fun c44 => ?_)
    · skip
      refine rb_iconst (v := (0 : Int32)) (by decide) dX4_isRight_208 ?_
      exact rb_iret rfl (by decide) (Nat.zero_le _) (Nat.zero_le _) dX4_isRight_209 ((Kx41).1 c44)
    · skip
      refine rb_iload rfl dX4_isRight_187 ?_
      refine rb_iconst (v := (0 : Int32)) (by decide) dX4_isRight_189 ?_
      refine rb_aload_n 0 rfl rfl (rb_isR_ref _) dX4_isRight_190 ?_
      refine mm_getA (t := 2) fl_X4_7 rfl (by decide) dX4_isRight_191 ?_
      refine rb_iload_n 2 rfl rfl dX4_isRight_194 ?_
      refine mm_iald (k := 1) (v := (ms42.1 1 (a2).toNatClampNeg)) rfl rfl (((Kx41).2 c44)).1 dX4_isRight_195 ?_
      refine rb_iconst (v := (1 : Int32)) (by decide) dX4_isRight_196 ?_
      refine rb_isub (z := ((ms42.1 1 (a2).toNatClampNeg) - (1 : Int32))) rfl dX4_isRight_197 ?_
      obtain ⟨x45, ms46, d47, h1, h2, Kx45⟩ := (((Kx41).2 c44)).2
      refine mm_call st_X4_188 (rest := []) h1 rfl rfl mm_rn (Nat.le_of_ble_eq_true rfl) h2 dX4_isRight_198 ?_
      show rb_Bd κ mX4_isRight (0, 0) (mm_H h ms46 M0) 201 [some (.ref h), some (.int a1), some (.int a2), some (.int a3), some (.int a4)] [.int x45]
      refine rb_ifeq 208 (by decide) dX4_isRight_201 (fun c48 => ?_) (fun c48 => ?_)
      · skip
        refine rb_iconst (v := (0 : Int32)) (by decide) dX4_isRight_208 ?_
        exact rb_iret rfl (by decide) (Nat.zero_le _) (Nat.zero_le _) dX4_isRight_209 ((Kx45).1 c48)
      · skip
        refine rb_iconst (v := (1 : Int32)) (by decide) dX4_isRight_204 ?_
        refine rb_goto 209 (by decide) dX4_isRight_205 ?_
        exact rb_iret rfl (by decide) (Nat.zero_le _) (Nat.zero_le _) dX4_isRight_209 ((Kx45).2 c48)
  · skip
    refine rb_tableIn 171 (by omega) (by omega) (off := 170) (by rw [c1]; rfl) (by decide) dX4_isRight_1 ?_
    refine rb_iload_n 3 rfl rfl dX4_isRight_171 ?_
    refine rb_iconst (v := (0 : Int32)) (by decide) dX4_isRight_172 ?_
    refine rb_aload_n 0 rfl rfl (rb_isR_ref _) dX4_isRight_173 ?_
    refine mm_getA (t := 2) fl_X4_13 rfl (by decide) dX4_isRight_174 ?_
    refine rb_iload_n 2 rfl rfl dX4_isRight_177 ?_
    refine mm_iald (k := 2) (v := (ms.1 2 (a2).toNatClampNeg)) rfl rfl (((K).2.2.2.2.2.2.2.2.2.2.2.2.2.2.2.2.2.2.1 c1)).1 dX4_isRight_178 ?_
    refine rb_iconst (v := (1 : Int32)) (by decide) dX4_isRight_179 ?_
    refine rb_isub (z := ((ms.1 2 (a2).toNatClampNeg) - (1 : Int32))) rfl dX4_isRight_180 ?_
    obtain ⟨x49, ms50, d51, h1, h2, Kx49⟩ := (((K).2.2.2.2.2.2.2.2.2.2.2.2.2.2.2.2.2.2.1 c1)).2
    refine mm_call st_X4_188 (rest := []) h1 rfl rfl mm_rn (Nat.le_of_ble_eq_true rfl) h2 dX4_isRight_181 ?_
    show rb_Bd κ mX4_isRight (0, 0) (mm_H h ms50 M0) 184 [some (.ref h), some (.int a1), some (.int a2), some (.int a3), some (.int a4)] [.int x49]
    refine rb_ifeq 208 (by decide) dX4_isRight_184 (fun c52 => ?_) (fun c52 => ?_)
    · skip
      refine rb_iconst (v := (0 : Int32)) (by decide) dX4_isRight_208 ?_
      exact rb_iret rfl (by decide) (Nat.zero_le _) (Nat.zero_le _) dX4_isRight_209 ((Kx49).1 c52)
    · skip
      refine rb_iload rfl dX4_isRight_187 ?_
      refine rb_iconst (v := (0 : Int32)) (by decide) dX4_isRight_189 ?_
      refine rb_aload_n 0 rfl rfl (rb_isR_ref _) dX4_isRight_190 ?_
      refine mm_getA (t := 2) fl_X4_7 rfl (by decide) dX4_isRight_191 ?_
      refine rb_iload_n 2 rfl rfl dX4_isRight_194 ?_
      refine mm_iald (k := 1) (v := (ms50.1 1 (a2).toNatClampNeg)) rfl rfl (((Kx49).2 c52)).1 dX4_isRight_195 ?_
      refine rb_iconst (v := (1 : Int32)) (by decide) dX4_isRight_196 ?_
      refine rb_isub (z := ((ms50.1 1 (a2).toNatClampNeg) - (1 : Int32))) rfl dX4_isRight_197 ?_
      obtain ⟨x53, ms54, d55, h1, h2, Kx53⟩ := (((Kx49).2 c52)).2
      refine mm_call st_X4_188 (rest := []) h1 rfl rfl mm_rn (Nat.le_of_ble_eq_true rfl) h2 dX4_isRight_198 ?_
      show rb_Bd κ mX4_isRight (0, 0) (mm_H h ms54 M0) 201 [some (.ref h), some (.int a1), some (.int a2), some (.int a3), some (.int a4)] [.int x53]
      refine rb_ifeq 208 (by decide) dX4_isRight_201 (fun c56 => ?_) (fun c56 => ?_)
      · skip
        refine rb_iconst (v := (0 : Int32)) (by decide) dX4_isRight_208 ?_
        exact rb_iret rfl (by decide) (Nat.zero_le _) (Nat.zero_le _) dX4_isRight_209 ((Kx53).1 c56)
      · skip
        refine rb_iconst (v := (1 : Int32)) (by decide) dX4_isRight_204 ?_
        refine rb_goto 209 (by decide) dX4_isRight_205 ?_
        exact rb_iret rfl (by decide) (Nat.zero_le _) (Nat.zero_le _) dX4_isRight_209 ((Kx53).2 c56)
  · skip
    refine rb_tableIn 210 (by omega) (by omega) (off := 209) (by rw [c1]; rfl) (by decide) dX4_isRight_1 ?_
    refine rb_iload_n 3 rfl rfl dX4_isRight_210 ?_
    refine rb_iconst (v := (0 : Int32)) (by decide) dX4_isRight_211 ?_
    refine rb_aload_n 0 rfl rfl (rb_isR_ref _) dX4_isRight_212 ?_
    refine mm_getA (t := 2) fl_X4_16 rfl (by decide) dX4_isRight_213 ?_
    refine rb_iload_n 2 rfl rfl dX4_isRight_216 ?_
    refine mm_iald (k := 3) (v := (ms.1 3 (a2).toNatClampNeg)) rfl rfl (((K).2.2.2.2.2.2.2.2.2.2.2.2.2.2.2.2.2.2.2.1 c1)).1 dX4_isRight_217 ?_
    refine rb_iconst (v := (1 : Int32)) (by decide) dX4_isRight_218 ?_
    refine rb_isub (z := ((ms.1 3 (a2).toNatClampNeg) - (1 : Int32))) rfl dX4_isRight_219 ?_
    obtain ⟨x57, ms58, d59, h1, h2, Kx57⟩ := (((K).2.2.2.2.2.2.2.2.2.2.2.2.2.2.2.2.2.2.2.1 c1)).2
    refine mm_call st_X4_188 (rest := []) h1 rfl rfl mm_rn (Nat.le_of_ble_eq_true rfl) h2 dX4_isRight_220 ?_
    show rb_Bd κ mX4_isRight (0, 0) (mm_H h ms58 M0) 223 [some (.ref h), some (.int a1), some (.int a2), some (.int a3), some (.int a4)] [.int x57]
    refine rb_ifeq 238 (by decide) dX4_isRight_223 (fun c60 => ?_) (fun c60 => ?_)
    · skip
      refine rb_iconst (v := (0 : Int32)) (by decide) dX4_isRight_238 ?_
      exact rb_iret rfl (by decide) (Nat.zero_le _) (Nat.zero_le _) dX4_isRight_239 ((Kx57).1 c60)
    · skip
      refine rb_iload rfl dX4_isRight_226 ?_
      obtain ⟨x61, ms62, d63, h1, h2, Kx61⟩ := ((Kx57).2 c60)
      refine mm_call st_X4_206 (rest := []) h1 rfl rfl mm_rn (Nat.le_of_ble_eq_true rfl) h2 dX4_isRight_228 ?_
      show rb_Bd κ mX4_isRight (0, 0) (mm_H h ms62 M0) 231 [some (.ref h), some (.int a1), some (.int a2), some (.int a3), some (.int a4)] [.int x61]
      refine rb_ifeq 238 (by decide) dX4_isRight_231 (fun c64 => ?_) (fun c64 => ?_)
      · skip
        refine rb_iconst (v := (0 : Int32)) (by decide) dX4_isRight_238 ?_
        exact rb_iret rfl (by decide) (Nat.zero_le _) (Nat.zero_le _) dX4_isRight_239 ((Kx61).1 c64)
      · skip
        refine rb_iconst (v := (1 : Int32)) (by decide) dX4_isRight_234 ?_
        refine rb_goto 239 (by decide) dX4_isRight_235 ?_
        exact rb_iret rfl (by decide) (Nat.zero_le _) (Nat.zero_le _) dX4_isRight_239 ((Kx61).2 c64)
  · skip
    refine rb_tableIn 240 (by omega) (by omega) (off := 239) (by rw [c1]; rfl) (by decide) dX4_isRight_1 ?_
    refine rb_iload_n 3 rfl rfl dX4_isRight_240 ?_
    refine rb_iconst (v := (0 : Int32)) (by decide) dX4_isRight_241 ?_
    refine rb_aload_n 0 rfl rfl (rb_isR_ref _) dX4_isRight_242 ?_
    refine mm_getA (t := 2) fl_X4_16 rfl (by decide) dX4_isRight_243 ?_
    refine rb_iload_n 2 rfl rfl dX4_isRight_246 ?_
    refine mm_iald (k := 3) (v := (ms.1 3 (a2).toNatClampNeg)) rfl rfl (((K).2.2.2.2.2.2.2.2.2.2.2.2.2.2.2.2.2.2.2.2 c1)).1 dX4_isRight_247 ?_
    refine rb_iconst (v := (1 : Int32)) (by decide) dX4_isRight_248 ?_
    refine rb_isub (z := ((ms.1 3 (a2).toNatClampNeg) - (1 : Int32))) rfl dX4_isRight_249 ?_
    obtain ⟨x65, ms66, d67, h1, h2, Kx65⟩ := (((K).2.2.2.2.2.2.2.2.2.2.2.2.2.2.2.2.2.2.2.2 c1)).2
    refine mm_call st_X4_188 (rest := []) h1 rfl rfl mm_rn (Nat.le_of_ble_eq_true rfl) h2 dX4_isRight_250 ?_
    show rb_Bd κ mX4_isRight (0, 0) (mm_H h ms66 M0) 253 [some (.ref h), some (.int a1), some (.int a2), some (.int a3), some (.int a4)] [.int x65]
    refine rb_ifeq 271 (by decide) dX4_isRight_253 (fun c68 => ?_) (fun c68 => ?_)
    · skip
      refine rb_iconst (v := (0 : Int32)) (by decide) dX4_isRight_271 ?_
      exact rb_iret rfl (by decide) (Nat.zero_le _) (Nat.zero_le _) dX4_isRight_272 ((Kx65).1 c68)
    · skip
      refine rb_iload rfl dX4_isRight_256 ?_
      refine rb_iconst (v := (0 : Int32)) (by decide) dX4_isRight_258 ?_
      refine rb_bipush (v := (23 : Int32)) (by decide) dX4_isRight_259 ?_
      obtain ⟨x69, ms70, d71, h1, h2, Kx69⟩ := ((Kx65).2 c68)
      refine mm_call st_X4_188 (rest := []) h1 rfl rfl mm_rn (Nat.le_of_ble_eq_true rfl) h2 dX4_isRight_261 ?_
      show rb_Bd κ mX4_isRight (0, 0) (mm_H h ms70 M0) 264 [some (.ref h), some (.int a1), some (.int a2), some (.int a3), some (.int a4)] [.int x69]
      refine rb_ifeq 271 (by decide) dX4_isRight_264 (fun c72 => ?_) (fun c72 => ?_)
      · skip
        refine rb_iconst (v := (0 : Int32)) (by decide) dX4_isRight_271 ?_
        exact rb_iret rfl (by decide) (Nat.zero_le _) (Nat.zero_le _) dX4_isRight_272 ((Kx69).1 c72)
      · skip
        refine rb_iconst (v := (1 : Int32)) (by decide) dX4_isRight_267 ?_
        refine rb_goto 272 (by decide) dX4_isRight_268 ?_
        exact rb_iret rfl (by decide) (Nat.zero_le _) (Nat.zero_le _) dX4_isRight_272 ((Kx69).2 c72)
theorem sgX4_wish_0 {κ : rb_K} {M0 : rb_H} {h : Nat} {ms : mm_S} {a1 : Int32} {a2 : Int32} (K : (∃ (x1 : Int32) (ms2 : mm_S) (d3 : Nat), mm_C κ.1 yX4_isPart wX4_isPart d3 h M0 ms [.ref h, .int a1] (some (.int x1)) ms2 ∧ rb_dp κ d3 ∧ ((x1 = 0 → (κ.2.2.1 (.returned (some (.int (-1 : Int32)))) (mm_H h ms2 M0))) ∧ (¬ x1 = 0 → (∃ (x5 : Int32) (ms6 : mm_S) (d7 : Nat), mm_C κ.1 yX4_isMember wX4_isMember d7 h M0 ms2 [.int a2] (some (.int x5)) ms6 ∧ rb_dp κ d7 ∧ ((¬ x5 = 0 → (((ms6.1 24 0) ≤ 0 → (vp_in (((12 : Int32) * a1) + a2) (mm_l 6) ∧ (κ.2.2.1 (.returned (some (.int (1 : Int32)))) (mm_H h (mm_sI ms6 6 ((((12 : Int32) * a1) + a2)).toNatClampNeg (1 : Int32)) M0)))) ∧ (0 < (ms6.1 24 0) → (κ.2.2.1 (.returned (some (.int (-4 : Int32)))) (mm_H h ms6 M0))))) ∧ (x5 = 0 → (κ.2.2.1 (.returned (some (.int (-1 : Int32)))) (mm_H h ms6 M0))))))))) : rb_Bd κ mX4_wish (0, 0) (mm_H h ms M0) 0 [some (.ref h), some (.int a1), some (.int a2)] [] := by
  refine rb_aload_n 0 rfl rfl (rb_isR_ref _) dX4_wish_0 ?_
  refine rb_iload_n 1 rfl rfl dX4_wish_1 ?_
  obtain ⟨x1, ms2, d3, h1, h2, Kx1⟩ := K
  refine mm_call st_X4_192 (rest := []) h1 rfl rfl mm_rc (Nat.le_of_ble_eq_true rfl) h2 dX4_wish_2 ?_
  show rb_Bd κ mX4_wish (0, 0) (mm_H h ms2 M0) 5 [some (.ref h), some (.int a1), some (.int a2)] [.int x1]
  refine rb_ifeq 15 (by decide) dX4_wish_5 (fun c4 => ?_) (fun c4 => ?_)
  · skip
    refine rb_iconst (v := (-1 : Int32)) (by decide) dX4_wish_15 ?_
    exact rb_iret rfl rfl (Nat.zero_le _) (Nat.zero_le _) dX4_wish_16 ((Kx1).1 c4)
  · skip
    refine rb_iload_n 2 rfl rfl dX4_wish_8 ?_
    obtain ⟨x5, ms6, d7, h1, h2, Kx5⟩ := ((Kx1).2 c4)
    refine mm_call st_X4_206 (rest := []) h1 rfl rfl mm_rn (Nat.le_of_ble_eq_true rfl) h2 dX4_wish_9 ?_
    show rb_Bd κ mX4_wish (0, 0) (mm_H h ms6 M0) 12 [some (.ref h), some (.int a1), some (.int a2)] [.int x5]
    refine rb_ifne 17 (by decide) dX4_wish_12 (fun c8 => ?_) (fun c8 => ?_)
    · skip
      refine rb_aload_n 0 rfl rfl (rb_isR_ref _) dX4_wish_17 ?_
      refine mm_getI (v := (ms6.1 24 0)) rfl fl_X4_200 rfl dX4_wish_18 ?_
      refine rb_ifle 27 (by decide) dX4_wish_21 (fun c9 => ?_) (fun c9 => ?_)
      · skip
        refine rb_aload_n 0 rfl rfl (rb_isR_ref _) dX4_wish_27 ?_
        refine mm_getA (t := 4) fl_X4_25 rfl (by decide) dX4_wish_28 ?_
        refine rb_bipush (v := (12 : Int32)) (by decide) dX4_wish_31 ?_
        refine rb_iload_n 1 rfl rfl dX4_wish_33 ?_
        refine rb_imul (z := ((12 : Int32) * a1)) rfl dX4_wish_34 ?_
        refine rb_iload_n 2 rfl rfl dX4_wish_35 ?_
        refine rb_iadd (z := (((12 : Int32) * a1) + a2)) rfl dX4_wish_36 ?_
        refine rb_iconst (v := (1 : Int32)) (by decide) dX4_wish_37 ?_
        refine mm_zast (k := 6) (y := (1 : Int32)) rfl (((((Kx5).1 c8)).1 c9)).1 (by decide) dX4_wish_38 ?_
        refine rb_iconst (v := (1 : Int32)) (by decide) dX4_wish_39 ?_
        exact rb_iret rfl rfl (Nat.zero_le _) (Nat.zero_le _) dX4_wish_40 (((((Kx5).1 c8)).1 c9)).2
      · skip
        refine rb_bipush (v := (-4 : Int32)) (by decide) dX4_wish_24 ?_
        exact rb_iret rfl rfl (Nat.zero_le _) (Nat.zero_le _) dX4_wish_26 ((((Kx5).1 c8)).2 c9)
    · skip
      refine rb_iconst (v := (-1 : Int32)) (by decide) dX4_wish_15 ?_
      exact rb_iret rfl rfl (Nat.zero_le _) (Nat.zero_le _) dX4_wish_16 ((Kx5).2 c8)
theorem sgX4_name_0 {κ : rb_K} {M0 : rb_H} {h : Nat} {ms : mm_S} {a1 : Int32} (K : rb_Bd κ mX4_name (0, 0) (mm_H h ms M0) 4 [some (.ref h), some (.int a1), some (.int (0 : Int32)), some (.int (0 : Int32))] []) : rb_Bd κ mX4_name (0, 0) (mm_H h ms M0) 0 [some (.ref h), some (.int a1), none, none] [] := by
  refine rb_iconst (v := (0 : Int32)) (by decide) dX4_name_0 ?_
  refine rb_istore_n 2 rfl (ls' := [some (.ref h), some (.int a1), some (.int (0 : Int32)), none]) (by decide) rfl rfl dX4_name_1 ?_
  refine rb_iconst (v := (0 : Int32)) (by decide) dX4_name_2 ?_
  refine rb_istore_n 3 rfl (ls' := [some (.ref h), some (.int a1), some (.int (0 : Int32)), some (.int (0 : Int32))]) (by decide) rfl rfl dX4_name_3 ?_
  exact K
theorem sgX4_name_4 {κ : rb_K} {M0 : rb_H} {h : Nat} {ms : mm_S} {a1 : Int32} {a2 : Int32} {a3 : Int32} (K : (((ms.1 16 0) ≤ a3 → (∃ (x2 : Int32) (ms3 : mm_S) (d4 : Nat), mm_C κ.1 yX4_isPart wX4_isPart d4 h M0 ms [.ref h, .int a1] (some (.int x2)) ms3 ∧ rb_dp κ d4 ∧ ((x2 = 0 → (κ.2.2.1 (.returned (some (.int (-1 : Int32)))) (mm_H h ms3 M0))) ∧ (¬ x2 = 0 → ((a2 = 0 → ((¬ (ms3.1 16 0) = (8 : Int32) → (vp_in (ms3.1 16 0) (mm_l 17) ∧ (κ.2.2.1 (.returned (some (.int ((ms3.1 16 0) + (1 : Int32))))) (mm_H h (mm_sI (mm_sI ms3 17 ((ms3.1 16 0)).toNatClampNeg a1) 16 0 ((ms3.1 16 0) + (1 : Int32))) M0)))) ∧ ((ms3.1 16 0) = (8 : Int32) → (κ.2.2.1 (.returned (some (.int (-2 : Int32)))) (mm_H h ms3 M0))))) ∧ (¬ a2 = 0 → (κ.2.2.1 (.returned (some (.int (-1 : Int32)))) (mm_H h ms3 M0)))))))) ∧ (a3 < (ms.1 16 0) → ((¬ a2 = 0 → rb_Bd κ mX4_name (0, 0) (mm_H h ms M0) 4 [some (.ref h), some (.int a1), some (.int (1 : Int32)), some (.int (a3 + (1 : Int32)))] []) ∧ (a2 = 0 → (vp_in a3 (mm_l 17) ∧ ((¬ (ms.1 17 (a3).toNatClampNeg) = a1 → rb_Bd κ mX4_name (0, 0) (mm_H h ms M0) 4 [some (.ref h), some (.int a1), some (.int (0 : Int32)), some (.int (a3 + (1 : Int32)))] []) ∧ ((ms.1 17 (a3).toNatClampNeg) = a1 → rb_Bd κ mX4_name (0, 0) (mm_H h ms M0) 4 [some (.ref h), some (.int a1), some (.int (1 : Int32)), some (.int (a3 + (1 : Int32)))] [])))))))) : rb_Bd κ mX4_name (0, 0) (mm_H h ms M0) 4 [some (.ref h), some (.int a1), some (.int a2), some (.int a3)] [] := by
  refine rb_iload_n 3 rfl rfl dX4_name_4 ?_
  refine rb_aload_n 0 rfl rfl (rb_isR_ref _) dX4_name_5 ?_
  refine mm_getI (v := (ms.1 16 0)) rfl fl_X4_217 rfl dX4_name_6 ?_
  refine rb_icge 38 (by decide) dX4_name_9 (fun c1 => ?_) (fun c1 => ?_)
  · skip
    refine rb_aload_n 0 rfl rfl (rb_isR_ref _) dX4_name_38 ?_
    refine rb_iload_n 1 rfl rfl dX4_name_39 ?_
    obtain ⟨x2, ms3, d4, h1, h2, Kx2⟩ := ((K).1 c1)
    refine mm_call st_X4_192 (rest := []) h1 rfl rfl mm_rc (Nat.le_of_ble_eq_true rfl) h2 dX4_name_40 ?_
    show rb_Bd κ mX4_name (0, 0) (mm_H h ms3 M0) 43 [some (.ref h), some (.int a1), some (.int a2), some (.int a3)] [.int x2]
    refine rb_ifeq 50 (by decide) dX4_name_43 (fun c5 => ?_) (fun c5 => ?_)
    · skip
      refine rb_iconst (v := (-1 : Int32)) (by decide) dX4_name_50 ?_
      exact rb_iret rfl rfl (Nat.zero_le _) (Nat.zero_le _) dX4_name_51 ((Kx2).1 c5)
    · skip
      refine rb_iload_n 2 rfl rfl dX4_name_46 ?_
      refine rb_ifeq 52 (by decide) dX4_name_47 (fun c6 => ?_) (fun c6 => ?_)
      · skip
        refine rb_aload_n 0 rfl rfl (rb_isR_ref _) dX4_name_52 ?_
        refine mm_getI (v := (ms3.1 16 0)) rfl fl_X4_217 rfl dX4_name_53 ?_
        refine rb_bipush (v := (8 : Int32)) (by decide) dX4_name_56 ?_
        refine rb_icne 64 (by decide) dX4_name_58 (fun c7 => ?_) (fun c7 => ?_)
        · skip
          refine rb_aload_n 0 rfl rfl (rb_isR_ref _) dX4_name_64 ?_
          refine mm_getA (t := 2) fl_X4_54 rfl (by decide) dX4_name_65 ?_
          refine rb_aload_n 0 rfl rfl (rb_isR_ref _) dX4_name_68 ?_
          refine mm_getI (v := (ms3.1 16 0)) rfl fl_X4_217 rfl dX4_name_69 ?_
          refine rb_iload_n 1 rfl rfl dX4_name_72 ?_
          refine mm_iast (k := 17) rfl (((((((Kx2).2 c5)).1 c6)).1 c7)).1 dX4_name_73 ?_
          refine rb_aload_n 0 rfl rfl (rb_isR_ref _) dX4_name_74 ?_
          refine rb_dup rfl dX4_name_75 ?_
          refine mm_getI (v := (ms3.1 16 0)) rfl fl_X4_217 rfl dX4_name_76 ?_
          refine rb_iconst (v := (1 : Int32)) (by decide) dX4_name_79 ?_
          refine rb_iadd (z := ((ms3.1 16 0) + (1 : Int32))) rfl dX4_name_80 ?_
          refine mm_putI fl_X4_217 rfl dX4_name_81 ?_
          refine rb_aload_n 0 rfl rfl (rb_isR_ref _) dX4_name_84 ?_
          refine mm_getI (v := ((ms3.1 16 0) + (1 : Int32))) rfl fl_X4_217 rfl dX4_name_85 ?_
          exact rb_iret rfl rfl (Nat.zero_le _) (Nat.zero_le _) dX4_name_88 (((((((Kx2).2 c5)).1 c6)).1 c7)).2
        · skip
          refine rb_bipush (v := (-2 : Int32)) (by decide) dX4_name_61 ?_
          exact rb_iret rfl rfl (Nat.zero_le _) (Nat.zero_le _) dX4_name_63 ((((((Kx2).2 c5)).1 c6)).2 c7)
      · skip
        refine rb_iconst (v := (-1 : Int32)) (by decide) dX4_name_50 ?_
        exact rb_iret rfl rfl (Nat.zero_le _) (Nat.zero_le _) dX4_name_51 ((((Kx2).2 c5)).2 c6)
  · skip
    refine rb_iload_n 2 rfl rfl dX4_name_12 ?_
    refine rb_ifne 26 (by decide) dX4_name_13 (fun c8 => ?_) (fun c8 => ?_)
    · skip
      refine rb_iconst (v := (1 : Int32)) (by decide) dX4_name_26 ?_
      refine rb_goto 31 (by decide) dX4_name_27 ?_
      refine rb_istore_n 2 rfl (ls' := [some (.ref h), some (.int a1), some (.int (1 : Int32)), some (.int a3)]) (by decide) rfl rfl dX4_name_31 ?_
      refine rb_iinc (ls' := [some (.ref h), some (.int a1), some (.int (1 : Int32)), some (.int (a3 + (1 : Int32)))]) (v := (a3 + (1 : Int32))) rfl rfl (by decide) rfl rfl dX4_name_32 ?_
      refine rb_goto 4 (by decide) dX4_name_35 ?_
      exact ((((K).2 c1)).1 c8)
    · skip
      refine rb_aload_n 0 rfl rfl (rb_isR_ref _) dX4_name_16 ?_
      refine mm_getA (t := 2) fl_X4_54 rfl (by decide) dX4_name_17 ?_
      refine rb_iload_n 3 rfl rfl dX4_name_20 ?_
      refine mm_iald (k := 17) (v := (ms.1 17 (a3).toNatClampNeg)) rfl rfl (((((K).2 c1)).2 c8)).1 dX4_name_21 ?_
      refine rb_iload_n 1 rfl rfl dX4_name_22 ?_
      refine rb_icne 30 (by decide) dX4_name_23 (fun c9 => ?_) (fun c9 => ?_)
      · skip
        refine rb_iconst (v := (0 : Int32)) (by decide) dX4_name_30 ?_
        refine rb_istore_n 2 rfl (ls' := [some (.ref h), some (.int a1), some (.int (0 : Int32)), some (.int a3)]) (by decide) rfl rfl dX4_name_31 ?_
        refine rb_iinc (ls' := [some (.ref h), some (.int a1), some (.int (0 : Int32)), some (.int (a3 + (1 : Int32)))]) (v := (a3 + (1 : Int32))) rfl rfl (by decide) rfl rfl dX4_name_32 ?_
        refine rb_goto 4 (by decide) dX4_name_35 ?_
        exact (((((((K).2 c1)).2 c8)).2).1 c9)
      · skip
        refine rb_iconst (v := (1 : Int32)) (by decide) dX4_name_26 ?_
        refine rb_goto 31 (by decide) dX4_name_27 ?_
        refine rb_istore_n 2 rfl (ls' := [some (.ref h), some (.int a1), some (.int (1 : Int32)), some (.int a3)]) (by decide) rfl rfl dX4_name_31 ?_
        refine rb_iinc (ls' := [some (.ref h), some (.int a1), some (.int (1 : Int32)), some (.int (a3 + (1 : Int32)))]) (v := (a3 + (1 : Int32))) rfl rfl (by decide) rfl rfl dX4_name_32 ?_
        refine rb_goto 4 (by decide) dX4_name_35 ?_
        exact (((((((K).2 c1)).2 c8)).2).2 c9)
theorem sgX4_exclude_0 {κ : rb_K} {M0 : rb_H} {h : Nat} {ms : mm_S} {a1 : Int32} {a2 : Int32} (K : (∃ (x1 : Int32) (ms2 : mm_S) (d3 : Nat), mm_C κ.1 yX4_isPart wX4_isPart d3 h M0 ms [.ref h, .int a1] (some (.int x1)) ms2 ∧ rb_dp κ d3 ∧ ((x1 = 0 → (κ.2.2.1 (.returned (some (.int (-1 : Int32)))) (mm_H h ms2 M0))) ∧ (¬ x1 = 0 → (∃ (x5 : Int32) (ms6 : mm_S) (d7 : Nat), mm_C κ.1 yX4_isMember wX4_isMember d7 h M0 ms2 [.int a2] (some (.int x5)) ms6 ∧ rb_dp κ d7 ∧ ((¬ x5 = 0 → ((¬ (ms6.1 18 0) = (6 : Int32) → (vp_in (ms6.1 18 0) (mm_l 19) ∧ (vp_in (ms6.1 18 0) (mm_l 20) ∧ (κ.2.2.1 (.returned (some (.int ((ms6.1 18 0) + (1 : Int32))))) (mm_H h (mm_sI (mm_sI (mm_sI ms6 19 ((ms6.1 18 0)).toNatClampNeg a1) 20 ((ms6.1 18 0)).toNatClampNeg a2) 18 0 ((ms6.1 18 0) + (1 : Int32))) M0))))) ∧ ((ms6.1 18 0) = (6 : Int32) → (κ.2.2.1 (.returned (some (.int (-2 : Int32)))) (mm_H h ms6 M0))))) ∧ (x5 = 0 → (κ.2.2.1 (.returned (some (.int (-1 : Int32)))) (mm_H h ms6 M0))))))))) : rb_Bd κ mX4_exclude (0, 0) (mm_H h ms M0) 0 [some (.ref h), some (.int a1), some (.int a2)] [] := by
  refine rb_aload_n 0 rfl rfl (rb_isR_ref _) dX4_exclude_0 ?_
  refine rb_iload_n 1 rfl rfl dX4_exclude_1 ?_
  obtain ⟨x1, ms2, d3, h1, h2, Kx1⟩ := K
  refine mm_call st_X4_192 (rest := []) h1 rfl rfl mm_rc (Nat.le_of_ble_eq_true rfl) h2 dX4_exclude_2 ?_
  show rb_Bd κ mX4_exclude (0, 0) (mm_H h ms2 M0) 5 [some (.ref h), some (.int a1), some (.int a2)] [.int x1]
  refine rb_ifeq 15 (by decide) dX4_exclude_5 (fun c4 => ?_) (fun c4 => ?_)
  · skip
    refine rb_iconst (v := (-1 : Int32)) (by decide) dX4_exclude_15 ?_
    exact rb_iret rfl rfl (Nat.zero_le _) (Nat.zero_le _) dX4_exclude_16 ((Kx1).1 c4)
  · skip
    refine rb_iload_n 2 rfl rfl dX4_exclude_8 ?_
    obtain ⟨x5, ms6, d7, h1, h2, Kx5⟩ := ((Kx1).2 c4)
    refine mm_call st_X4_206 (rest := []) h1 rfl rfl mm_rn (Nat.le_of_ble_eq_true rfl) h2 dX4_exclude_9 ?_
    show rb_Bd κ mX4_exclude (0, 0) (mm_H h ms6 M0) 12 [some (.ref h), some (.int a1), some (.int a2)] [.int x5]
    refine rb_ifne 17 (by decide) dX4_exclude_12 (fun c8 => ?_) (fun c8 => ?_)
    · skip
      refine rb_aload_n 0 rfl rfl (rb_isR_ref _) dX4_exclude_17 ?_
      refine mm_getI (v := (ms6.1 18 0)) rfl fl_X4_220 rfl dX4_exclude_18 ?_
      refine rb_bipush (v := (6 : Int32)) (by decide) dX4_exclude_21 ?_
      refine rb_icne 29 (by decide) dX4_exclude_23 (fun c9 => ?_) (fun c9 => ?_)
      · skip
        refine rb_aload_n 0 rfl rfl (rb_isR_ref _) dX4_exclude_29 ?_
        refine mm_getA (t := 2) fl_X4_57 rfl (by decide) dX4_exclude_30 ?_
        refine rb_aload_n 0 rfl rfl (rb_isR_ref _) dX4_exclude_33 ?_
        refine mm_getI (v := (ms6.1 18 0)) rfl fl_X4_220 rfl dX4_exclude_34 ?_
        refine rb_iload_n 1 rfl rfl dX4_exclude_37 ?_
        refine mm_iast (k := 19) rfl (((((Kx5).1 c8)).1 c9)).1 dX4_exclude_38 ?_
        refine rb_aload_n 0 rfl rfl (rb_isR_ref _) dX4_exclude_39 ?_
        refine mm_getA (t := 2) fl_X4_60 rfl (by decide) dX4_exclude_40 ?_
        refine rb_aload_n 0 rfl rfl (rb_isR_ref _) dX4_exclude_43 ?_
        refine mm_getI (v := (ms6.1 18 0)) rfl fl_X4_220 rfl dX4_exclude_44 ?_
        refine rb_iload_n 2 rfl rfl dX4_exclude_47 ?_
        refine mm_iast (k := 20) rfl ((((((Kx5).1 c8)).1 c9)).2).1 dX4_exclude_48 ?_
        refine rb_aload_n 0 rfl rfl (rb_isR_ref _) dX4_exclude_49 ?_
        refine rb_dup rfl dX4_exclude_50 ?_
        refine mm_getI (v := (ms6.1 18 0)) rfl fl_X4_220 rfl dX4_exclude_51 ?_
        refine rb_iconst (v := (1 : Int32)) (by decide) dX4_exclude_54 ?_
        refine rb_iadd (z := ((ms6.1 18 0) + (1 : Int32))) rfl dX4_exclude_55 ?_
        refine mm_putI fl_X4_220 rfl dX4_exclude_56 ?_
        refine rb_aload_n 0 rfl rfl (rb_isR_ref _) dX4_exclude_59 ?_
        refine mm_getI (v := ((ms6.1 18 0) + (1 : Int32))) rfl fl_X4_220 rfl dX4_exclude_60 ?_
        exact rb_iret rfl rfl (Nat.zero_le _) (Nat.zero_le _) dX4_exclude_63 ((((((Kx5).1 c8)).1 c9)).2).2
      · skip
        refine rb_bipush (v := (-2 : Int32)) (by decide) dX4_exclude_26 ?_
        exact rb_iret rfl rfl (Nat.zero_le _) (Nat.zero_le _) dX4_exclude_28 ((((Kx5).1 c8)).2 c9)
    · skip
      refine rb_iconst (v := (-1 : Int32)) (by decide) dX4_exclude_15 ?_
      exact rb_iret rfl rfl (Nat.zero_le _) (Nat.zero_le _) dX4_exclude_16 ((Kx5).2 c8)
theorem sgX4_alias_0 {κ : rb_K} {M0 : rb_H} {h : Nat} {ms : mm_S} {a1 : Int32} {a2 : Int32} {a3 : Int32} (K : (∃ (x1 : Int32) (ms2 : mm_S) (d3 : Nat), mm_C κ.1 yX4_in wX4_in d3 h M0 ms [.int a1, .int (0 : Int32), .int (3 : Int32)] (some (.int x1)) ms2 ∧ rb_dp κ d3 ∧ ((x1 = 0 → (κ.2.2.1 (.returned (some (.int (-1 : Int32)))) (mm_H h ms2 M0))) ∧ (¬ x1 = 0 → (∃ (x5 : Int32) (ms6 : mm_S) (d7 : Nat), mm_C κ.1 yX4_isPart wX4_isPart d7 h M0 ms2 [.ref h, .int a2] (some (.int x5)) ms6 ∧ rb_dp κ d7 ∧ ((x5 = 0 → (κ.2.2.1 (.returned (some (.int (-1 : Int32)))) (mm_H h ms6 M0))) ∧ (¬ x5 = 0 → (∃ (x9 : Int32) (ms10 : mm_S) (d11 : Nat), mm_C κ.1 yX4_isMember wX4_isMember d11 h M0 ms6 [.int a3] (some (.int x9)) ms10 ∧ rb_dp κ d11 ∧ ((¬ x9 = 0 → (vp_in a1 (mm_l 23) ∧ (vp_in a1 (mm_l 21) ∧ (vp_in a1 (mm_l 22) ∧ (κ.2.2.1 (.returned (some (.int (1 : Int32)))) (mm_H h (mm_sI (mm_sI (mm_sI ms10 23 (a1).toNatClampNeg (1 : Int32)) 21 (a1).toNatClampNeg a2) 22 (a1).toNatClampNeg a3) M0)))))) ∧ (x9 = 0 → (κ.2.2.1 (.returned (some (.int (-1 : Int32)))) (mm_H h ms10 M0)))))))))))) : rb_Bd κ mX4_alias (0, 0) (mm_H h ms M0) 0 [some (.ref h), some (.int a1), some (.int a2), some (.int a3)] [] := by
  refine rb_iload_n 1 rfl rfl dX4_alias_0 ?_
  refine rb_iconst (v := (0 : Int32)) (by decide) dX4_alias_1 ?_
  refine rb_iconst (v := (3 : Int32)) (by decide) dX4_alias_2 ?_
  obtain ⟨x1, ms2, d3, h1, h2, Kx1⟩ := K
  refine mm_call st_X4_188 (rest := []) h1 rfl rfl mm_rn (Nat.le_of_ble_eq_true rfl) h2 dX4_alias_3 ?_
  show rb_Bd κ mX4_alias (0, 0) (mm_H h ms2 M0) 6 [some (.ref h), some (.int a1), some (.int a2), some (.int a3)] [.int x1]
  refine rb_ifeq 24 (by decide) dX4_alias_6 (fun c4 => ?_) (fun c4 => ?_)
  · skip
    refine rb_iconst (v := (-1 : Int32)) (by decide) dX4_alias_24 ?_
    exact rb_iret rfl rfl (Nat.zero_le _) (Nat.zero_le _) dX4_alias_25 ((Kx1).1 c4)
  · skip
    refine rb_aload_n 0 rfl rfl (rb_isR_ref _) dX4_alias_9 ?_
    refine rb_iload_n 2 rfl rfl dX4_alias_10 ?_
    obtain ⟨x5, ms6, d7, h1, h2, Kx5⟩ := ((Kx1).2 c4)
    refine mm_call st_X4_192 (rest := []) h1 rfl rfl mm_rc (Nat.le_of_ble_eq_true rfl) h2 dX4_alias_11 ?_
    show rb_Bd κ mX4_alias (0, 0) (mm_H h ms6 M0) 14 [some (.ref h), some (.int a1), some (.int a2), some (.int a3)] [.int x5]
    refine rb_ifeq 24 (by decide) dX4_alias_14 (fun c8 => ?_) (fun c8 => ?_)
    · skip
      refine rb_iconst (v := (-1 : Int32)) (by decide) dX4_alias_24 ?_
      exact rb_iret rfl rfl (Nat.zero_le _) (Nat.zero_le _) dX4_alias_25 ((Kx5).1 c8)
    · skip
      refine rb_iload_n 3 rfl rfl dX4_alias_17 ?_
      obtain ⟨x9, ms10, d11, h1, h2, Kx9⟩ := ((Kx5).2 c8)
      refine mm_call st_X4_206 (rest := []) h1 rfl rfl mm_rn (Nat.le_of_ble_eq_true rfl) h2 dX4_alias_18 ?_
      show rb_Bd κ mX4_alias (0, 0) (mm_H h ms10 M0) 21 [some (.ref h), some (.int a1), some (.int a2), some (.int a3)] [.int x9]
      refine rb_ifne 26 (by decide) dX4_alias_21 (fun c12 => ?_) (fun c12 => ?_)
      · skip
        refine rb_aload_n 0 rfl rfl (rb_isR_ref _) dX4_alias_26 ?_
        refine mm_getA (t := 4) fl_X4_69 rfl (by decide) dX4_alias_27 ?_
        refine rb_iload_n 1 rfl rfl dX4_alias_30 ?_
        refine rb_iconst (v := (1 : Int32)) (by decide) dX4_alias_31 ?_
        refine mm_zast (k := 23) (y := (1 : Int32)) rfl (((Kx9).1 c12)).1 (by decide) dX4_alias_32 ?_
        refine rb_aload_n 0 rfl rfl (rb_isR_ref _) dX4_alias_33 ?_
        refine mm_getA (t := 2) fl_X4_63 rfl (by decide) dX4_alias_34 ?_
        refine rb_iload_n 1 rfl rfl dX4_alias_37 ?_
        refine rb_iload_n 2 rfl rfl dX4_alias_38 ?_
        refine mm_iast (k := 21) rfl ((((Kx9).1 c12)).2).1 dX4_alias_39 ?_
        refine rb_aload_n 0 rfl rfl (rb_isR_ref _) dX4_alias_40 ?_
        refine mm_getA (t := 2) fl_X4_66 rfl (by decide) dX4_alias_41 ?_
        refine rb_iload_n 1 rfl rfl dX4_alias_44 ?_
        refine rb_iload_n 3 rfl rfl dX4_alias_45 ?_
        refine mm_iast (k := 22) rfl (((((Kx9).1 c12)).2).2).1 dX4_alias_46 ?_
        refine rb_iconst (v := (1 : Int32)) (by decide) dX4_alias_47 ?_
        exact rb_iret rfl rfl (Nat.zero_le _) (Nat.zero_le _) dX4_alias_48 (((((Kx9).1 c12)).2).2).2
      · skip
        refine rb_iconst (v := (-1 : Int32)) (by decide) dX4_alias_24 ?_
        exact rb_iret rfl rfl (Nat.zero_le _) (Nat.zero_le _) dX4_alias_25 ((Kx9).2 c12)
theorem sgX4_weave_0 {κ : rb_K} {M0 : rb_H} {h : Nat} {ms : mm_S}  (K : (∃ (x1 : Int32) (ms2 : mm_S) (d3 : Nat), mm_C κ.1 yX4_woven wX4_woven d3 h M0 ms [.ref h] (some (.int x1)) ms2 ∧ rb_dp κ d3 ∧ rb_Bd κ mX4_weave (0, 0) (mm_H h (mm_sI (mm_sI ms2 16 0 (0 : Int32)) 18 0 (0 : Int32)) M0) 17 [some (.ref h), some (.int x1), some (.int (0 : Int32))] [])) : rb_Bd κ mX4_weave (0, 0) (mm_H h ms M0) 0 [some (.ref h), none, none] [] := by
  refine rb_aload_n 0 rfl rfl (rb_isR_ref _) dX4_weave_0 ?_
  obtain ⟨x1, ms2, d3, h1, h2, Kx1⟩ := K
  refine mm_call st_X4_265 (rest := []) h1 rfl rfl mm_rc (Nat.le_of_ble_eq_true rfl) h2 dX4_weave_1 ?_
  show rb_Bd κ mX4_weave (0, 0) (mm_H h ms2 M0) 4 [some (.ref h), none, none] [.int x1]
  refine rb_istore_n 1 rfl (ls' := [some (.ref h), some (.int x1), none]) (by decide) rfl rfl dX4_weave_4 ?_
  refine rb_aload_n 0 rfl rfl (rb_isR_ref _) dX4_weave_5 ?_
  refine rb_iconst (v := (0 : Int32)) (by decide) dX4_weave_6 ?_
  refine mm_putI fl_X4_217 rfl dX4_weave_7 ?_
  refine rb_aload_n 0 rfl rfl (rb_isR_ref _) dX4_weave_10 ?_
  refine rb_iconst (v := (0 : Int32)) (by decide) dX4_weave_11 ?_
  refine mm_putI fl_X4_220 rfl dX4_weave_12 ?_
  refine rb_iconst (v := (0 : Int32)) (by decide) dX4_weave_15 ?_
  refine rb_istore_n 2 rfl (ls' := [some (.ref h), some (.int x1), some (.int (0 : Int32))]) (by decide) rfl rfl dX4_weave_16 ?_
  exact Kx1
theorem sgX4_weave_17 {κ : rb_K} {M0 : rb_H} {h : Nat} {ms : mm_S} {a1 : Int32} {a2 : Int32} (K : (((4 : Int32) ≤ a2 → (κ.2.2.1 (.returned (some (.int a1))) (mm_H h ms M0))) ∧ (a2 < (4 : Int32) → (vp_in a2 (mm_l 23) ∧ rb_Bd κ mX4_weave (0, 0) (mm_H h (mm_sI ms 23 (a2).toNatClampNeg (0 : Int32)) M0) 17 [some (.ref h), some (.int a1), some (.int (a2 + (1 : Int32)))] [])))) : rb_Bd κ mX4_weave (0, 0) (mm_H h ms M0) 17 [some (.ref h), some (.int a1), some (.int a2)] [] := by
  refine rb_iload_n 2 rfl rfl dX4_weave_17 ?_
  refine rb_iconst (v := (4 : Int32)) (by decide) dX4_weave_18 ?_
  refine rb_icge 35 (by decide) dX4_weave_19 (fun c1 => ?_) (fun c1 => ?_)
  · skip
    refine rb_iload_n 1 rfl rfl dX4_weave_35 ?_
    exact rb_iret rfl rfl (Nat.zero_le _) (Nat.zero_le _) dX4_weave_36 ((K).1 c1)
  · skip
    refine rb_aload_n 0 rfl rfl (rb_isR_ref _) dX4_weave_22 ?_
    refine mm_getA (t := 4) fl_X4_69 rfl (by decide) dX4_weave_23 ?_
    refine rb_iload_n 2 rfl rfl dX4_weave_26 ?_
    refine rb_iconst (v := (0 : Int32)) (by decide) dX4_weave_27 ?_
    refine mm_zast (k := 23) (y := (0 : Int32)) rfl (((K).2 c1)).1 (by decide) dX4_weave_28 ?_
    refine rb_iinc (ls' := [some (.ref h), some (.int a1), some (.int (a2 + (1 : Int32)))]) (v := (a2 + (1 : Int32))) rfl rfl (by decide) rfl rfl dX4_weave_29 ?_
    refine rb_goto 17 (by decide) dX4_weave_32 ?_
    exact (((K).2 c1)).2
theorem sgX4_woven_0 {κ : rb_K} {M0 : rb_H} {h : Nat} {ms : mm_S}  (K : ((¬ (ms.1 24 0) = (24 : Int32) → ((¬ (ms.1 16 0) = 0 → (∃ (x3 : Int32) (ms4 : mm_S) (d5 : Nat), mm_C κ.1 yX4_lay wX4_lay d5 h M0 ms [.ref h, .int (ms.1 24 0)] (some (.int x3)) ms4 ∧ rb_dp κ d5 ∧ ((¬ x3 = 0 → rb_Bd κ mX4_woven (0, 0) (mm_H h ms4 M0) 38 [some (.ref h), some (.int (0 : Int32))] []) ∧ (x3 = 0 → (κ.2.2.1 (.returned (some (.int (-6 : Int32)))) (mm_H h ms4 M0)))))) ∧ ((ms.1 16 0) = 0 → (κ.2.2.1 (.returned (some (.int (-4 : Int32)))) (mm_H h ms M0))))) ∧ ((ms.1 24 0) = (24 : Int32) → (κ.2.2.1 (.returned (some (.int (-2 : Int32)))) (mm_H h ms M0))))) : rb_Bd κ mX4_woven (0, 0) (mm_H h ms M0) 0 [some (.ref h), none] [] := by
  refine rb_aload_n 0 rfl rfl (rb_isR_ref _) dX4_woven_0 ?_
  refine mm_getI (v := (ms.1 24 0)) rfl fl_X4_200 rfl dX4_woven_1 ?_
  refine rb_bipush (v := (24 : Int32)) (by decide) dX4_woven_4 ?_
  refine rb_icne 12 (by decide) dX4_woven_6 (fun c1 => ?_) (fun c1 => ?_)
  · skip
    refine rb_aload_n 0 rfl rfl (rb_isR_ref _) dX4_woven_12 ?_
    refine mm_getI (v := (ms.1 16 0)) rfl fl_X4_217 rfl dX4_woven_13 ?_
    refine rb_ifne 22 (by decide) dX4_woven_16 (fun c2 => ?_) (fun c2 => ?_)
    · skip
      refine rb_aload_n 0 rfl rfl (rb_isR_ref _) dX4_woven_22 ?_
      refine rb_aload_n 0 rfl rfl (rb_isR_ref _) dX4_woven_23 ?_
      refine mm_getI (v := (ms.1 24 0)) rfl fl_X4_200 rfl dX4_woven_24 ?_
      obtain ⟨x3, ms4, d5, h1, h2, Kx3⟩ := ((((K).1 c1)).1 c2)
      refine mm_call st_X4_255 (rest := []) h1 rfl rfl mm_rc (Nat.le_of_ble_eq_true rfl) h2 dX4_woven_27 ?_
      show rb_Bd κ mX4_woven (0, 0) (mm_H h ms4 M0) 30 [some (.ref h), none] [.int x3]
      refine rb_ifne 36 (by decide) dX4_woven_30 (fun c6 => ?_) (fun c6 => ?_)
      · skip
        refine rb_iconst (v := (0 : Int32)) (by decide) dX4_woven_36 ?_
        refine rb_istore_n 1 rfl (ls' := [some (.ref h), some (.int (0 : Int32))]) (by decide) rfl rfl dX4_woven_37 ?_
        exact ((Kx3).1 c6)
      · skip
        refine rb_bipush (v := (-6 : Int32)) (by decide) dX4_woven_33 ?_
        exact rb_iret rfl rfl (Nat.zero_le _) (Nat.zero_le _) dX4_woven_35 ((Kx3).2 c6)
    · skip
      refine rb_bipush (v := (-4 : Int32)) (by decide) dX4_woven_19 ?_
      exact rb_iret rfl rfl (Nat.zero_le _) (Nat.zero_le _) dX4_woven_21 ((((K).1 c1)).2 c2)
  · skip
    refine rb_bipush (v := (-2 : Int32)) (by decide) dX4_woven_9 ?_
    exact rb_iret rfl rfl (Nat.zero_le _) (Nat.zero_le _) dX4_woven_11 ((K).2 c1)
theorem sgX4_woven_38 {κ : rb_K} {M0 : rb_H} {h : Nat} {ms : mm_S} {a1 : Int32} (K : (((12 : Int32) ≤ a1 → (∃ (x2 : Int32) (ms3 : mm_S) (d4 : Nat), mm_C κ.1 yX4_lacksAny wX4_lacksAny d4 h M0 ms [.ref h, .int (ms.1 24 0)] (some (.int x2)) ms3 ∧ rb_dp κ d4 ∧ ((x2 = 0 → rb_Bd κ mX4_woven (0, 0) (mm_H h ms3 M0) 75 [some (.ref h), some (.int (0 : Int32))] []) ∧ (¬ x2 = 0 → (κ.2.2.1 (.returned (some (.int (-8 : Int32)))) (mm_H h ms3 M0)))))) ∧ (a1 < (12 : Int32) → (∃ (ms7 : mm_S) (d8 : Nat), mm_C κ.1 yX4_chain wX4_chain d8 h M0 ms [.ref h, .int (ms.1 24 0), .int a1] (none) ms7 ∧ rb_dp κ d8 ∧ rb_Bd κ mX4_woven (0, 0) (mm_H h ms7 M0) 38 [some (.ref h), some (.int (a1 + (1 : Int32)))] [])))) : rb_Bd κ mX4_woven (0, 0) (mm_H h ms M0) 38 [some (.ref h), some (.int a1)] [] := by
  refine rb_iload_n 1 rfl rfl dX4_woven_38 ?_
  refine rb_bipush (v := (12 : Int32)) (by decide) dX4_woven_39 ?_
  refine rb_icge 59 (by decide) dX4_woven_41 (fun c1 => ?_) (fun c1 => ?_)
  · skip
    refine rb_aload_n 0 rfl rfl (rb_isR_ref _) dX4_woven_59 ?_
    refine rb_aload_n 0 rfl rfl (rb_isR_ref _) dX4_woven_60 ?_
    refine mm_getI (v := (ms.1 24 0)) rfl fl_X4_200 rfl dX4_woven_61 ?_
    obtain ⟨x2, ms3, d4, h1, h2, Kx2⟩ := ((K).1 c1)
    refine mm_call st_X4_262 (rest := []) h1 rfl rfl mm_rc (Nat.le_of_ble_eq_true rfl) h2 dX4_woven_64 ?_
    show rb_Bd κ mX4_woven (0, 0) (mm_H h ms3 M0) 67 [some (.ref h), some (.int a1)] [.int x2]
    refine rb_ifeq 73 (by decide) dX4_woven_67 (fun c5 => ?_) (fun c5 => ?_)
    · skip
      refine rb_iconst (v := (0 : Int32)) (by decide) dX4_woven_73 ?_
      refine rb_istore_n 1 rfl (ls' := [some (.ref h), some (.int (0 : Int32))]) (by decide) rfl rfl dX4_woven_74 ?_
      exact ((Kx2).1 c5)
    · skip
      refine rb_bipush (v := (-8 : Int32)) (by decide) dX4_woven_70 ?_
      exact rb_iret rfl rfl (Nat.zero_le _) (Nat.zero_le _) dX4_woven_72 ((Kx2).2 c5)
  · skip
    refine rb_aload_n 0 rfl rfl (rb_isR_ref _) dX4_woven_44 ?_
    refine rb_aload_n 0 rfl rfl (rb_isR_ref _) dX4_woven_45 ?_
    refine mm_getI (v := (ms.1 24 0)) rfl fl_X4_200 rfl dX4_woven_46 ?_
    refine rb_iload_n 1 rfl rfl dX4_woven_49 ?_
    obtain ⟨ms7, d8, h1, h2, Kx6⟩ := ((K).2 c1)
    refine mm_call st_X4_258 (rest := []) h1 rfl rfl mm_rc (Nat.le_of_ble_eq_true rfl) h2 dX4_woven_50 ?_
    show rb_Bd κ mX4_woven (0, 0) (mm_H h ms7 M0) 53 [some (.ref h), some (.int a1)] []
    refine rb_iinc (ls' := [some (.ref h), some (.int (a1 + (1 : Int32)))]) (v := (a1 + (1 : Int32))) rfl rfl (by decide) rfl rfl dX4_woven_53 ?_
    refine rb_goto 38 (by decide) dX4_woven_56 ?_
    exact Kx6
theorem sgX4_woven_75 {κ : rb_K} {M0 : rb_H} {h : Nat} {ms : mm_S} {a1 : Int32} (K : (((24 : Int32) ≤ a1 → rb_Bd κ mX4_woven (0, 0) (mm_H h ms M0) 105 [some (.ref h), some (.int (0 : Int32))] []) ∧ (a1 < (24 : Int32) → (vp_in (((24 : Int32) * (ms.1 24 0)) + a1) (mm_l 27) ∧ rb_Bd κ mX4_woven (0, 0) (mm_H h (mm_sI ms 27 ((((24 : Int32) * (ms.1 24 0)) + a1)).toNatClampNeg (-9 : Int32)) M0) 75 [some (.ref h), some (.int (a1 + (1 : Int32)))] [])))) : rb_Bd κ mX4_woven (0, 0) (mm_H h ms M0) 75 [some (.ref h), some (.int a1)] [] := by
  refine rb_iload_n 1 rfl rfl dX4_woven_75 ?_
  refine rb_bipush (v := (24 : Int32)) (by decide) dX4_woven_76 ?_
  refine rb_icge 103 (by decide) dX4_woven_78 (fun c1 => ?_) (fun c1 => ?_)
  · skip
    refine rb_iconst (v := (0 : Int32)) (by decide) dX4_woven_103 ?_
    refine rb_istore_n 1 rfl (ls' := [some (.ref h), some (.int (0 : Int32))]) (by decide) rfl rfl dX4_woven_104 ?_
    exact ((K).1 c1)
  · skip
    refine rb_aload_n 0 rfl rfl (rb_isR_ref _) dX4_woven_81 ?_
    refine mm_getA (t := 2) fl_X4_78 rfl (by decide) dX4_woven_82 ?_
    refine rb_bipush (v := (24 : Int32)) (by decide) dX4_woven_85 ?_
    refine rb_aload_n 0 rfl rfl (rb_isR_ref _) dX4_woven_87 ?_
    refine mm_getI (v := (ms.1 24 0)) rfl fl_X4_200 rfl dX4_woven_88 ?_
    refine rb_imul (z := ((24 : Int32) * (ms.1 24 0))) rfl dX4_woven_91 ?_
    refine rb_iload_n 1 rfl rfl dX4_woven_92 ?_
    refine rb_iadd (z := (((24 : Int32) * (ms.1 24 0)) + a1)) rfl dX4_woven_93 ?_
    refine rb_bipush (v := (-9 : Int32)) (by decide) dX4_woven_94 ?_
    refine mm_iast (k := 27) rfl (((K).2 c1)).1 dX4_woven_96 ?_
    refine rb_iinc (ls' := [some (.ref h), some (.int (a1 + (1 : Int32)))]) (v := (a1 + (1 : Int32))) rfl rfl (by decide) rfl rfl dX4_woven_97 ?_
    refine rb_goto 75 (by decide) dX4_woven_100 ?_
    exact (((K).2 c1)).2
theorem sgX4_woven_105 {κ : rb_K} {M0 : rb_H} {h : Nat} {ms : mm_S} {a1 : Int32} (K : (vp_in (ms.1 24 0) (mm_l 25) ∧ (((ms.1 25 ((ms.1 24 0)).toNatClampNeg) ≤ a1 → (κ.2.2.1 (.returned (some (.int (((ms.1 24 0) + (1 : Int32)) - (1 : Int32))))) (mm_H h (mm_sI ms 24 0 ((ms.1 24 0) + (1 : Int32))) M0))) ∧ (a1 < (ms.1 25 ((ms.1 24 0)).toNatClampNeg) → (vp_in (((24 : Int32) * (ms.1 24 0)) + a1) (mm_l 26) ∧ (vp_in (((24 : Int32) * (ms.1 24 0)) + (ms.1 26 ((((24 : Int32) * (ms.1 24 0)) + a1)).toNatClampNeg)) (mm_l 27) ∧ (vp_in (((24 : Int32) * (ms.1 24 0)) + a1) (mm_l 32) ∧ rb_Bd κ mX4_woven (0, 0) (mm_H h (mm_sI (mm_sI ms 27 ((((24 : Int32) * (ms.1 24 0)) + (ms.1 26 ((((24 : Int32) * (ms.1 24 0)) + a1)).toNatClampNeg))).toNatClampNeg a1) 32 ((((24 : Int32) * (ms.1 24 0)) + a1)).toNatClampNeg (0 : Int32)) M0) 105 [some (.ref h), some (.int (a1 + (1 : Int32)))] []))))))) : rb_Bd κ mX4_woven (0, 0) (mm_H h ms M0) 105 [some (.ref h), some (.int a1)] [] := by
  refine rb_iload_n 1 rfl rfl dX4_woven_105 ?_
  refine rb_aload_n 0 rfl rfl (rb_isR_ref _) dX4_woven_106 ?_
  refine mm_getA (t := 2) fl_X4_72 rfl (by decide) dX4_woven_107 ?_
  refine rb_aload_n 0 rfl rfl (rb_isR_ref _) dX4_woven_110 ?_
  refine mm_getI (v := (ms.1 24 0)) rfl fl_X4_200 rfl dX4_woven_111 ?_
  refine mm_iald (k := 25) (v := (ms.1 25 ((ms.1 24 0)).toNatClampNeg)) rfl rfl (K).1 dX4_woven_114 ?_
  refine rb_icge 167 (by decide) dX4_woven_115 (fun c1 => ?_) (fun c1 => ?_)
  · skip
    refine rb_aload_n 0 rfl rfl (rb_isR_ref _) dX4_woven_167 ?_
    refine rb_dup rfl dX4_woven_168 ?_
    refine mm_getI (v := (ms.1 24 0)) rfl fl_X4_200 rfl dX4_woven_169 ?_
    refine rb_iconst (v := (1 : Int32)) (by decide) dX4_woven_172 ?_
    refine rb_iadd (z := ((ms.1 24 0) + (1 : Int32))) rfl dX4_woven_173 ?_
    refine mm_putI fl_X4_200 rfl dX4_woven_174 ?_
    refine rb_aload_n 0 rfl rfl (rb_isR_ref _) dX4_woven_177 ?_
    refine mm_getI (v := ((ms.1 24 0) + (1 : Int32))) rfl fl_X4_200 rfl dX4_woven_178 ?_
    refine rb_iconst (v := (1 : Int32)) (by decide) dX4_woven_181 ?_
    refine rb_isub (z := (((ms.1 24 0) + (1 : Int32)) - (1 : Int32))) rfl dX4_woven_182 ?_
    exact rb_iret rfl rfl (Nat.zero_le _) (Nat.zero_le _) dX4_woven_183 (((K).2).1 c1)
  · skip
    refine rb_aload_n 0 rfl rfl (rb_isR_ref _) dX4_woven_118 ?_
    refine mm_getA (t := 2) fl_X4_78 rfl (by decide) dX4_woven_119 ?_
    refine rb_bipush (v := (24 : Int32)) (by decide) dX4_woven_122 ?_
    refine rb_aload_n 0 rfl rfl (rb_isR_ref _) dX4_woven_124 ?_
    refine mm_getI (v := (ms.1 24 0)) rfl fl_X4_200 rfl dX4_woven_125 ?_
    refine rb_imul (z := ((24 : Int32) * (ms.1 24 0))) rfl dX4_woven_128 ?_
    refine rb_aload_n 0 rfl rfl (rb_isR_ref _) dX4_woven_129 ?_
    refine mm_getA (t := 2) fl_X4_75 rfl (by decide) dX4_woven_130 ?_
    refine rb_bipush (v := (24 : Int32)) (by decide) dX4_woven_133 ?_
    refine rb_aload_n 0 rfl rfl (rb_isR_ref _) dX4_woven_135 ?_
    refine mm_getI (v := (ms.1 24 0)) rfl fl_X4_200 rfl dX4_woven_136 ?_
    refine rb_imul (z := ((24 : Int32) * (ms.1 24 0))) rfl dX4_woven_139 ?_
    refine rb_iload_n 1 rfl rfl dX4_woven_140 ?_
    refine rb_iadd (z := (((24 : Int32) * (ms.1 24 0)) + a1)) rfl dX4_woven_141 ?_
    refine mm_iald (k := 26) (v := (ms.1 26 ((((24 : Int32) * (ms.1 24 0)) + a1)).toNatClampNeg)) rfl rfl ((((K).2).2 c1)).1 dX4_woven_142 ?_
    refine rb_iadd (z := (((24 : Int32) * (ms.1 24 0)) + (ms.1 26 ((((24 : Int32) * (ms.1 24 0)) + a1)).toNatClampNeg))) rfl dX4_woven_143 ?_
    refine rb_iload_n 1 rfl rfl dX4_woven_144 ?_
    refine mm_iast (k := 27) rfl (((((K).2).2 c1)).2).1 dX4_woven_145 ?_
    refine rb_aload_n 0 rfl rfl (rb_isR_ref _) dX4_woven_146 ?_
    refine mm_getA (t := 2) fl_X4_93 rfl (by decide) dX4_woven_147 ?_
    refine rb_bipush (v := (24 : Int32)) (by decide) dX4_woven_150 ?_
    refine rb_aload_n 0 rfl rfl (rb_isR_ref _) dX4_woven_152 ?_
    refine mm_getI (v := (ms.1 24 0)) rfl fl_X4_200 rfl dX4_woven_153 ?_
    refine rb_imul (z := ((24 : Int32) * (ms.1 24 0))) rfl dX4_woven_156 ?_
    refine rb_iload_n 1 rfl rfl dX4_woven_157 ?_
    refine rb_iadd (z := (((24 : Int32) * (ms.1 24 0)) + a1)) rfl dX4_woven_158 ?_
    refine rb_iconst (v := (0 : Int32)) (by decide) dX4_woven_159 ?_
    refine mm_iast (k := 32) rfl ((((((K).2).2 c1)).2).2).1 dX4_woven_160 ?_
    refine rb_iinc (ls' := [some (.ref h), some (.int (a1 + (1 : Int32)))]) (v := (a1 + (1 : Int32))) rfl rfl (by decide) rfl rfl dX4_woven_161 ?_
    refine rb_goto 105 (by decide) dX4_woven_164 ?_
    exact ((((((K).2).2 c1)).2).2).2
theorem sgX4_lay_0 {κ : rb_K} {M0 : rb_H} {h : Nat} {ms : mm_S} {a1 : Int32} (K : (∃ (ms2 : mm_S) (d3 : Nat), mm_C κ.1 yX4_close wX4_close d3 h M0 ms [.ref h] (none) ms2 ∧ rb_dp κ d3 ∧ (vp_in a1 (mm_l 25) ∧ rb_Bd κ mX4_lay (0, 0) (mm_H h (mm_sI ms2 25 (a1).toNatClampNeg (0 : Int32)) M0) 13 [some (.ref h), some (.int a1), some (.int (1 : Int32)), none] []))) : rb_Bd κ mX4_lay (0, 0) (mm_H h ms M0) 0 [some (.ref h), some (.int a1), none, none] [] := by
  refine rb_aload_n 0 rfl rfl (rb_isR_ref _) dX4_lay_0 ?_
  obtain ⟨ms2, d3, h1, h2, Kx1⟩ := K
  refine mm_call st_X4_229 (rest := []) h1 rfl rfl mm_rc (Nat.le_of_ble_eq_true rfl) h2 dX4_lay_1 ?_
  show rb_Bd κ mX4_lay (0, 0) (mm_H h ms2 M0) 4 [some (.ref h), some (.int a1), none, none] []
  refine rb_aload_n 0 rfl rfl (rb_isR_ref _) dX4_lay_4 ?_
  refine mm_getA (t := 2) fl_X4_72 rfl (by decide) dX4_lay_5 ?_
  refine rb_iload_n 1 rfl rfl dX4_lay_8 ?_
  refine rb_iconst (v := (0 : Int32)) (by decide) dX4_lay_9 ?_
  refine mm_iast (k := 25) rfl (Kx1).1 dX4_lay_10 ?_
  refine rb_iconst (v := (1 : Int32)) (by decide) dX4_lay_11 ?_
  refine rb_istore_n 2 rfl (ls' := [some (.ref h), some (.int a1), some (.int (1 : Int32)), none]) (by decide) rfl rfl dX4_lay_12 ?_
  exact (Kx1).2
theorem sgX4_lay_13 {κ : rb_K} {M0 : rb_H} {h : Nat} {ms : mm_S} {a1 : Int32} {a2 : Int32} (K : ((a2 = 0 → rb_Bd κ mX4_lay (0, 0) (mm_H h ms M0) 97 [some (.ref h), some (.int a1), some (.int a2), some (.int (0 : Int32))] []) ∧ (¬ a2 = 0 → rb_Bd κ mX4_lay (0, 0) (mm_H h ms M0) 21 [some (.ref h), some (.int a1), some (.int (0 : Int32)), some (.int (0 : Int32))] []))) : rb_Bd κ mX4_lay (0, 0) (mm_H h ms M0) 13 [some (.ref h), some (.int a1), some (.int a2), none] [] := by
  refine rb_iload_n 2 rfl rfl dX4_lay_13 ?_
  refine rb_ifeq 95 (by decide) dX4_lay_14 (fun c1 => ?_) (fun c1 => ?_)
  · skip
    refine rb_iconst (v := (0 : Int32)) (by decide) dX4_lay_95 ?_
    refine rb_istore_n 3 rfl (ls' := [some (.ref h), some (.int a1), some (.int a2), some (.int (0 : Int32))]) (by decide) rfl rfl dX4_lay_96 ?_
    exact ((K).1 c1)
  · skip
    refine rb_iconst (v := (0 : Int32)) (by decide) dX4_lay_17 ?_
    refine rb_istore_n 2 rfl (ls' := [some (.ref h), some (.int a1), some (.int (0 : Int32)), none]) (by decide) rfl rfl dX4_lay_18 ?_
    refine rb_iconst (v := (0 : Int32)) (by decide) dX4_lay_19 ?_
    refine rb_istore_n 3 rfl (ls' := [some (.ref h), some (.int a1), some (.int (0 : Int32)), some (.int (0 : Int32))]) (by decide) rfl rfl dX4_lay_20 ?_
    exact ((K).2 c1)
theorem sgX4_lay_21 {κ : rb_K} {M0 : rb_H} {h : Nat} {ms : mm_S} {a1 : Int32} {a2 : Int32} {a3 : Int32} (K : (((ms.1 0 0) ≤ a3 → rb_Bd κ mX4_lay (0, 0) (mm_H h ms M0) 13 [some (.ref h), some (.int a1), some (.int a2), some (.int a3)] []) ∧ (a3 < (ms.1 0 0) → ((¬ a2 = 0 → rb_Bd κ mX4_lay (0, 0) (mm_H h ms M0) 13 [some (.ref h), some (.int a1), some (.int a2), some (.int a3)] []) ∧ (a2 = 0 → (vp_in a3 (mm_l 38) ∧ (((ms.1 38 (a3).toNatClampNeg) = 0 → rb_Bd κ mX4_lay (0, 0) (mm_H h ms M0) 21 [some (.ref h), some (.int a1), some (.int a2), some (.int (a3 + (1 : Int32)))] []) ∧ (¬ (ms.1 38 (a3).toNatClampNeg) = 0 → (∃ (x4 : Int32) (ms5 : mm_S) (d6 : Nat), mm_C κ.1 yX4_leastAhead wX4_leastAhead d6 h M0 ms [.ref h, .int a3] (some (.int x4)) ms5 ∧ rb_dp κ d6 ∧ ((0 ≤ x4 → rb_Bd κ mX4_lay (0, 0) (mm_H h ms5 M0) 21 [some (.ref h), some (.int a1), some (.int a2), some (.int (a3 + (1 : Int32)))] []) ∧ (x4 < 0 → (vp_in a1 (mm_l 25) ∧ (vp_in (((24 : Int32) * a1) + (ms5.1 25 (a1).toNatClampNeg)) (mm_l 26) ∧ (vp_in a1 (mm_l 25) ∧ (vp_in a1 (mm_l 25) ∧ (vp_in a3 (mm_l 38) ∧ rb_Bd κ mX4_lay (0, 0) (mm_H h (mm_sI (mm_sI (mm_sI ms5 26 ((((24 : Int32) * a1) + (ms5.1 25 (a1).toNatClampNeg))).toNatClampNeg a3) 25 (a1).toNatClampNeg ((ms5.1 25 (a1).toNatClampNeg) + (1 : Int32))) 38 (a3).toNatClampNeg (0 : Int32)) M0) 21 [some (.ref h), some (.int a1), some (.int (1 : Int32)), some (.int (a3 + (1 : Int32)))] [])))))))))))))))) : rb_Bd κ mX4_lay (0, 0) (mm_H h ms M0) 21 [some (.ref h), some (.int a1), some (.int a2), some (.int a3)] [] := by
  refine rb_iload_n 3 rfl rfl dX4_lay_21 ?_
  refine rb_aload_n 0 rfl rfl (rb_isR_ref _) dX4_lay_22 ?_
  refine mm_getI (v := (ms.1 0 0)) rfl fl_X4_185 rfl dX4_lay_23 ?_
  refine rb_icge 92 (by decide) dX4_lay_26 (fun c1 => ?_) (fun c1 => ?_)
  · skip
    refine rb_goto 13 (by decide) dX4_lay_92 ?_
    exact ((K).1 c1)
  · skip
    refine rb_iload_n 2 rfl rfl dX4_lay_29 ?_
    refine rb_ifne 92 (by decide) dX4_lay_30 (fun c2 => ?_) (fun c2 => ?_)
    · skip
      refine rb_goto 13 (by decide) dX4_lay_92 ?_
      exact ((((K).2 c1)).1 c2)
    · skip
      refine rb_aload_n 0 rfl rfl (rb_isR_ref _) dX4_lay_33 ?_
      refine mm_getA (t := 4) fl_X4_108 rfl (by decide) dX4_lay_34 ?_
      refine rb_iload_n 3 rfl rfl dX4_lay_37 ?_
      refine mm_zald (k := 38) (v := (ms.1 38 (a3).toNatClampNeg)) rfl rfl (((((K).2 c1)).2 c2)).1 dX4_lay_38 ?_
      refine rb_ifeq 86 (by decide) dX4_lay_39 (fun c3 => ?_) (fun c3 => ?_)
      · skip
        refine rb_iinc (ls' := [some (.ref h), some (.int a1), some (.int a2), some (.int (a3 + (1 : Int32)))]) (v := (a3 + (1 : Int32))) rfl rfl (by decide) rfl rfl dX4_lay_86 ?_
        refine rb_goto 21 (by decide) dX4_lay_89 ?_
        exact (((((((K).2 c1)).2 c2)).2).1 c3)
      · skip
        refine rb_aload_n 0 rfl rfl (rb_isR_ref _) dX4_lay_42 ?_
        refine rb_iload_n 3 rfl rfl dX4_lay_43 ?_
        obtain ⟨x4, ms5, d6, h1, h2, Kx4⟩ := (((((((K).2 c1)).2 c2)).2).2 c3)
        refine mm_call st_X4_232 (rest := []) h1 rfl rfl mm_rc (Nat.le_of_ble_eq_true rfl) h2 dX4_lay_44 ?_
        show rb_Bd κ mX4_lay (0, 0) (mm_H h ms5 M0) 47 [some (.ref h), some (.int a1), some (.int a2), some (.int a3)] [.int x4]
        refine rb_ifge 86 (by decide) dX4_lay_47 (fun c7 => ?_) (fun c7 => ?_)
        · skip
          refine rb_iinc (ls' := [some (.ref h), some (.int a1), some (.int a2), some (.int (a3 + (1 : Int32)))]) (v := (a3 + (1 : Int32))) rfl rfl (by decide) rfl rfl dX4_lay_86 ?_
          refine rb_goto 21 (by decide) dX4_lay_89 ?_
          exact ((Kx4).1 c7)
        · skip
          refine rb_aload_n 0 rfl rfl (rb_isR_ref _) dX4_lay_50 ?_
          refine mm_getA (t := 2) fl_X4_75 rfl (by decide) dX4_lay_51 ?_
          refine rb_bipush (v := (24 : Int32)) (by decide) dX4_lay_54 ?_
          refine rb_iload_n 1 rfl rfl dX4_lay_56 ?_
          refine rb_imul (z := ((24 : Int32) * a1)) rfl dX4_lay_57 ?_
          refine rb_aload_n 0 rfl rfl (rb_isR_ref _) dX4_lay_58 ?_
          refine mm_getA (t := 2) fl_X4_72 rfl (by decide) dX4_lay_59 ?_
          refine rb_iload_n 1 rfl rfl dX4_lay_62 ?_
          refine mm_iald (k := 25) (v := (ms5.1 25 (a1).toNatClampNeg)) rfl rfl (((Kx4).2 c7)).1 dX4_lay_63 ?_
          refine rb_iadd (z := (((24 : Int32) * a1) + (ms5.1 25 (a1).toNatClampNeg))) rfl dX4_lay_64 ?_
          refine rb_iload_n 3 rfl rfl dX4_lay_65 ?_
          refine mm_iast (k := 26) rfl ((((Kx4).2 c7)).2).1 dX4_lay_66 ?_
          refine rb_aload_n 0 rfl rfl (rb_isR_ref _) dX4_lay_67 ?_
          refine mm_getA (t := 2) fl_X4_72 rfl (by decide) dX4_lay_68 ?_
          refine rb_iload_n 1 rfl rfl dX4_lay_71 ?_
          refine rb_dup2 rfl rfl dX4_lay_72 ?_
          refine mm_iald (k := 25) (v := (ms5.1 25 (a1).toNatClampNeg)) rfl rfl (((((Kx4).2 c7)).2).2).1 dX4_lay_73 ?_
          refine rb_iconst (v := (1 : Int32)) (by decide) dX4_lay_74 ?_
          refine rb_iadd (z := ((ms5.1 25 (a1).toNatClampNeg) + (1 : Int32))) rfl dX4_lay_75 ?_
          refine mm_iast (k := 25) rfl ((((((Kx4).2 c7)).2).2).2).1 dX4_lay_76 ?_
          refine rb_aload_n 0 rfl rfl (rb_isR_ref _) dX4_lay_77 ?_
          refine mm_getA (t := 4) fl_X4_108 rfl (by decide) dX4_lay_78 ?_
          refine rb_iload_n 3 rfl rfl dX4_lay_81 ?_
          refine rb_iconst (v := (0 : Int32)) (by decide) dX4_lay_82 ?_
          refine mm_zast (k := 38) (y := (0 : Int32)) rfl (((((((Kx4).2 c7)).2).2).2).2).1 (by decide) dX4_lay_83 ?_
          refine rb_iconst (v := (1 : Int32)) (by decide) dX4_lay_84 ?_
          refine rb_istore_n 2 rfl (ls' := [some (.ref h), some (.int a1), some (.int (1 : Int32)), some (.int a3)]) (by decide) rfl rfl dX4_lay_85 ?_
          refine rb_iinc (ls' := [some (.ref h), some (.int a1), some (.int (1 : Int32)), some (.int (a3 + (1 : Int32)))]) (v := (a3 + (1 : Int32))) rfl rfl (by decide) rfl rfl dX4_lay_86 ?_
          refine rb_goto 21 (by decide) dX4_lay_89 ?_
          exact (((((((Kx4).2 c7)).2).2).2).2).2
theorem sgX4_lay_97 {κ : rb_K} {M0 : rb_H} {h : Nat} {ms : mm_S} {a1 : Int32} {a2 : Int32} {a3 : Int32} (K : (((ms.1 0 0) ≤ a3 → (κ.2.2.1 (.returned (some (.int (1 : Int32)))) (mm_H h ms M0))) ∧ (a3 < (ms.1 0 0) → (vp_in a3 (mm_l 38) ∧ (((ms.1 38 (a3).toNatClampNeg) = 0 → rb_Bd κ mX4_lay (0, 0) (mm_H h ms M0) 97 [some (.ref h), some (.int a1), some (.int a2), some (.int (a3 + (1 : Int32)))] []) ∧ (¬ (ms.1 38 (a3).toNatClampNeg) = 0 → (∃ (ms4 : mm_S) (d5 : Nat), mm_C κ.1 yX4_tellRing wX4_tellRing d5 h M0 ms [.ref h, .int a3] (none) ms4 ∧ rb_dp κ d5 ∧ (κ.2.2.1 (.returned (some (.int (0 : Int32)))) (mm_H h ms4 M0))))))))) : rb_Bd κ mX4_lay (0, 0) (mm_H h ms M0) 97 [some (.ref h), some (.int a1), some (.int a2), some (.int a3)] [] := by
  refine rb_iload_n 3 rfl rfl dX4_lay_97 ?_
  refine rb_aload_n 0 rfl rfl (rb_isR_ref _) dX4_lay_98 ?_
  refine mm_getI (v := (ms.1 0 0)) rfl fl_X4_185 rfl dX4_lay_99 ?_
  refine rb_icge 127 (by decide) dX4_lay_102 (fun c1 => ?_) (fun c1 => ?_)
  · skip
    refine rb_iconst (v := (1 : Int32)) (by decide) dX4_lay_127 ?_
    exact rb_iret rfl (by decide) (Nat.zero_le _) (Nat.zero_le _) dX4_lay_128 ((K).1 c1)
  · skip
    refine rb_aload_n 0 rfl rfl (rb_isR_ref _) dX4_lay_105 ?_
    refine mm_getA (t := 4) fl_X4_108 rfl (by decide) dX4_lay_106 ?_
    refine rb_iload_n 3 rfl rfl dX4_lay_109 ?_
    refine mm_zald (k := 38) (v := (ms.1 38 (a3).toNatClampNeg)) rfl rfl (((K).2 c1)).1 dX4_lay_110 ?_
    refine rb_ifeq 121 (by decide) dX4_lay_111 (fun c2 => ?_) (fun c2 => ?_)
    · skip
      refine rb_iinc (ls' := [some (.ref h), some (.int a1), some (.int a2), some (.int (a3 + (1 : Int32)))]) (v := (a3 + (1 : Int32))) rfl rfl (by decide) rfl rfl dX4_lay_121 ?_
      refine rb_goto 97 (by decide) dX4_lay_124 ?_
      exact (((((K).2 c1)).2).1 c2)
    · skip
      refine rb_aload_n 0 rfl rfl (rb_isR_ref _) dX4_lay_114 ?_
      refine rb_iload_n 3 rfl rfl dX4_lay_115 ?_
      obtain ⟨ms4, d5, h1, h2, Kx3⟩ := (((((K).2 c1)).2).2 c2)
      refine mm_call st_X4_236 (rest := []) h1 rfl rfl mm_rc (Nat.le_of_ble_eq_true rfl) h2 dX4_lay_116 ?_
      show rb_Bd κ mX4_lay (0, 0) (mm_H h ms4 M0) 119 [some (.ref h), some (.int a1), some (.int a2), some (.int a3)] []
      refine rb_iconst (v := (0 : Int32)) (by decide) dX4_lay_119 ?_
      exact rb_iret rfl (by decide) (Nat.zero_le _) (Nat.zero_le _) dX4_lay_120 Kx3
theorem sgX4_close_0 {κ : rb_K} {M0 : rb_H} {h : Nat} {ms : mm_S}  (K : rb_Bd κ mX4_close (0, 0) (mm_H h ms M0) 2 [some (.ref h), some (.int (0 : Int32)), none] []) : rb_Bd κ mX4_close (0, 0) (mm_H h ms M0) 0 [some (.ref h), none, none] [] := by
  refine rb_iconst (v := (0 : Int32)) (by decide) dX4_close_0 ?_
  refine rb_istore_n 1 rfl (ls' := [some (.ref h), some (.int (0 : Int32)), none]) (by decide) rfl rfl dX4_close_1 ?_
  exact K
theorem sgX4_close_2 {κ : rb_K} {M0 : rb_H} {h : Nat} {ms : mm_S} {a1 : Int32} (K : (((24 : Int32) ≤ a1 → rb_Bd κ mX4_close (0, 0) (mm_H h ms M0) 23 [some (.ref h), some (.int (0 : Int32)), none] []) ∧ (a1 < (24 : Int32) → (vp_in a1 (mm_l 37) ∧ rb_Bd κ mX4_close (0, 0) (mm_H h (mm_sI ms 37 (a1).toNatClampNeg (0 : Int32)) M0) 2 [some (.ref h), some (.int (a1 + (1 : Int32))), none] [])))) : rb_Bd κ mX4_close (0, 0) (mm_H h ms M0) 2 [some (.ref h), some (.int a1), none] [] := by
  refine rb_iload_n 1 rfl rfl dX4_close_2 ?_
  refine rb_bipush (v := (24 : Int32)) (by decide) dX4_close_3 ?_
  refine rb_icge 21 (by decide) dX4_close_5 (fun c1 => ?_) (fun c1 => ?_)
  · skip
    refine rb_iconst (v := (0 : Int32)) (by decide) dX4_close_21 ?_
    refine rb_istore_n 1 rfl (ls' := [some (.ref h), some (.int (0 : Int32)), none]) (by decide) rfl rfl dX4_close_22 ?_
    exact ((K).1 c1)
  · skip
    refine rb_aload_n 0 rfl rfl (rb_isR_ref _) dX4_close_8 ?_
    refine mm_getA (t := 4) fl_X4_105 rfl (by decide) dX4_close_9 ?_
    refine rb_iload_n 1 rfl rfl dX4_close_12 ?_
    refine rb_iconst (v := (0 : Int32)) (by decide) dX4_close_13 ?_
    refine mm_zast (k := 37) (y := (0 : Int32)) rfl (((K).2 c1)).1 (by decide) dX4_close_14 ?_
    refine rb_iinc (ls' := [some (.ref h), some (.int (a1 + (1 : Int32))), none]) (v := (a1 + (1 : Int32))) rfl rfl (by decide) rfl rfl dX4_close_15 ?_
    refine rb_goto 2 (by decide) dX4_close_18 ?_
    exact (((K).2 c1)).2
theorem sgX4_close_23 {κ : rb_K} {M0 : rb_H} {h : Nat} {ms : mm_S} {a1 : Int32} (K : (((ms.1 16 0) ≤ a1 → rb_Bd κ mX4_close (0, 0) (mm_H h ms M0) 56 [some (.ref h), some (.int ((ms.1 0 0) - (1 : Int32))), none] []) ∧ (a1 < (ms.1 16 0) → (vp_in a1 (mm_l 17) ∧ (vp_in (ms.1 17 (a1).toNatClampNeg) (mm_l 37) ∧ rb_Bd κ mX4_close (0, 0) (mm_H h (mm_sI ms 37 ((ms.1 17 (a1).toNatClampNeg)).toNatClampNeg (1 : Int32)) M0) 23 [some (.ref h), some (.int (a1 + (1 : Int32))), none] []))))) : rb_Bd κ mX4_close (0, 0) (mm_H h ms M0) 23 [some (.ref h), some (.int a1), none] [] := by
  refine rb_iload_n 1 rfl rfl dX4_close_23 ?_
  refine rb_aload_n 0 rfl rfl (rb_isR_ref _) dX4_close_24 ?_
  refine mm_getI (v := (ms.1 16 0)) rfl fl_X4_217 rfl dX4_close_25 ?_
  refine rb_icge 49 (by decide) dX4_close_28 (fun c1 => ?_) (fun c1 => ?_)
  · skip
    refine rb_aload_n 0 rfl rfl (rb_isR_ref _) dX4_close_49 ?_
    refine mm_getI (v := (ms.1 0 0)) rfl fl_X4_185 rfl dX4_close_50 ?_
    refine rb_iconst (v := (1 : Int32)) (by decide) dX4_close_53 ?_
    refine rb_isub (z := ((ms.1 0 0) - (1 : Int32))) rfl dX4_close_54 ?_
    refine rb_istore_n 1 rfl (ls' := [some (.ref h), some (.int ((ms.1 0 0) - (1 : Int32))), none]) (by decide) rfl rfl dX4_close_55 ?_
    exact ((K).1 c1)
  · skip
    refine rb_aload_n 0 rfl rfl (rb_isR_ref _) dX4_close_31 ?_
    refine mm_getA (t := 4) fl_X4_105 rfl (by decide) dX4_close_32 ?_
    refine rb_aload_n 0 rfl rfl (rb_isR_ref _) dX4_close_35 ?_
    refine mm_getA (t := 2) fl_X4_54 rfl (by decide) dX4_close_36 ?_
    refine rb_iload_n 1 rfl rfl dX4_close_39 ?_
    refine mm_iald (k := 17) (v := (ms.1 17 (a1).toNatClampNeg)) rfl rfl (((K).2 c1)).1 dX4_close_40 ?_
    refine rb_iconst (v := (1 : Int32)) (by decide) dX4_close_41 ?_
    refine mm_zast (k := 37) (y := (1 : Int32)) rfl ((((K).2 c1)).2).1 (by decide) dX4_close_42 ?_
    refine rb_iinc (ls' := [some (.ref h), some (.int (a1 + (1 : Int32))), none]) (v := (a1 + (1 : Int32))) rfl rfl (by decide) rfl rfl dX4_close_43 ?_
    refine rb_goto 23 (by decide) dX4_close_46 ?_
    exact ((((K).2 c1)).2).2
theorem sgX4_close_56 {κ : rb_K} {M0 : rb_H} {h : Nat} {ms : mm_S} {a1 : Int32} (K : ((a1 < 0 → rb_Bd κ mX4_close (0, 0) (mm_H h ms M0) 111 [some (.ref h), some (.int (0 : Int32)), none] []) ∧ (0 ≤ a1 → rb_Bd κ mX4_close (0, 0) (mm_H h ms M0) 62 [some (.ref h), some (.int a1), some (.int (0 : Int32))] []))) : rb_Bd κ mX4_close (0, 0) (mm_H h ms M0) 56 [some (.ref h), some (.int a1), none] [] := by
  refine rb_iload_n 1 rfl rfl dX4_close_56 ?_
  refine rb_iflt 109 (by decide) dX4_close_57 (fun c1 => ?_) (fun c1 => ?_)
  · skip
    refine rb_iconst (v := (0 : Int32)) (by decide) dX4_close_109 ?_
    refine rb_istore_n 1 rfl (ls' := [some (.ref h), some (.int (0 : Int32)), none]) (by decide) rfl rfl dX4_close_110 ?_
    exact ((K).1 c1)
  · skip
    refine rb_iconst (v := (0 : Int32)) (by decide) dX4_close_60 ?_
    refine rb_istore_n 2 rfl (ls' := [some (.ref h), some (.int a1), some (.int (0 : Int32))]) (by decide) rfl rfl dX4_close_61 ?_
    exact ((K).2 c1)
theorem sgX4_close_62 {κ : rb_K} {M0 : rb_H} {h : Nat} {ms : mm_S} {a1 : Int32} {a2 : Int32} (K : (vp_in a1 (mm_l 4) ∧ (((ms.1 4 (a1).toNatClampNeg) ≤ a2 → rb_Bd κ mX4_close (0, 0) (mm_H h ms M0) 56 [some (.ref h), some (.int (a1 + (-1 : Int32))), some (.int a2)] []) ∧ (a2 < (ms.1 4 (a1).toNatClampNeg) → (vp_in a1 (mm_l 37) ∧ (((ms.1 37 (a1).toNatClampNeg) = 0 → rb_Bd κ mX4_close (0, 0) (mm_H h ms M0) 56 [some (.ref h), some (.int (a1 + (-1 : Int32))), some (.int a2)] []) ∧ (¬ (ms.1 37 (a1).toNatClampNeg) = 0 → (vp_in (((4 : Int32) * a1) + a2) (mm_l 5) ∧ (vp_in (ms.1 5 ((((4 : Int32) * a1) + a2)).toNatClampNeg) (mm_l 37) ∧ rb_Bd κ mX4_close (0, 0) (mm_H h (mm_sI ms 37 ((ms.1 5 ((((4 : Int32) * a1) + a2)).toNatClampNeg)).toNatClampNeg (1 : Int32)) M0) 62 [some (.ref h), some (.int a1), some (.int (a2 + (1 : Int32)))] []))))))))) : rb_Bd κ mX4_close (0, 0) (mm_H h ms M0) 62 [some (.ref h), some (.int a1), some (.int a2)] [] := by
  refine rb_iload_n 2 rfl rfl dX4_close_62 ?_
  refine rb_aload_n 0 rfl rfl (rb_isR_ref _) dX4_close_63 ?_
  refine mm_getA (t := 2) fl_X4_19 rfl (by decide) dX4_close_64 ?_
  refine rb_iload_n 1 rfl rfl dX4_close_67 ?_
  refine mm_iald (k := 4) (v := (ms.1 4 (a1).toNatClampNeg)) rfl rfl (K).1 dX4_close_68 ?_
  refine rb_icge 103 (by decide) dX4_close_69 (fun c1 => ?_) (fun c1 => ?_)
  · skip
    refine rb_iinc (ls' := [some (.ref h), some (.int (a1 + (-1 : Int32))), some (.int a2)]) (v := (a1 + (-1 : Int32))) rfl (congrArg (fun z => a1 + z) (show Int32.ofInt (-1) = (-1 : Int32) from by decide)) (by decide) rfl rfl dX4_close_103 ?_
    refine rb_goto 56 (by decide) dX4_close_106 ?_
    exact (((K).2).1 c1)
  · skip
    refine rb_aload_n 0 rfl rfl (rb_isR_ref _) dX4_close_72 ?_
    refine mm_getA (t := 4) fl_X4_105 rfl (by decide) dX4_close_73 ?_
    refine rb_iload_n 1 rfl rfl dX4_close_76 ?_
    refine mm_zald (k := 37) (v := (ms.1 37 (a1).toNatClampNeg)) rfl rfl ((((K).2).2 c1)).1 dX4_close_77 ?_
    refine rb_ifeq 103 (by decide) dX4_close_78 (fun c2 => ?_) (fun c2 => ?_)
    · skip
      refine rb_iinc (ls' := [some (.ref h), some (.int (a1 + (-1 : Int32))), some (.int a2)]) (v := (a1 + (-1 : Int32))) rfl (congrArg (fun z => a1 + z) (show Int32.ofInt (-1) = (-1 : Int32) from by decide)) (by decide) rfl rfl dX4_close_103 ?_
      refine rb_goto 56 (by decide) dX4_close_106 ?_
      exact ((((((K).2).2 c1)).2).1 c2)
    · skip
      refine rb_aload_n 0 rfl rfl (rb_isR_ref _) dX4_close_81 ?_
      refine mm_getA (t := 4) fl_X4_105 rfl (by decide) dX4_close_82 ?_
      refine rb_aload_n 0 rfl rfl (rb_isR_ref _) dX4_close_85 ?_
      refine mm_getA (t := 2) fl_X4_22 rfl (by decide) dX4_close_86 ?_
      refine rb_iconst (v := (4 : Int32)) (by decide) dX4_close_89 ?_
      refine rb_iload_n 1 rfl rfl dX4_close_90 ?_
      refine rb_imul (z := ((4 : Int32) * a1)) rfl dX4_close_91 ?_
      refine rb_iload_n 2 rfl rfl dX4_close_92 ?_
      refine rb_iadd (z := (((4 : Int32) * a1) + a2)) rfl dX4_close_93 ?_
      refine mm_iald (k := 5) (v := (ms.1 5 ((((4 : Int32) * a1) + a2)).toNatClampNeg)) rfl rfl (((((((K).2).2 c1)).2).2 c2)).1 dX4_close_94 ?_
      refine rb_iconst (v := (1 : Int32)) (by decide) dX4_close_95 ?_
      refine mm_zast (k := 37) (y := (1 : Int32)) rfl ((((((((K).2).2 c1)).2).2 c2)).2).1 (by decide) dX4_close_96 ?_
      refine rb_iinc (ls' := [some (.ref h), some (.int a1), some (.int (a2 + (1 : Int32)))]) (v := (a2 + (1 : Int32))) rfl rfl (by decide) rfl rfl dX4_close_97 ?_
      refine rb_goto 62 (by decide) dX4_close_100 ?_
      exact ((((((((K).2).2 c1)).2).2 c2)).2).2
theorem sgX4_close_111 {κ : rb_K} {M0 : rb_H} {h : Nat} {ms : mm_S} {a1 : Int32} (K : (((24 : Int32) ≤ a1 → (κ.2.2.1 (.returned none) (mm_H h ms M0))) ∧ (a1 < (24 : Int32) → (vp_in a1 (mm_l 37) ∧ (vp_in a1 (mm_l 38) ∧ vp_nar .boolean (ms.1 37 (a1).toNatClampNeg) = (ms.1 37 (a1).toNatClampNeg) ∧ rb_Bd κ mX4_close (0, 0) (mm_H h (mm_sI ms 38 (a1).toNatClampNeg (ms.1 37 (a1).toNatClampNeg)) M0) 111 [some (.ref h), some (.int (a1 + (1 : Int32))), none] []))))) : rb_Bd κ mX4_close (0, 0) (mm_H h ms M0) 111 [some (.ref h), some (.int a1), none] [] := by
  refine rb_iload_n 1 rfl rfl dX4_close_111 ?_
  refine rb_bipush (v := (24 : Int32)) (by decide) dX4_close_112 ?_
  refine rb_icge 135 (by decide) dX4_close_114 (fun c1 => ?_) (fun c1 => ?_)
  · skip
    exact rb_vret rfl (Nat.zero_le _) (Nat.zero_le _) dX4_close_135 ((K).1 c1)
  · skip
    refine rb_aload_n 0 rfl rfl (rb_isR_ref _) dX4_close_117 ?_
    refine mm_getA (t := 4) fl_X4_108 rfl (by decide) dX4_close_118 ?_
    refine rb_iload_n 1 rfl rfl dX4_close_121 ?_
    refine rb_aload_n 0 rfl rfl (rb_isR_ref _) dX4_close_122 ?_
    refine mm_getA (t := 4) fl_X4_105 rfl (by decide) dX4_close_123 ?_
    refine rb_iload_n 1 rfl rfl dX4_close_126 ?_
    refine mm_zald (k := 37) (v := (ms.1 37 (a1).toNatClampNeg)) rfl rfl (((K).2 c1)).1 dX4_close_127 ?_
    refine mm_zast (k := 38) (y := (ms.1 37 (a1).toNatClampNeg)) rfl ((((K).2 c1)).2).1 ((((K).2 c1)).2).2.1 dX4_close_128 ?_
    refine rb_iinc (ls' := [some (.ref h), some (.int (a1 + (1 : Int32))), none]) (v := (a1 + (1 : Int32))) rfl rfl (by decide) rfl rfl dX4_close_129 ?_
    refine rb_goto 111 (by decide) dX4_close_132 ?_
    exact ((((K).2 c1)).2).2.2
theorem sgX4_leastAhead_0 {κ : rb_K} {M0 : rb_H} {h : Nat} {ms : mm_S} {a1 : Int32} (K : rb_Bd κ mX4_leastAhead (0, 0) (mm_H h ms M0) 2 [some (.ref h), some (.int a1), some (.int (0 : Int32))] []) : rb_Bd κ mX4_leastAhead (0, 0) (mm_H h ms M0) 0 [some (.ref h), some (.int a1), none] [] := by
  refine rb_iconst (v := (0 : Int32)) (by decide) dX4_leastAhead_0 ?_
  refine rb_istore_n 2 rfl (ls' := [some (.ref h), some (.int a1), some (.int (0 : Int32))]) (by decide) rfl rfl dX4_leastAhead_1 ?_
  exact K
theorem sgX4_leastAhead_2 {κ : rb_K} {M0 : rb_H} {h : Nat} {ms : mm_S} {a1 : Int32} {a2 : Int32} (K : (((ms.1 0 0) ≤ a2 → (κ.2.2.1 (.returned (some (.int (-9 : Int32)))) (mm_H h ms M0))) ∧ (a2 < (ms.1 0 0) → (vp_in a2 (mm_l 38) ∧ (((ms.1 38 (a2).toNatClampNeg) = 0 → rb_Bd κ mX4_leastAhead (0, 0) (mm_H h ms M0) 2 [some (.ref h), some (.int a1), some (.int (a2 + (1 : Int32)))] []) ∧ (¬ (ms.1 38 (a2).toNatClampNeg) = 0 → ((a2 = a1 → rb_Bd κ mX4_leastAhead (0, 0) (mm_H h ms M0) 2 [some (.ref h), some (.int a1), some (.int (a2 + (1 : Int32)))] []) ∧ (¬ a2 = a1 → (∃ (x4 : Int32) (ms5 : mm_S) (d6 : Nat), mm_C κ.1 yX4_isAhead wX4_isAhead d6 h M0 ms [.ref h, .int a2, .int a1] (some (.int x4)) ms5 ∧ rb_dp κ d6 ∧ ((x4 = 0 → rb_Bd κ mX4_leastAhead (0, 0) (mm_H h ms5 M0) 2 [some (.ref h), some (.int a1), some (.int (a2 + (1 : Int32)))] []) ∧ (¬ x4 = 0 → (κ.2.2.1 (.returned (some (.int a2))) (mm_H h ms5 M0))))))))))))) : rb_Bd κ mX4_leastAhead (0, 0) (mm_H h ms M0) 2 [some (.ref h), some (.int a1), some (.int a2)] [] := by
  refine rb_iload_n 2 rfl rfl dX4_leastAhead_2 ?_
  refine rb_aload_n 0 rfl rfl (rb_isR_ref _) dX4_leastAhead_3 ?_
  refine mm_getI (v := (ms.1 0 0)) rfl fl_X4_185 rfl dX4_leastAhead_4 ?_
  refine rb_icge 41 (by decide) dX4_leastAhead_7 (fun c1 => ?_) (fun c1 => ?_)
  · skip
    refine rb_bipush (v := (-9 : Int32)) (by decide) dX4_leastAhead_41 ?_
    exact rb_iret rfl rfl (Nat.zero_le _) (Nat.zero_le _) dX4_leastAhead_43 ((K).1 c1)
  · skip
    refine rb_aload_n 0 rfl rfl (rb_isR_ref _) dX4_leastAhead_10 ?_
    refine mm_getA (t := 4) fl_X4_108 rfl (by decide) dX4_leastAhead_11 ?_
    refine rb_iload_n 2 rfl rfl dX4_leastAhead_14 ?_
    refine mm_zald (k := 38) (v := (ms.1 38 (a2).toNatClampNeg)) rfl rfl (((K).2 c1)).1 dX4_leastAhead_15 ?_
    refine rb_ifeq 35 (by decide) dX4_leastAhead_16 (fun c2 => ?_) (fun c2 => ?_)
    · skip
      refine rb_iinc (ls' := [some (.ref h), some (.int a1), some (.int (a2 + (1 : Int32)))]) (v := (a2 + (1 : Int32))) rfl rfl (by decide) rfl rfl dX4_leastAhead_35 ?_
      refine rb_goto 2 (by decide) dX4_leastAhead_38 ?_
      exact (((((K).2 c1)).2).1 c2)
    · skip
      refine rb_iload_n 2 rfl rfl dX4_leastAhead_19 ?_
      refine rb_iload_n 1 rfl rfl dX4_leastAhead_20 ?_
      refine rb_iceq 35 (by decide) dX4_leastAhead_21 (fun c3 => ?_) (fun c3 => ?_)
      · skip
        refine rb_iinc (ls' := [some (.ref h), some (.int a1), some (.int (a2 + (1 : Int32)))]) (v := (a2 + (1 : Int32))) rfl rfl (by decide) rfl rfl dX4_leastAhead_35 ?_
        refine rb_goto 2 (by decide) dX4_leastAhead_38 ?_
        exact (((((((K).2 c1)).2).2 c2)).1 c3)
      · skip
        refine rb_aload_n 0 rfl rfl (rb_isR_ref _) dX4_leastAhead_24 ?_
        refine rb_iload_n 2 rfl rfl dX4_leastAhead_25 ?_
        refine rb_iload_n 1 rfl rfl dX4_leastAhead_26 ?_
        obtain ⟨x4, ms5, d6, h1, h2, Kx4⟩ := (((((((K).2 c1)).2).2 c2)).2 c3)
        refine mm_call st_X4_226 (rest := []) h1 rfl rfl mm_rc (Nat.le_of_ble_eq_true rfl) h2 dX4_leastAhead_27 ?_
        show rb_Bd κ mX4_leastAhead (0, 0) (mm_H h ms5 M0) 30 [some (.ref h), some (.int a1), some (.int a2)] [.int x4]
        refine rb_ifeq 35 (by decide) dX4_leastAhead_30 (fun c7 => ?_) (fun c7 => ?_)
        · skip
          refine rb_iinc (ls' := [some (.ref h), some (.int a1), some (.int (a2 + (1 : Int32)))]) (v := (a2 + (1 : Int32))) rfl rfl (by decide) rfl rfl dX4_leastAhead_35 ?_
          refine rb_goto 2 (by decide) dX4_leastAhead_38 ?_
          exact ((Kx4).1 c7)
        · skip
          refine rb_iload_n 2 rfl rfl dX4_leastAhead_33 ?_
          exact rb_iret rfl rfl (Nat.zero_le _) (Nat.zero_le _) dX4_leastAhead_34 ((Kx4).2 c7)
