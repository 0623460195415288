set_option maxRecDepth 100000
theorem sgX4_isAhead_0 {κ : rb_K} {M0 : rb_H} {h : Nat} {ms : mm_S} {a1 : Int32} {a2 : Int32} (K : (∃ (x1 : Int32) (ms2 : mm_S) (d3 : Nat), mm_C κ.1 yX4_isExtended wX4_isExtended d3 h M0 ms [.ref h, .int a2, .int a1] (some (.int x1)) ms2 ∧ rb_dp κ d3 ∧ rb_Bd κ mX4_isAhead (0, 0) (mm_H h ms2 M0) 10 [some (.ref h), some (.int a1), some (.int a2), some (.int x1), some (.int (0 : Int32)), none, none] [])) : rb_Bd κ mX4_isAhead (0, 0) (mm_H h ms M0) 0 [some (.ref h), some (.int a1), some (.int a2), none, none, none, none] [] := by
  refine rb_aload_n 0 rfl rfl (rb_isR_ref _) dX4_isAhead_0 ?_
  refine rb_iload_n 2 rfl rfl dX4_isAhead_1 ?_
  refine rb_iload_n 1 rfl rfl dX4_isAhead_2 ?_
  obtain ⟨x1, ms2, d3, h1, h2, Kx1⟩ := K
  refine mm_call st_X4_196 (rest := []) h1 rfl rfl mm_rc (Nat.le_of_ble_eq_true rfl) h2 dX4_isAhead_3 ?_
  show rb_Bd κ mX4_isAhead (0, 0) (mm_H h ms2 M0) 6 [some (.ref h), some (.int a1), some (.int a2), none, none, none, none] [.int x1]
  refine rb_istore_n 3 rfl (ls' := [some (.ref h), some (.int a1), some (.int a2), some (.int x1), none, none, none]) (by decide) rfl rfl dX4_isAhead_6 ?_
  refine rb_iconst (v := (0 : Int32)) (by decide) dX4_isAhead_7 ?_
  refine rb_istore (ls' := [some (.ref h), some (.int a1), some (.int a2), some (.int x1), some (.int (0 : Int32)), none, none]) (by decide) rfl rfl dX4_isAhead_8 ?_
  exact Kx1
theorem sgX4_isAhead_10 {κ : rb_K} {M0 : rb_H} {h : Nat} {ms : mm_S} {a1 : Int32} {a2 : Int32} {a3 : Int32} {a4 : Int32} (K : (((ms.1 0 0) ≤ a4 → rb_Bd κ mX4_isAhead (0, 0) (mm_H h ms M0) 67 [some (.ref h), some (.int a1), some (.int a2), some (.int a3), some (.int (-9 : Int32)), some (.int (-9 : Int32)), some (.int (0 : Int32))] []) ∧ (a4 < (ms.1 0 0) → ((¬ a3 = 0 → rb_Bd κ mX4_isAhead (0, 0) (mm_H h ms M0) 10 [some (.ref h), some (.int a1), some (.int a2), some (.int (1 : Int32)), some (.int (a4 + (1 : Int32))), none, none] []) ∧ (a3 = 0 → (vp_in a4 (mm_l 37) ∧ (((ms.1 37 (a4).toNatClampNeg) = 0 → rb_Bd κ mX4_isAhead (0, 0) (mm_H h ms M0) 10 [some (.ref h), some (.int a1), some (.int a2), some (.int (0 : Int32)), some (.int (a4 + (1 : Int32))), none, none] []) ∧ (¬ (ms.1 37 (a4).toNatClampNeg) = 0 → (∃ (x4 : Int32) (ms5 : mm_S) (d6 : Nat), mm_C κ.1 yX4_isToldBy wX4_isToldBy d6 h M0 ms [.ref h, .int a4, .int a1, .int a2] (some (.int x4)) ms5 ∧ rb_dp κ d6 ∧ ((x4 = 0 → rb_Bd κ mX4_isAhead (0, 0) (mm_H h ms5 M0) 10 [some (.ref h), some (.int a1), some (.int a2), some (.int (0 : Int32)), some (.int (a4 + (1 : Int32))), none, none] []) ∧ (¬ x4 = 0 → rb_Bd κ mX4_isAhead (0, 0) (mm_H h ms5 M0) 10 [some (.ref h), some (.int a1), some (.int a2), some (.int (1 : Int32)), some (.int (a4 + (1 : Int32))), none, none] []))))))))))) : rb_Bd κ mX4_isAhead (0, 0) (mm_H h ms M0) 10 [some (.ref h), some (.int a1), some (.int a2), some (.int a3), some (.int a4), none, none] [] := by
  refine rb_iload rfl dX4_isAhead_10 ?_
  refine rb_aload_n 0 rfl rfl (rb_isR_ref _) dX4_isAhead_12 ?_
  refine mm_getI (v := (ms.1 0 0)) rfl fl_X4_185 rfl dX4_isAhead_13 ?_
  refine rb_icge 56 (by decide) dX4_isAhead_16 (fun c1 => ?_) (fun c1 => ?_)
  · skip
    refine rb_bipush (v := (-9 : Int32)) (by decide) dX4_isAhead_56 ?_
    refine rb_istore (ls' := [some (.ref h), some (.int a1), some (.int a2), some (.int a3), some (.int (-9 : Int32)), none, none]) (by decide) rfl rfl dX4_isAhead_58 ?_
    refine rb_bipush (v := (-9 : Int32)) (by decide) dX4_isAhead_60 ?_
    refine rb_istore (ls' := [some (.ref h), some (.int a1), some (.int a2), some (.int a3), some (.int (-9 : Int32)), some (.int (-9 : Int32)), none]) (by decide) rfl rfl dX4_isAhead_62 ?_
    refine rb_iconst (v := (0 : Int32)) (by decide) dX4_isAhead_64 ?_
    refine rb_istore (ls' := [some (.ref h), some (.int a1), some (.int a2), some (.int a3), some (.int (-9 : Int32)), some (.int (-9 : Int32)), some (.int (0 : Int32))]) (by decide) rfl rfl dX4_isAhead_65 ?_
    exact ((K).1 c1)
  · skip
    refine rb_iload_n 3 rfl rfl dX4_isAhead_19 ?_
    refine rb_ifne 44 (by decide) dX4_isAhead_20 (fun c2 => ?_) (fun c2 => ?_)
    · skip
      refine rb_iconst (v := (1 : Int32)) (by decide) dX4_isAhead_44 ?_
      refine rb_goto 49 (by decide) dX4_isAhead_45 ?_
      refine rb_istore_n 3 rfl (ls' := [some (.ref h), some (.int a1), some (.int a2), some (.int (1 : Int32)), some (.int a4), none, none]) (by decide) rfl rfl dX4_isAhead_49 ?_
      refine rb_iinc (ls' := [some (.ref h), some (.int a1), some (.int a2), some (.int (1 : Int32)), some (.int (a4 + (1 : Int32))), none, none]) (v := (a4 + (1 : Int32))) rfl rfl (by decide) rfl rfl dX4_isAhead_50 ?_
      refine rb_goto 10 (by decide) dX4_isAhead_53 ?_
      exact ((((K).2 c1)).1 c2)
    · skip
      refine rb_aload_n 0 rfl rfl (rb_isR_ref _) dX4_isAhead_23 ?_
      refine mm_getA (t := 4) fl_X4_105 rfl (by decide) dX4_isAhead_24 ?_
      refine rb_iload rfl dX4_isAhead_27 ?_
      refine mm_zald (k := 37) (v := (ms.1 37 (a4).toNatClampNeg)) rfl rfl (((((K).2 c1)).2 c2)).1 dX4_isAhead_29 ?_
      refine rb_ifeq 48 (by decide) dX4_isAhead_30 (fun c3 => ?_) (fun c3 => ?_)
      · skip
        refine rb_iconst (v := (0 : Int32)) (by decide) dX4_isAhead_48 ?_
        refine rb_istore_n 3 rfl (ls' := [some (.ref h), some (.int a1), some (.int a2), some (.int (0 : Int32)), some (.int a4), none, none]) (by decide) rfl rfl dX4_isAhead_49 ?_
        refine rb_iinc (ls' := [some (.ref h), some (.int a1), some (.int a2), some (.int (0 : Int32)), some (.int (a4 + (1 : Int32))), none, none]) (v := (a4 + (1 : Int32))) rfl rfl (by decide) rfl rfl dX4_isAhead_50 ?_
        refine rb_goto 10 (by decide) dX4_isAhead_53 ?_
        exact (((((((K).2 c1)).2 c2)).2).1 c3)
      · skip
        refine rb_aload_n 0 rfl rfl (rb_isR_ref _) dX4_isAhead_33 ?_
        refine rb_iload rfl dX4_isAhead_34 ?_
        refine rb_iload_n 1 rfl rfl dX4_isAhead_36 ?_
        refine rb_iload_n 2 rfl rfl dX4_isAhead_37 ?_
        obtain ⟨x4, ms5, d6, h1, h2, Kx4⟩ := (((((((K).2 c1)).2 c2)).2).2 c3)
        refine mm_call st_X4_223 (rest := []) h1 rfl rfl mm_rc (Nat.le_of_ble_eq_true rfl) h2 dX4_isAhead_38 ?_
        show rb_Bd κ mX4_isAhead (0, 0) (mm_H h ms5 M0) 41 [some (.ref h), some (.int a1), some (.int a2), some (.int a3), some (.int a4), none, none] [.int x4]
        refine rb_ifeq 48 (by decide) dX4_isAhead_41 (fun c7 => ?_) (fun c7 => ?_)
        · skip
          refine rb_iconst (v := (0 : Int32)) (by decide) dX4_isAhead_48 ?_
          refine rb_istore_n 3 rfl (ls' := [some (.ref h), some (.int a1), some (.int a2), some (.int (0 : Int32)), some (.int a4), none, none]) (by decide) rfl rfl dX4_isAhead_49 ?_
          refine rb_iinc (ls' := [some (.ref h), some (.int a1), some (.int a2), some (.int (0 : Int32)), some (.int (a4 + (1 : Int32))), none, none]) (v := (a4 + (1 : Int32))) rfl rfl (by decide) rfl rfl dX4_isAhead_50 ?_
          refine rb_goto 10 (by decide) dX4_isAhead_53 ?_
          exact ((Kx4).1 c7)
        · skip
          refine rb_iconst (v := (1 : Int32)) (by decide) dX4_isAhead_44 ?_
          refine rb_goto 49 (by decide) dX4_isAhead_45 ?_
          refine rb_istore_n 3 rfl (ls' := [some (.ref h), some (.int a1), some (.int a2), some (.int (1 : Int32)), some (.int a4), none, none]) (by decide) rfl rfl dX4_isAhead_49 ?_
          refine rb_iinc (ls' := [some (.ref h), some (.int a1), some (.int a2), some (.int (1 : Int32)), some (.int (a4 + (1 : Int32))), none, none]) (v := (a4 + (1 : Int32))) rfl rfl (by decide) rfl rfl dX4_isAhead_50 ?_
          refine rb_goto 10 (by decide) dX4_isAhead_53 ?_
          exact ((Kx4).2 c7)
theorem sgX4_isAhead_67 {κ : rb_K} {M0 : rb_H} {h : Nat} {ms : mm_S} {a1 : Int32} {a2 : Int32} {a3 : Int32} {a4 : Int32} {a5 : Int32} {a6 : Int32} (K : (((ms.1 16 0) ≤ a6 → ((¬ a3 = 0 → rb_Bd κ mX4_isAhead (0, 0) (mm_H h ms M0) 152 [some (.ref h), some (.int a1), some (.int a2), some (.int (1 : Int32)), some (.int a4), some (.int a5), some (.int (0 : Int32))] []) ∧ (a3 = 0 → ((a4 < 0 → rb_Bd κ mX4_isAhead (0, 0) (mm_H h ms M0) 152 [some (.ref h), some (.int a1), some (.int a2), some (.int (0 : Int32)), some (.int a4), some (.int a5), some (.int (0 : Int32))] []) ∧ (0 ≤ a4 → ((a5 < 0 → rb_Bd κ mX4_isAhead (0, 0) (mm_H h ms M0) 152 [some (.ref h), some (.int a1), some (.int a2), some (.int (0 : Int32)), some (.int a4), some (.int a5), some (.int (0 : Int32))] []) ∧ (0 ≤ a5 → ((a5 ≤ a4 → rb_Bd κ mX4_isAhead (0, 0) (mm_H h ms M0) 152 [some (.ref h), some (.int a1), some (.int a2), some (.int (0 : Int32)), some (.int a4), some (.int a5), some (.int (0 : Int32))] []) ∧ (a4 < a5 → rb_Bd κ mX4_isAhead (0, 0) (mm_H h ms M0) 152 [some (.ref h), some (.int a1), some (.int a2), some (.int (1 : Int32)), some (.int a4), some (.int a5), some (.int (0 : Int32))] []))))))))) ∧ (a6 < (ms.1 16 0) → (vp_in a6 (mm_l 17) ∧ ((¬ (ms.1 17 (a6).toNatClampNeg) = a1 → (vp_in a6 (mm_l 17) ∧ ((¬ (ms.1 17 (a6).toNatClampNeg) = a2 → rb_Bd κ mX4_isAhead (0, 0) (mm_H h ms M0) 67 [some (.ref h), some (.int a1), some (.int a2), some (.int a3), some (.int a4), some (.int a5), some (.int (a6 + (1 : Int32)))] []) ∧ ((ms.1 17 (a6).toNatClampNeg) = a2 → rb_Bd κ mX4_isAhead (0, 0) (mm_H h ms M0) 67 [some (.ref h), some (.int a1), some (.int a2), some (.int a3), some (.int a4), some (.int a6), some (.int (a6 + (1 : Int32)))] [])))) ∧ ((ms.1 17 (a6).toNatClampNeg) = a1 → (vp_in a6 (mm_l 17) ∧ ((¬ (ms.1 17 (a6).toNatClampNeg) = a2 → rb_Bd κ mX4_isAhead (0, 0) (mm_H h ms M0) 67 [some (.ref h), some (.int a1), some (.int a2), some (.int a3), some (.int a6), some (.int a5), some (.int (a6 + (1 : Int32)))] []) ∧ ((ms.1 17 (a6).toNatClampNeg) = a2 → rb_Bd κ mX4_isAhead (0, 0) (mm_H h ms M0) 67 [some (.ref h), some (.int a1), some (.int a2), some (.int a3), some (.int a6), some (.int a6), some (.int (a6 + (1 : Int32)))] []))))))))) : rb_Bd κ mX4_isAhead (0, 0) (mm_H h ms M0) 67 [some (.ref h), some (.int a1), some (.int a2), some (.int a3), some (.int a4), some (.int a5), some (.int a6)] [] := by
  refine rb_iload rfl dX4_isAhead_67 ?_
  refine rb_aload_n 0 rfl rfl (rb_isR_ref _) dX4_isAhead_69 ?_
  refine mm_getI (v := (ms.1 16 0)) rfl fl_X4_217 rfl dX4_isAhead_70 ?_
  refine rb_icge 122 (by decide) dX4_isAhead_73 (fun c1 => ?_) (fun c1 => ?_)
  · skip
    refine rb_iload_n 3 rfl rfl dX4_isAhead_122 ?_
    refine rb_ifne 143 (by decide) dX4_isAhead_123 (fun c2 => ?_) (fun c2 => ?_)
    · skip
      refine rb_iconst (v := (1 : Int32)) (by decide) dX4_isAhead_143 ?_
      refine rb_goto 148 (by decide) dX4_isAhead_144 ?_
      refine rb_istore_n 3 rfl (ls' := [some (.ref h), some (.int a1), some (.int a2), some (.int (1 : Int32)), some (.int a4), some (.int a5), some (.int a6)]) (by decide) rfl rfl dX4_isAhead_148 ?_
      refine rb_iconst (v := (0 : Int32)) (by decide) dX4_isAhead_149 ?_
      refine rb_istore (ls' := [some (.ref h), some (.int a1), some (.int a2), some (.int (1 : Int32)), some (.int a4), some (.int a5), some (.int (0 : Int32))]) (by decide) rfl rfl dX4_isAhead_150 ?_
      exact ((((K).1 c1)).1 c2)
    · skip
      refine rb_iload rfl dX4_isAhead_126 ?_
      refine rb_iflt 147 (by decide) dX4_isAhead_128 (fun c3 => ?_) (fun c3 => ?_)
      · skip
        refine rb_iconst (v := (0 : Int32)) (by decide) dX4_isAhead_147 ?_
        refine rb_istore_n 3 rfl (ls' := [some (.ref h), some (.int a1), some (.int a2), some (.int (0 : Int32)), some (.int a4), some (.int a5), some (.int a6)]) (by decide) rfl rfl dX4_isAhead_148 ?_
        refine rb_iconst (v := (0 : Int32)) (by decide) dX4_isAhead_149 ?_
        refine rb_istore (ls' := [some (.ref h), some (.int a1), some (.int a2), some (.int (0 : Int32)), some (.int a4), some (.int a5), some (.int (0 : Int32))]) (by decide) rfl rfl dX4_isAhead_150 ?_
        exact ((((((K).1 c1)).2 c2)).1 c3)
      · skip
        refine rb_iload rfl dX4_isAhead_131 ?_
        refine rb_iflt 147 (by decide) dX4_isAhead_133 (fun c4 => ?_) (fun c4 => ?_)
        · skip
          refine rb_iconst (v := (0 : Int32)) (by decide) dX4_isAhead_147 ?_
          refine rb_istore_n 3 rfl (ls' := [some (.ref h), some (.int a1), some (.int a2), some (.int (0 : Int32)), some (.int a4), some (.int a5), some (.int a6)]) (by decide) rfl rfl dX4_isAhead_148 ?_
          refine rb_iconst (v := (0 : Int32)) (by decide) dX4_isAhead_149 ?_
          refine rb_istore (ls' := [some (.ref h), some (.int a1), some (.int a2), some (.int (0 : Int32)), some (.int a4), some (.int a5), some (.int (0 : Int32))]) (by decide) rfl rfl dX4_isAhead_150 ?_
          exact ((((((((K).1 c1)).2 c2)).2 c3)).1 c4)
        · skip
          refine rb_iload rfl dX4_isAhead_136 ?_
          refine rb_iload rfl dX4_isAhead_138 ?_
          refine rb_icge 147 (by decide) dX4_isAhead_140 (fun c5 => ?_) (fun c5 => ?_)
          · skip
            refine rb_iconst (v := (0 : Int32)) (by decide) dX4_isAhead_147 ?_
            refine rb_istore_n 3 rfl (ls' := [some (.ref h), some (.int a1), some (.int a2), some (.int (0 : Int32)), some (.int a4), some (.int a5), some (.int a6)]) (by decide) rfl rfl dX4_isAhead_148 ?_
            refine rb_iconst (v := (0 : Int32)) (by decide) dX4_isAhead_149 ?_
            refine rb_istore (ls' := [some (.ref h), some (.int a1), some (.int a2), some (.int (0 : Int32)), some (.int a4), some (.int a5), some (.int (0 : Int32))]) (by decide) rfl rfl dX4_isAhead_150 ?_
            exact ((((((((((K).1 c1)).2 c2)).2 c3)).2 c4)).1 c5)
          · skip
            refine rb_iconst (v := (1 : Int32)) (by decide) dX4_isAhead_143 ?_
            refine rb_goto 148 (by decide) dX4_isAhead_144 ?_
            refine rb_istore_n 3 rfl (ls' := [some (.ref h), some (.int a1), some (.int a2), some (.int (1 : Int32)), some (.int a4), some (.int a5), some (.int a6)]) (by decide) rfl rfl dX4_isAhead_148 ?_
            refine rb_iconst (v := (0 : Int32)) (by decide) dX4_isAhead_149 ?_
            refine rb_istore (ls' := [some (.ref h), some (.int a1), some (.int a2), some (.int (1 : Int32)), some (.int a4), some (.int a5), some (.int (0 : Int32))]) (by decide) rfl rfl dX4_isAhead_150 ?_
            exact ((((((((((K).1 c1)).2 c2)).2 c3)).2 c4)).2 c5)
  · skip
    refine rb_aload_n 0 rfl rfl (rb_isR_ref _) dX4_isAhead_76 ?_
    refine mm_getA (t := 2) fl_X4_54 rfl (by decide) dX4_isAhead_77 ?_
    refine rb_iload rfl dX4_isAhead_80 ?_
    refine mm_iald (k := 17) (v := (ms.1 17 (a6).toNatClampNeg)) rfl rfl (((K).2 c1)).1 dX4_isAhead_82 ?_
    refine rb_iload_n 1 rfl rfl dX4_isAhead_83 ?_
    refine rb_icne 92 (by decide) dX4_isAhead_84 (fun c6 => ?_) (fun c6 => ?_)
    · skip
      refine rb_iload rfl dX4_isAhead_92 ?_
      refine rb_istore (ls' := [some (.ref h), some (.int a1), some (.int a2), some (.int a3), some (.int a4), some (.int a5), some (.int a6)]) (by decide) rfl rfl dX4_isAhead_94 ?_
      refine rb_aload_n 0 rfl rfl (rb_isR_ref _) dX4_isAhead_96 ?_
      refine mm_getA (t := 2) fl_X4_54 rfl (by decide) dX4_isAhead_97 ?_
      refine rb_iload rfl dX4_isAhead_100 ?_
      refine mm_iald (k := 17) (v := (ms.1 17 (a6).toNatClampNeg)) rfl rfl ((((((K).2 c1)).2).1 c6)).1 dX4_isAhead_102 ?_
      refine rb_iload_n 2 rfl rfl dX4_isAhead_103 ?_
      refine rb_icne 112 (by decide) dX4_isAhead_104 (fun c7 => ?_) (fun c7 => ?_)
      · skip
        refine rb_iload rfl dX4_isAhead_112 ?_
        refine rb_istore (ls' := [some (.ref h), some (.int a1), some (.int a2), some (.int a3), some (.int a4), some (.int a5), some (.int a6)]) (by decide) rfl rfl dX4_isAhead_114 ?_
        refine rb_iinc (ls' := [some (.ref h), some (.int a1), some (.int a2), some (.int a3), some (.int a4), some (.int a5), some (.int (a6 + (1 : Int32)))]) (v := (a6 + (1 : Int32))) rfl rfl (by decide) rfl rfl dX4_isAhead_116 ?_
        refine rb_goto 67 (by decide) dX4_isAhead_119 ?_
        exact ((((((((K).2 c1)).2).1 c6)).2).1 c7)
      · skip
        refine rb_iload rfl dX4_isAhead_107 ?_
        refine rb_goto 114 (by decide) dX4_isAhead_109 ?_
        refine rb_istore (ls' := [some (.ref h), some (.int a1), some (.int a2), some (.int a3), some (.int a4), some (.int a6), some (.int a6)]) (by decide) rfl rfl dX4_isAhead_114 ?_
        refine rb_iinc (ls' := [some (.ref h), some (.int a1), some (.int a2), some (.int a3), some (.int a4), some (.int a6), some (.int (a6 + (1 : Int32)))]) (v := (a6 + (1 : Int32))) rfl rfl (by decide) rfl rfl dX4_isAhead_116 ?_
        refine rb_goto 67 (by decide) dX4_isAhead_119 ?_
        exact ((((((((K).2 c1)).2).1 c6)).2).2 c7)
    · skip
      refine rb_iload rfl dX4_isAhead_87 ?_
      refine rb_goto 94 (by decide) dX4_isAhead_89 ?_
      refine rb_istore (ls' := [some (.ref h), some (.int a1), some (.int a2), some (.int a3), some (.int a6), some (.int a5), some (.int a6)]) (by decide) rfl rfl dX4_isAhead_94 ?_
      refine rb_aload_n 0 rfl rfl (rb_isR_ref _) dX4_isAhead_96 ?_
      refine mm_getA (t := 2) fl_X4_54 rfl (by decide) dX4_isAhead_97 ?_
      refine rb_iload rfl dX4_isAhead_100 ?_
      refine mm_iald (k := 17) (v := (ms.1 17 (a6).toNatClampNeg)) rfl rfl ((((((K).2 c1)).2).2 c6)).1 dX4_isAhead_102 ?_
      refine rb_iload_n 2 rfl rfl dX4_isAhead_103 ?_
      refine rb_icne 112 (by decide) dX4_isAhead_104 (fun c8 => ?_) (fun c8 => ?_)
      · skip
        refine rb_iload rfl dX4_isAhead_112 ?_
        refine rb_istore (ls' := [some (.ref h), some (.int a1), some (.int a2), some (.int a3), some (.int a6), some (.int a5), some (.int a6)]) (by decide) rfl rfl dX4_isAhead_114 ?_
        refine rb_iinc (ls' := [some (.ref h), some (.int a1), some (.int a2), some (.int a3), some (.int a6), some (.int a5), some (.int (a6 + (1 : Int32)))]) (v := (a6 + (1 : Int32))) rfl rfl (by decide) rfl rfl dX4_isAhead_116 ?_
        refine rb_goto 67 (by decide) dX4_isAhead_119 ?_
        exact ((((((((K).2 c1)).2).2 c6)).2).1 c8)
      · skip
        refine rb_iload rfl dX4_isAhead_107 ?_
        refine rb_goto 114 (by decide) dX4_isAhead_109 ?_
        refine rb_istore (ls' := [some (.ref h), some (.int a1), some (.int a2), some (.int a3), some (.int a6), some (.int a6), some (.int a6)]) (by decide) rfl rfl dX4_isAhead_114 ?_
        refine rb_iinc (ls' := [some (.ref h), some (.int a1), some (.int a2), some (.int a3), some (.int a6), some (.int a6), some (.int (a6 + (1 : Int32)))]) (v := (a6 + (1 : Int32))) rfl rfl (by decide) rfl rfl dX4_isAhead_116 ?_
        refine rb_goto 67 (by decide) dX4_isAhead_119 ?_
        exact ((((((((K).2 c1)).2).2 c6)).2).2 c8)
theorem sgX4_isAhead_152 {κ : rb_K} {M0 : rb_H} {h : Nat} {ms : mm_S} {a1 : Int32} {a2 : Int32} {a3 : Int32} {a4 : Int32} {a5 : Int32} {a6 : Int32} (K : (((ms.1 7 0) ≤ a6 → (narrow .boolean (.int a3) = .int a3 ∧ κ.2.2.1 (.returned (some (.int a3))) (mm_H h ms M0))) ∧ (a6 < (ms.1 7 0) → ((¬ a3 = 0 → rb_Bd κ mX4_isAhead (0, 0) (mm_H h ms M0) 152 [some (.ref h), some (.int a1), some (.int a2), some (.int (1 : Int32)), some (.int a4), some (.int a5), some (.int (a6 + (1 : Int32)))] []) ∧ (a3 = 0 → (vp_in a6 (mm_l 8) ∧ ((¬ (ms.1 8 (a6).toNatClampNeg) = a1 → rb_Bd κ mX4_isAhead (0, 0) (mm_H h ms M0) 152 [some (.ref h), some (.int a1), some (.int a2), some (.int (0 : Int32)), some (.int a4), some (.int a5), some (.int (a6 + (1 : Int32)))] []) ∧ ((ms.1 8 (a6).toNatClampNeg) = a1 → (vp_in a6 (mm_l 9) ∧ ((¬ (ms.1 9 (a6).toNatClampNeg) = a2 → rb_Bd κ mX4_isAhead (0, 0) (mm_H h ms M0) 152 [some (.ref h), some (.int a1), some (.int a2), some (.int (0 : Int32)), some (.int a4), some (.int a5), some (.int (a6 + (1 : Int32)))] []) ∧ ((ms.1 9 (a6).toNatClampNeg) = a2 → rb_Bd κ mX4_isAhead (0, 0) (mm_H h ms M0) 152 [some (.ref h), some (.int a1), some (.int a2), some (.int (1 : Int32)), some (.int a4), some (.int a5), some (.int (a6 + (1 : Int32)))] []))))))))))) : rb_Bd κ mX4_isAhead (0, 0) (mm_H h ms M0) 152 [some (.ref h), some (.int a1), some (.int a2), some (.int a3), some (.int a4), some (.int a5), some (.int a6)] [] := by
  refine rb_iload rfl dX4_isAhead_152 ?_
  refine rb_aload_n 0 rfl rfl (rb_isR_ref _) dX4_isAhead_154 ?_
  refine mm_getI (v := (ms.1 7 0)) rfl fl_X4_203 rfl dX4_isAhead_155 ?_
  refine rb_icge 199 (by decide) dX4_isAhead_158 (fun c1 => ?_) (fun c1 => ?_)
  · skip
    refine rb_iload_n 3 rfl rfl dX4_isAhead_199 ?_
    exact rb_iret rfl (((K).1 c1)).1 (Nat.zero_le _) (Nat.zero_le _) dX4_isAhead_200 (((K).1 c1)).2
  · skip
    refine rb_iload_n 3 rfl rfl dX4_isAhead_161 ?_
    refine rb_ifne 187 (by decide) dX4_isAhead_162 (fun c2 => ?_) (fun c2 => ?_)
    · skip
      refine rb_iconst (v := (1 : Int32)) (by decide) dX4_isAhead_187 ?_
      refine rb_goto 192 (by decide) dX4_isAhead_188 ?_
      refine rb_istore_n 3 rfl (ls' := [some (.ref h), some (.int a1), some (.int a2), some (.int (1 : Int32)), some (.int a4), some (.int a5), some (.int a6)]) (by decide) rfl rfl dX4_isAhead_192 ?_
      refine rb_iinc (ls' := [some (.ref h), some (.int a1), some (.int a2), some (.int (1 : Int32)), some (.int a4), some (.int a5), some (.int (a6 + (1 : Int32)))]) (v := (a6 + (1 : Int32))) rfl rfl (by decide) rfl rfl dX4_isAhead_193 ?_
      refine rb_goto 152 (by decide) dX4_isAhead_196 ?_
      exact ((((K).2 c1)).1 c2)
    · skip
      refine rb_aload_n 0 rfl rfl (rb_isR_ref _) dX4_isAhead_165 ?_
      refine mm_getA (t := 2) fl_X4_29 rfl (by decide) dX4_isAhead_166 ?_
      refine rb_iload rfl dX4_isAhead_169 ?_
      refine mm_iald (k := 8) (v := (ms.1 8 (a6).toNatClampNeg)) rfl rfl (((((K).2 c1)).2 c2)).1 dX4_isAhead_171 ?_
      refine rb_iload_n 1 rfl rfl dX4_isAhead_172 ?_
      refine rb_icne 191 (by decide) dX4_isAhead_173 (fun c3 => ?_) (fun c3 => ?_)
      · skip
        refine rb_iconst (v := (0 : Int32)) (by decide) dX4_isAhead_191 ?_
        refine rb_istore_n 3 rfl (ls' := [some (.ref h), some (.int a1), some (.int a2), some (.int (0 : Int32)), some (.int a4), some (.int a5), some (.int a6)]) (by decide) rfl rfl dX4_isAhead_192 ?_
        refine rb_iinc (ls' := [some (.ref h), some (.int a1), some (.int a2), some (.int (0 : Int32)), some (.int a4), some (.int a5), some (.int (a6 + (1 : Int32)))]) (v := (a6 + (1 : Int32))) rfl rfl (by decide) rfl rfl dX4_isAhead_193 ?_
        refine rb_goto 152 (by decide) dX4_isAhead_196 ?_
        exact (((((((K).2 c1)).2 c2)).2).1 c3)
      · skip
        refine rb_aload_n 0 rfl rfl (rb_isR_ref _) dX4_isAhead_176 ?_
        refine mm_getA (t := 2) fl_X4_32 rfl (by decide) dX4_isAhead_177 ?_
        refine rb_iload rfl dX4_isAhead_180 ?_
        refine mm_iald (k := 9) (v := (ms.1 9 (a6).toNatClampNeg)) rfl rfl ((((((((K).2 c1)).2 c2)).2).2 c3)).1 dX4_isAhead_182 ?_
        refine rb_iload_n 2 rfl rfl dX4_isAhead_183 ?_
        refine rb_icne 191 (by decide) dX4_isAhead_184 (fun c4 => ?_) (fun c4 => ?_)
        · skip
          refine rb_iconst (v := (0 : Int32)) (by decide) dX4_isAhead_191 ?_
          refine rb_istore_n 3 rfl (ls' := [some (.ref h), some (.int a1), some (.int a2), some (.int (0 : Int32)), some (.int a4), some (.int a5), some (.int a6)]) (by decide) rfl rfl dX4_isAhead_192 ?_
          refine rb_iinc (ls' := [some (.ref h), some (.int a1), some (.int a2), some (.int (0 : Int32)), some (.int a4), some (.int a5), some (.int (a6 + (1 : Int32)))]) (v := (a6 + (1 : Int32))) rfl rfl (by decide) rfl rfl dX4_isAhead_193 ?_
          refine rb_goto 152 (by decide) dX4_isAhead_196 ?_
          exact ((((((((((K).2 c1)).2 c2)).2).2 c3)).2).1 c4)
        · skip
          refine rb_iconst (v := (1 : Int32)) (by decide) dX4_isAhead_187 ?_
          refine rb_goto 192 (by decide) dX4_isAhead_188 ?_
          refine rb_istore_n 3 rfl (ls' := [some (.ref h), some (.int a1), some (.int a2), some (.int (1 : Int32)), some (.int a4), some (.int a5), some (.int a6)]) (by decide) rfl rfl dX4_isAhead_192 ?_
          refine rb_iinc (ls' := [some (.ref h), some (.int a1), some (.int a2), some (.int (1 : Int32)), some (.int a4), some (.int a5), some (.int (a6 + (1 : Int32)))]) (v := (a6 + (1 : Int32))) rfl rfl (by decide) rfl rfl dX4_isAhead_193 ?_
          refine rb_goto 152 (by decide) dX4_isAhead_196 ?_
          exact ((((((((((K).2 c1)).2 c2)).2).2 c3)).2).2 c4)
theorem sgX4_isToldBy_0 {κ : rb_K} {M0 : rb_H} {h : Nat} {ms : mm_S} {a1 : Int32} {a2 : Int32} {a3 : Int32} (K : rb_Bd κ mX4_isToldBy (0, 0) (mm_H h ms M0) 11 [some (.ref h), some (.int a1), some (.int a2), some (.int a3), some (.int (-9 : Int32)), some (.int (-9 : Int32)), some (.int (0 : Int32))] []) : rb_Bd κ mX4_isToldBy (0, 0) (mm_H h ms M0) 0 [some (.ref h), some (.int a1), some (.int a2), some (.int a3), none, none, none] [] := by
  refine rb_bipush (v := (-9 : Int32)) (by decide) dX4_isToldBy_0 ?_
  refine rb_istore (ls' := [some (.ref h), some (.int a1), some (.int a2), some (.int a3), some (.int (-9 : Int32)), none, none]) (by decide) rfl rfl dX4_isToldBy_2 ?_
  refine rb_bipush (v := (-9 : Int32)) (by decide) dX4_isToldBy_4 ?_
  refine rb_istore (ls' := [some (.ref h), some (.int a1), some (.int a2), some (.int a3), some (.int (-9 : Int32)), some (.int (-9 : Int32)), none]) (by decide) rfl rfl dX4_isToldBy_6 ?_
  refine rb_iconst (v := (0 : Int32)) (by decide) dX4_isToldBy_8 ?_
  refine rb_istore (ls' := [some (.ref h), some (.int a1), some (.int a2), some (.int a3), some (.int (-9 : Int32)), some (.int (-9 : Int32)), some (.int (0 : Int32))]) (by decide) rfl rfl dX4_isToldBy_9 ?_
  exact K
theorem sgX4_isToldBy_11 {κ : rb_K} {M0 : rb_H} {h : Nat} {ms : mm_S} {a1 : Int32} {a2 : Int32} {a3 : Int32} {a4 : Int32} {a5 : Int32} {a6 : Int32} (K : (vp_in a1 (mm_l 4) ∧ (((ms.1 4 (a1).toNatClampNeg) ≤ a6 → ((a4 < 0 → (κ.2.2.1 (.returned (some (.int (0 : Int32)))) (mm_H h ms M0))) ∧ (0 ≤ a4 → ((a5 < 0 → (κ.2.2.1 (.returned (some (.int (0 : Int32)))) (mm_H h ms M0))) ∧ (0 ≤ a5 → ((a5 ≤ a4 → (κ.2.2.1 (.returned (some (.int (0 : Int32)))) (mm_H h ms M0))) ∧ (a4 < a5 → (κ.2.2.1 (.returned (some (.int (1 : Int32)))) (mm_H h ms M0))))))))) ∧ (a6 < (ms.1 4 (a1).toNatClampNeg) → (vp_in (((4 : Int32) * a1) + a6) (mm_l 5) ∧ ((¬ (ms.1 5 ((((4 : Int32) * a1) + a6)).toNatClampNeg) = a2 → (vp_in (((4 : Int32) * a1) + a6) (mm_l 5) ∧ ((¬ (ms.1 5 ((((4 : Int32) * a1) + a6)).toNatClampNeg) = a3 → rb_Bd κ mX4_isToldBy (0, 0) (mm_H h ms M0) 11 [some (.ref h), some (.int a1), some (.int a2), some (.int a3), some (.int a4), some (.int a5), some (.int (a6 + (1 : Int32)))] []) ∧ ((ms.1 5 ((((4 : Int32) * a1) + a6)).toNatClampNeg) = a3 → rb_Bd κ mX4_isToldBy (0, 0) (mm_H h ms M0) 11 [some (.ref h), some (.int a1), some (.int a2), some (.int a3), some (.int a4), some (.int a6), some (.int (a6 + (1 : Int32)))] [])))) ∧ ((ms.1 5 ((((4 : Int32) * a1) + a6)).toNatClampNeg) = a2 → (vp_in (((4 : Int32) * a1) + a6) (mm_l 5) ∧ ((¬ (ms.1 5 ((((4 : Int32) * a1) + a6)).toNatClampNeg) = a3 → rb_Bd κ mX4_isToldBy (0, 0) (mm_H h ms M0) 11 [some (.ref h), some (.int a1), some (.int a2), some (.int a3), some (.int a6), some (.int a5), some (.int (a6 + (1 : Int32)))] []) ∧ ((ms.1 5 ((((4 : Int32) * a1) + a6)).toNatClampNeg) = a3 → rb_Bd κ mX4_isToldBy (0, 0) (mm_H h ms M0) 11 [some (.ref h), some (.int a1), some (.int a2), some (.int a3), some (.int a6), some (.int a6), some (.int (a6 + (1 : Int32)))] [])))))))))) : rb_Bd κ mX4_isToldBy (0, 0) (mm_H h ms M0) 11 [some (.ref h), some (.int a1), some (.int a2), some (.int a3), some (.int a4), some (.int a5), some (.int a6)] [] := by
  refine rb_iload rfl dX4_isToldBy_11 ?_
  refine rb_aload_n 0 rfl rfl (rb_isR_ref _) dX4_isToldBy_13 ?_
  refine mm_getA (t := 2) fl_X4_19 rfl (by decide) dX4_isToldBy_14 ?_
  refine rb_iload_n 1 rfl rfl dX4_isToldBy_17 ?_
  refine mm_iald (k := 4) (v := (ms.1 4 (a1).toNatClampNeg)) rfl rfl (K).1 dX4_isToldBy_18 ?_
  refine rb_icge 76 (by decide) dX4_isToldBy_19 (fun c1 => ?_) (fun c1 => ?_)
  · skip
    refine rb_iload rfl dX4_isToldBy_76 ?_
    refine rb_iflt 97 (by decide) dX4_isToldBy_78 (fun c2 => ?_) (fun c2 => ?_)
    · skip
      refine rb_iconst (v := (0 : Int32)) (by decide) dX4_isToldBy_97 ?_
      exact rb_iret rfl (by decide) (Nat.zero_le _) (Nat.zero_le _) dX4_isToldBy_98 (((((K).2).1 c1)).1 c2)
    · skip
      refine rb_iload rfl dX4_isToldBy_81 ?_
      refine rb_iflt 97 (by decide) dX4_isToldBy_83 (fun c3 => ?_) (fun c3 => ?_)
      · skip
        refine rb_iconst (v := (0 : Int32)) (by decide) dX4_isToldBy_97 ?_
        exact rb_iret rfl (by decide) (Nat.zero_le _) (Nat.zero_le _) dX4_isToldBy_98 (((((((K).2).1 c1)).2 c2)).1 c3)
      · skip
        refine rb_iload rfl dX4_isToldBy_86 ?_
        refine rb_iload rfl dX4_isToldBy_88 ?_
        refine rb_icge 97 (by decide) dX4_isToldBy_90 (fun c4 => ?_) (fun c4 => ?_)
        · skip
          refine rb_iconst (v := (0 : Int32)) (by decide) dX4_isToldBy_97 ?_
          exact rb_iret rfl (by decide) (Nat.zero_le _) (Nat.zero_le _) dX4_isToldBy_98 (((((((((K).2).1 c1)).2 c2)).2 c3)).1 c4)
        · skip
          refine rb_iconst (v := (1 : Int32)) (by decide) dX4_isToldBy_93 ?_
          refine rb_goto 98 (by decide) dX4_isToldBy_94 ?_
          exact rb_iret rfl (by decide) (Nat.zero_le _) (Nat.zero_le _) dX4_isToldBy_98 (((((((((K).2).1 c1)).2 c2)).2 c3)).2 c4)
  · skip
    refine rb_aload_n 0 rfl rfl (rb_isR_ref _) dX4_isToldBy_22 ?_
    refine mm_getA (t := 2) fl_X4_22 rfl (by decide) dX4_isToldBy_23 ?_
    refine rb_iconst (v := (4 : Int32)) (by decide) dX4_isToldBy_26 ?_
    refine rb_iload_n 1 rfl rfl dX4_isToldBy_27 ?_
    refine rb_imul (z := ((4 : Int32) * a1)) rfl dX4_isToldBy_28 ?_
    refine rb_iload rfl dX4_isToldBy_29 ?_
    refine rb_iadd (z := (((4 : Int32) * a1) + a6)) rfl dX4_isToldBy_31 ?_
    refine mm_iald (k := 5) (v := (ms.1 5 ((((4 : Int32) * a1) + a6)).toNatClampNeg)) rfl rfl ((((K).2).2 c1)).1 dX4_isToldBy_32 ?_
    refine rb_iload_n 2 rfl rfl dX4_isToldBy_33 ?_
    refine rb_icne 42 (by decide) dX4_isToldBy_34 (fun c5 => ?_) (fun c5 => ?_)
    · skip
      refine rb_iload rfl dX4_isToldBy_42 ?_
      refine rb_istore (ls' := [some (.ref h), some (.int a1), some (.int a2), some (.int a3), some (.int a4), some (.int a5), some (.int a6)]) (by decide) rfl rfl dX4_isToldBy_44 ?_
      refine rb_aload_n 0 rfl rfl (rb_isR_ref _) dX4_isToldBy_46 ?_
      refine mm_getA (t := 2) fl_X4_22 rfl (by decide) dX4_isToldBy_47 ?_
      refine rb_iconst (v := (4 : Int32)) (by decide) dX4_isToldBy_50 ?_
      refine rb_iload_n 1 rfl rfl dX4_isToldBy_51 ?_
      refine rb_imul (z := ((4 : Int32) * a1)) rfl dX4_isToldBy_52 ?_
      refine rb_iload rfl dX4_isToldBy_53 ?_
      refine rb_iadd (z := (((4 : Int32) * a1) + a6)) rfl dX4_isToldBy_55 ?_
      refine mm_iald (k := 5) (v := (ms.1 5 ((((4 : Int32) * a1) + a6)).toNatClampNeg)) rfl rfl (((((((K).2).2 c1)).2).1 c5)).1 dX4_isToldBy_56 ?_
      refine rb_iload_n 3 rfl rfl dX4_isToldBy_57 ?_
      refine rb_icne 66 (by decide) dX4_isToldBy_58 (fun c6 => ?_) (fun c6 => ?_)
      · skip
        refine rb_iload rfl dX4_isToldBy_66 ?_
        refine rb_istore (ls' := [some (.ref h), some (.int a1), some (.int a2), some (.int a3), some (.int a4), some (.int a5), some (.int a6)]) (by decide) rfl rfl dX4_isToldBy_68 ?_
        refine rb_iinc (ls' := [some (.ref h), some (.int a1), some (.int a2), some (.int a3), some (.int a4), some (.int a5), some (.int (a6 + (1 : Int32)))]) (v := (a6 + (1 : Int32))) rfl rfl (by decide) rfl rfl dX4_isToldBy_70 ?_
        refine rb_goto 11 (by decide) dX4_isToldBy_73 ?_
        exact (((((((((K).2).2 c1)).2).1 c5)).2).1 c6)
      · skip
        refine rb_iload rfl dX4_isToldBy_61 ?_
        refine rb_goto 68 (by decide) dX4_isToldBy_63 ?_
        refine rb_istore (ls' := [some (.ref h), some (.int a1), some (.int a2), some (.int a3), some (.int a4), some (.int a6), some (.int a6)]) (by decide) rfl rfl dX4_isToldBy_68 ?_
        refine rb_iinc (ls' := [some (.ref h), some (.int a1), some (.int a2), some (.int a3), some (.int a4), some (.int a6), some (.int (a6 + (1 : Int32)))]) (v := (a6 + (1 : Int32))) rfl rfl (by decide) rfl rfl dX4_isToldBy_70 ?_
        refine rb_goto 11 (by decide) dX4_isToldBy_73 ?_
        exact (((((((((K).2).2 c1)).2).1 c5)).2).2 c6)
    · skip
      refine rb_iload rfl dX4_isToldBy_37 ?_
      refine rb_goto 44 (by decide) dX4_isToldBy_39 ?_
      refine rb_istore (ls' := [some (.ref h), some (.int a1), some (.int a2), some (.int a3), some (.int a6), some (.int a5), some (.int a6)]) (by decide) rfl rfl dX4_isToldBy_44 ?_
      refine rb_aload_n 0 rfl rfl (rb_isR_ref _) dX4_isToldBy_46 ?_
      refine mm_getA (t := 2) fl_X4_22 rfl (by decide) dX4_isToldBy_47 ?_
      refine rb_iconst (v := (4 : Int32)) (by decide) dX4_isToldBy_50 ?_
      refine rb_iload_n 1 rfl rfl dX4_isToldBy_51 ?_
      refine rb_imul (z := ((4 : Int32) * a1)) rfl dX4_isToldBy_52 ?_
      refine rb_iload rfl dX4_isToldBy_53 ?_
      refine rb_iadd (z := (((4 : Int32) * a1) + a6)) rfl dX4_isToldBy_55 ?_
      refine mm_iald (k := 5) (v := (ms.1 5 ((((4 : Int32) * a1) + a6)).toNatClampNeg)) rfl rfl (((((((K).2).2 c1)).2).2 c5)).1 dX4_isToldBy_56 ?_
      refine rb_iload_n 3 rfl rfl dX4_isToldBy_57 ?_
      refine rb_icne 66 (by decide) dX4_isToldBy_58 (fun c7 => ?_) (fun c7 => ?_)
      · skip
        refine rb_iload rfl dX4_isToldBy_66 ?_
        refine rb_istore (ls' := [some (.ref h), some (.int a1), some (.int a2), some (.int a3), some (.int a6), some (.int a5), some (.int a6)]) (by decide) rfl rfl dX4_isToldBy_68 ?_
        refine rb_iinc (ls' := [some (.ref h), some (.int a1), some (.int a2), some (.int a3), some (.int a6), some (.int a5), some (.int (a6 + (1 : Int32)))]) (v := (a6 + (1 : Int32))) rfl rfl (by decide) rfl rfl dX4_isToldBy_70 ?_
        refine rb_goto 11 (by decide) dX4_isToldBy_73 ?_
        exact (((((((((K).2).2 c1)).2).2 c5)).2).1 c7)
      · skip
        refine rb_iload rfl dX4_isToldBy_61 ?_
        refine rb_goto 68 (by decide) dX4_isToldBy_63 ?_
        refine rb_istore (ls' := [some (.ref h), some (.int a1), some (.int a2), some (.int a3), some (.int a6), some (.int a6), some (.int a6)]) (by decide) rfl rfl dX4_isToldBy_68 ?_
        refine rb_iinc (ls' := [some (.ref h), some (.int a1), some (.int a2), some (.int a3), some (.int a6), some (.int a6), some (.int (a6 + (1 : Int32)))]) (v := (a6 + (1 : Int32))) rfl rfl (by decide) rfl rfl dX4_isToldBy_70 ?_
        refine rb_goto 11 (by decide) dX4_isToldBy_73 ?_
        exact (((((((((K).2).2 c1)).2).2 c5)).2).2 c7)
theorem sgX4_tellRing_0 {κ : rb_K} {M0 : rb_H} {h : Nat} {ms : mm_S} {a1 : Int32} (K : rb_Bd κ mX4_tellRing (0, 0) (mm_H h ms M0) 8 [some (.ref h), some (.int a1), some (.int (0 : Int32)), some (.int a1), some (.int (-9 : Int32)), none] []) : rb_Bd κ mX4_tellRing (0, 0) (mm_H h ms M0) 0 [some (.ref h), some (.int a1), none, none, none, none] [] := by
  refine rb_iconst (v := (0 : Int32)) (by decide) dX4_tellRing_0 ?_
  refine rb_istore_n 2 rfl (ls' := [some (.ref h), some (.int a1), some (.int (0 : Int32)), none, none, none]) (by decide) rfl rfl dX4_tellRing_1 ?_
  refine rb_iload_n 1 rfl rfl dX4_tellRing_2 ?_
  refine rb_istore_n 3 rfl (ls' := [some (.ref h), some (.int a1), some (.int (0 : Int32)), some (.int a1), none, none]) (by decide) rfl rfl dX4_tellRing_3 ?_
  refine rb_bipush (v := (-9 : Int32)) (by decide) dX4_tellRing_4 ?_
  refine rb_istore (ls' := [some (.ref h), some (.int a1), some (.int (0 : Int32)), some (.int a1), some (.int (-9 : Int32)), none]) (by decide) rfl rfl dX4_tellRing_6 ?_
  exact K
theorem sgX4_tellRing_8 {κ : rb_K} {M0 : rb_H} {h : Nat} {ms : mm_S} {a1 : Int32} {a2 : Int32} {a3 : Int32} {a4 : Int32} (K : ((0 ≤ a4 → rb_Bd κ mX4_tellRing (0, 0) (mm_H h (mm_sI ms 34 0 (0 : Int32)) M0) 81 [some (.ref h), some (.int a1), some (.int a2), some (.int a3), some (.int a4), some (.int a4)] []) ∧ (a4 < 0 → (vp_in a2 (mm_l 39) ∧ (∃ (x2 : Int32) (ms3 : mm_S) (d4 : Nat), mm_C κ.1 yX4_leastAhead wX4_leastAhead d4 h M0 (mm_sI ms 39 (a2).toNatClampNeg a3) [.ref h, .int a3] (some (.int x2)) ms3 ∧ rb_dp κ d4 ∧ rb_Bd κ mX4_tellRing (0, 0) (mm_H h ms3 M0) 32 [some (.ref h), some (.int a1), some (.int (a2 + (1 : Int32))), some (.int x2), some (.int a4), some (.int (0 : Int32))] []))))) : rb_Bd κ mX4_tellRing (0, 0) (mm_H h ms M0) 8 [some (.ref h), some (.int a1), some (.int a2), some (.int a3), some (.int a4), none] [] := by
  refine rb_iload rfl dX4_tellRing_8 ?_
  refine rb_ifge 72 (by decide) dX4_tellRing_10 (fun c1 => ?_) (fun c1 => ?_)
  · skip
    refine rb_aload_n 0 rfl rfl (rb_isR_ref _) dX4_tellRing_72 ?_
    refine rb_iconst (v := (0 : Int32)) (by decide) dX4_tellRing_73 ?_
    refine mm_putI fl_X4_240 rfl dX4_tellRing_74 ?_
    refine rb_iload rfl dX4_tellRing_77 ?_
    refine rb_istore (ls' := [some (.ref h), some (.int a1), some (.int a2), some (.int a3), some (.int a4), some (.int a4)]) (by decide) rfl rfl dX4_tellRing_79 ?_
    exact ((K).1 c1)
  · skip
    refine rb_aload_n 0 rfl rfl (rb_isR_ref _) dX4_tellRing_13 ?_
    refine mm_getA (t := 2) fl_X4_111 rfl (by decide) dX4_tellRing_14 ?_
    refine rb_iload_n 2 rfl rfl dX4_tellRing_17 ?_
    refine rb_iload_n 3 rfl rfl dX4_tellRing_18 ?_
    refine mm_iast (k := 39) rfl (((K).2 c1)).1 dX4_tellRing_19 ?_
    refine rb_iinc (ls' := [some (.ref h), some (.int a1), some (.int (a2 + (1 : Int32))), some (.int a3), some (.int a4), none]) (v := (a2 + (1 : Int32))) rfl rfl (by decide) rfl rfl dX4_tellRing_20 ?_
    refine rb_aload_n 0 rfl rfl (rb_isR_ref _) dX4_tellRing_23 ?_
    refine rb_iload_n 3 rfl rfl dX4_tellRing_24 ?_
    obtain ⟨x2, ms3, d4, h1, h2, Kx2⟩ := (((K).2 c1)).2
    refine mm_call st_X4_232 (rest := []) h1 rfl rfl mm_rc (Nat.le_of_ble_eq_true rfl) h2 dX4_tellRing_25 ?_
    show rb_Bd κ mX4_tellRing (0, 0) (mm_H h ms3 M0) 28 [some (.ref h), some (.int a1), some (.int (a2 + (1 : Int32))), some (.int a3), some (.int a4), none] [.int x2]
    refine rb_istore_n 3 rfl (ls' := [some (.ref h), some (.int a1), some (.int (a2 + (1 : Int32))), some (.int x2), some (.int a4), none]) (by decide) rfl rfl dX4_tellRing_28 ?_
    refine rb_iconst (v := (0 : Int32)) (by decide) dX4_tellRing_29 ?_
    refine rb_istore (ls' := [some (.ref h), some (.int a1), some (.int (a2 + (1 : Int32))), some (.int x2), some (.int a4), some (.int (0 : Int32))]) (by decide) rfl rfl dX4_tellRing_30 ?_
    exact Kx2
theorem sgX4_tellRing_32 {κ : rb_K} {M0 : rb_H} {h : Nat} {ms : mm_S} {a1 : Int32} {a2 : Int32} {a3 : Int32} {a4 : Int32} {a5 : Int32} (K : ((a2 ≤ a5 → rb_Bd κ mX4_tellRing (0, 0) (mm_H h ms M0) 8 [some (.ref h), some (.int a1), some (.int a2), some (.int a3), some (.int a4), some (.int a5)] []) ∧ (a5 < a2 → ((0 ≤ a4 → rb_Bd κ mX4_tellRing (0, 0) (mm_H h ms M0) 8 [some (.ref h), some (.int a1), some (.int a2), some (.int a3), some (.int a4), some (.int a5)] []) ∧ (a4 < 0 → (vp_in a5 (mm_l 39) ∧ ((¬ (ms.1 39 (a5).toNatClampNeg) = a3 → rb_Bd κ mX4_tellRing (0, 0) (mm_H h ms M0) 32 [some (.ref h), some (.int a1), some (.int a2), some (.int a3), some (.int a4), some (.int (a5 + (1 : Int32)))] []) ∧ ((ms.1 39 (a5).toNatClampNeg) = a3 → rb_Bd κ mX4_tellRing (0, 0) (mm_H h ms M0) 32 [some (.ref h), some (.int a1), some (.int a2), some (.int a3), some (.int a5), some (.int (a5 + (1 : Int32)))] [])))))))) : rb_Bd κ mX4_tellRing (0, 0) (mm_H h ms M0) 32 [some (.ref h), some (.int a1), some (.int a2), some (.int a3), some (.int a4), some (.int a5)] [] := by
  refine rb_iload rfl dX4_tellRing_32 ?_
  refine rb_iload_n 2 rfl rfl dX4_tellRing_34 ?_
  refine rb_icge 69 (by decide) dX4_tellRing_35 (fun c1 => ?_) (fun c1 => ?_)
  · skip
    refine rb_goto 8 (by decide) dX4_tellRing_69 ?_
    exact ((K).1 c1)
  · skip
    refine rb_iload rfl dX4_tellRing_38 ?_
    refine rb_ifge 69 (by decide) dX4_tellRing_40 (fun c2 => ?_) (fun c2 => ?_)
    · skip
      refine rb_goto 8 (by decide) dX4_tellRing_69 ?_
      exact ((((K).2 c1)).1 c2)
    · skip
      refine rb_aload_n 0 rfl rfl (rb_isR_ref _) dX4_tellRing_43 ?_
      refine mm_getA (t := 2) fl_X4_111 rfl (by decide) dX4_tellRing_44 ?_
      refine rb_iload rfl dX4_tellRing_47 ?_
      refine mm_iald (k := 39) (v := (ms.1 39 (a5).toNatClampNeg)) rfl rfl (((((K).2 c1)).2 c2)).1 dX4_tellRing_49 ?_
      refine rb_iload_n 3 rfl rfl dX4_tellRing_50 ?_
      refine rb_icne 59 (by decide) dX4_tellRing_51 (fun c3 => ?_) (fun c3 => ?_)
      · skip
        refine rb_iload rfl dX4_tellRing_59 ?_
        refine rb_istore (ls' := [some (.ref h), some (.int a1), some (.int a2), some (.int a3), some (.int a4), some (.int a5)]) (by decide) rfl rfl dX4_tellRing_61 ?_
        refine rb_iinc (ls' := [some (.ref h), some (.int a1), some (.int a2), some (.int a3), some (.int a4), some (.int (a5 + (1 : Int32)))]) (v := (a5 + (1 : Int32))) rfl rfl (by decide) rfl rfl dX4_tellRing_63 ?_
        refine rb_goto 32 (by decide) dX4_tellRing_66 ?_
        exact (((((((K).2 c1)).2 c2)).2).1 c3)
      · skip
        refine rb_iload rfl dX4_tellRing_54 ?_
        refine rb_goto 61 (by decide) dX4_tellRing_56 ?_
        refine rb_istore (ls' := [some (.ref h), some (.int a1), some (.int a2), some (.int a3), some (.int a5), some (.int a5)]) (by decide) rfl rfl dX4_tellRing_61 ?_
        refine rb_iinc (ls' := [some (.ref h), some (.int a1), some (.int a2), some (.int a3), some (.int a5), some (.int (a5 + (1 : Int32)))]) (v := (a5 + (1 : Int32))) rfl rfl (by decide) rfl rfl dX4_tellRing_63 ?_
        refine rb_goto 32 (by decide) dX4_tellRing_66 ?_
        exact (((((((K).2 c1)).2 c2)).2).2 c3)
theorem sgX4_tellRing_81 {κ : rb_K} {M0 : rb_H} {h : Nat} {ms : mm_S} {a1 : Int32} {a2 : Int32} {a3 : Int32} {a4 : Int32} {a5 : Int32} (K : ((a2 ≤ a5 → (κ.2.2.1 (.returned none) (mm_H h ms M0))) ∧ (a5 < a2 → (vp_in a5 (mm_l 39) ∧ (vp_in (ms.1 34 0) (mm_l 33) ∧ rb_Bd κ mX4_tellRing (0, 0) (mm_H h (mm_sI (mm_sI ms 33 ((ms.1 34 0)).toNatClampNeg (ms.1 39 (a5).toNatClampNeg)) 34 0 ((ms.1 34 0) + (1 : Int32))) M0) 81 [some (.ref h), some (.int a1), some (.int a2), some (.int a3), some (.int a4), some (.int (a5 + (1 : Int32)))] []))))) : rb_Bd κ mX4_tellRing (0, 0) (mm_H h ms M0) 81 [some (.ref h), some (.int a1), some (.int a2), some (.int a3), some (.int a4), some (.int a5)] [] := by
  refine rb_iload rfl dX4_tellRing_81 ?_
  refine rb_iload_n 2 rfl rfl dX4_tellRing_83 ?_
  refine rb_icge 119 (by decide) dX4_tellRing_84 (fun c1 => ?_) (fun c1 => ?_)
  · skip
    exact rb_vret rfl (Nat.zero_le _) (Nat.zero_le _) dX4_tellRing_119 ((K).1 c1)
  · skip
    refine rb_aload_n 0 rfl rfl (rb_isR_ref _) dX4_tellRing_87 ?_
    refine mm_getA (t := 2) fl_X4_96 rfl (by decide) dX4_tellRing_88 ?_
    refine rb_aload_n 0 rfl rfl (rb_isR_ref _) dX4_tellRing_91 ?_
    refine mm_getI (v := (ms.1 34 0)) rfl fl_X4_240 rfl dX4_tellRing_92 ?_
    refine rb_aload_n 0 rfl rfl (rb_isR_ref _) dX4_tellRing_95 ?_
    refine mm_getA (t := 2) fl_X4_111 rfl (by decide) dX4_tellRing_96 ?_
    refine rb_iload rfl dX4_tellRing_99 ?_
    refine mm_iald (k := 39) (v := (ms.1 39 (a5).toNatClampNeg)) rfl rfl (((K).2 c1)).1 dX4_tellRing_101 ?_
    refine mm_iast (k := 33) rfl ((((K).2 c1)).2).1 dX4_tellRing_102 ?_
    refine rb_aload_n 0 rfl rfl (rb_isR_ref _) dX4_tellRing_103 ?_
    refine rb_dup rfl dX4_tellRing_104 ?_
    refine mm_getI (v := (ms.1 34 0)) rfl fl_X4_240 rfl dX4_tellRing_105 ?_
    refine rb_iconst (v := (1 : Int32)) (by decide) dX4_tellRing_108 ?_
    refine rb_iadd (z := ((ms.1 34 0) + (1 : Int32))) rfl dX4_tellRing_109 ?_
    refine mm_putI fl_X4_240 rfl dX4_tellRing_110 ?_
    refine rb_iinc (ls' := [some (.ref h), some (.int a1), some (.int a2), some (.int a3), some (.int a4), some (.int (a5 + (1 : Int32)))]) (v := (a5 + (1 : Int32))) rfl rfl (by decide) rfl rfl dX4_tellRing_113 ?_
    refine rb_goto 81 (by decide) dX4_tellRing_116 ?_
    exact ((((K).2 c1)).2).2
theorem sgX4_chain_0 {κ : rb_K} {M0 : rb_H} {h : Nat} {ms : mm_S} {a1 : Int32} {a2 : Int32} (K : (vp_in (((12 : Int32) * a1) + a2) (mm_l 28) ∧ rb_Bd κ mX4_chain (0, 0) (mm_H h (mm_sI ms 28 ((((12 : Int32) * a1) + a2)).toNatClampNeg (0 : Int32)) M0) 17 [some (.ref h), some (.int a1), some (.int a2), some (.int (((12 : Int32) * a1) + a2)), some (.int (0 : Int32)), none, none, none] [])) : rb_Bd κ mX4_chain (0, 0) (mm_H h ms M0) 0 [some (.ref h), some (.int a1), some (.int a2), none, none, none, none, none] [] := by
  refine rb_bipush (v := (12 : Int32)) (by decide) dX4_chain_0 ?_
  refine rb_iload_n 1 rfl rfl dX4_chain_2 ?_
  refine rb_imul (z := ((12 : Int32) * a1)) rfl dX4_chain_3 ?_
  refine rb_iload_n 2 rfl rfl dX4_chain_4 ?_
  refine rb_iadd (z := (((12 : Int32) * a1) + a2)) rfl dX4_chain_5 ?_
  refine rb_istore_n 3 rfl (ls' := [some (.ref h), some (.int a1), some (.int a2), some (.int (((12 : Int32) * a1) + a2)), none, none, none, none]) (by decide) rfl rfl dX4_chain_6 ?_
  refine rb_aload_n 0 rfl rfl (rb_isR_ref _) dX4_chain_7 ?_
  refine mm_getA (t := 2) fl_X4_81 rfl (by decide) dX4_chain_8 ?_
  refine rb_iload_n 3 rfl rfl dX4_chain_11 ?_
  refine rb_iconst (v := (0 : Int32)) (by decide) dX4_chain_12 ?_
  refine mm_iast (k := 28) rfl (K).1 dX4_chain_13 ?_
  refine rb_iconst (v := (0 : Int32)) (by decide) dX4_chain_14 ?_
  refine rb_istore (ls' := [some (.ref h), some (.int a1), some (.int a2), some (.int (((12 : Int32) * a1) + a2)), some (.int (0 : Int32)), none, none, none]) (by decide) rfl rfl dX4_chain_15 ?_
  exact (K).2
theorem sgX4_chain_17 {κ : rb_K} {M0 : rb_H} {h : Nat} {ms : mm_S} {a1 : Int32} {a2 : Int32} {a3 : Int32} {a4 : Int32} (K : (vp_in a1 (mm_l 25) ∧ (((ms.1 25 (a1).toNatClampNeg) ≤ a4 → (κ.2.2.1 (.returned none) (mm_H h ms M0))) ∧ (a4 < (ms.1 25 (a1).toNatClampNeg) → (vp_in (((24 : Int32) * a1) + a4) (mm_l 26) ∧ (∃ (x2 : Int32) (ms3 : mm_S) (d4 : Nat), mm_C κ.1 yX4_bodyOf wX4_bodyOf d4 h M0 ms [.int (ms.1 26 ((((24 : Int32) * a1) + a4)).toNatClampNeg), .int (0 : Int32), .int a2] (some (.int x2)) ms3 ∧ rb_dp κ d4 ∧ (∃ (x5 : Int32) (ms6 : mm_S) (d7 : Nat), mm_C κ.1 yX4_bodyOf wX4_bodyOf d7 h M0 ms3 [.int (ms.1 26 ((((24 : Int32) * a1) + a4)).toNatClampNeg), .int (1 : Int32), .int a2] (some (.int x5)) ms6 ∧ rb_dp κ d7 ∧ (vp_in x2 (mm_l 10) ∧ (((ms6.1 10 (x2).toNatClampNeg) < 0 → (vp_in x5 (mm_l 10) ∧ (((ms6.1 10 (x5).toNatClampNeg) < 0 → rb_Bd κ mX4_chain (0, 0) (mm_H h ms6 M0) 17 [some (.ref h), some (.int a1), some (.int a2), some (.int a3), some (.int (a4 + (1 : Int32))), some (.int (ms.1 26 ((((24 : Int32) * a1) + a4)).toNatClampNeg)), some (.int x2), some (.int x5)] []) ∧ (0 ≤ (ms6.1 10 (x5).toNatClampNeg) → (vp_in a3 (mm_l 28) ∧ (vp_in (((48 : Int32) * a3) + (ms6.1 28 (a3).toNatClampNeg)) (mm_l 29) ∧ (vp_in a3 (mm_l 28) ∧ (vp_in a3 (mm_l 28) ∧ rb_Bd κ mX4_chain (0, 0) (mm_H h (mm_sI (mm_sI ms6 29 ((((48 : Int32) * a3) + (ms6.1 28 (a3).toNatClampNeg))).toNatClampNeg x5) 28 (a3).toNatClampNeg ((ms6.1 28 (a3).toNatClampNeg) + (1 : Int32))) M0) 17 [some (.ref h), some (.int a1), some (.int a2), some (.int a3), some (.int (a4 + (1 : Int32))), some (.int (ms.1 26 ((((24 : Int32) * a1) + a4)).toNatClampNeg)), some (.int x2), some (.int x5)] [])))))))) ∧ (0 ≤ (ms6.1 10 (x2).toNatClampNeg) → (∃ (x10 : Int32) (ms11 : mm_S) (d12 : Nat), mm_C κ.1 yX4_isExcluded wX4_isExcluded d12 h M0 ms6 [.ref h, .int (ms.1 26 ((((24 : Int32) * a1) + a4)).toNatClampNeg), .int a2] (some (.int x10)) ms11 ∧ rb_dp κ d12 ∧ ((¬ x10 = 0 → (vp_in x5 (mm_l 10) ∧ (((ms11.1 10 (x5).toNatClampNeg) < 0 → rb_Bd κ mX4_chain (0, 0) (mm_H h ms11 M0) 17 [some (.ref h), some (.int a1), some (.int a2), some (.int a3), some (.int (a4 + (1 : Int32))), some (.int (ms.1 26 ((((24 : Int32) * a1) + a4)).toNatClampNeg)), some (.int x2), some (.int x5)] []) ∧ (0 ≤ (ms11.1 10 (x5).toNatClampNeg) → (vp_in a3 (mm_l 28) ∧ (vp_in (((48 : Int32) * a3) + (ms11.1 28 (a3).toNatClampNeg)) (mm_l 29) ∧ (vp_in a3 (mm_l 28) ∧ (vp_in a3 (mm_l 28) ∧ rb_Bd κ mX4_chain (0, 0) (mm_H h (mm_sI (mm_sI ms11 29 ((((48 : Int32) * a3) + (ms11.1 28 (a3).toNatClampNeg))).toNatClampNeg x5) 28 (a3).toNatClampNeg ((ms11.1 28 (a3).toNatClampNeg) + (1 : Int32))) M0) 17 [some (.ref h), some (.int a1), some (.int a2), some (.int a3), some (.int (a4 + (1 : Int32))), some (.int (ms.1 26 ((((24 : Int32) * a1) + a4)).toNatClampNeg)), some (.int x2), some (.int x5)] [])))))))) ∧ (x10 = 0 → (vp_in a3 (mm_l 28) ∧ (vp_in (((48 : Int32) * a3) + (ms11.1 28 (a3).toNatClampNeg)) (mm_l 29) ∧ (vp_in a3 (mm_l 28) ∧ (vp_in a3 (mm_l 28) ∧ (vp_in x5 (mm_l 10) ∧ (((ms11.1 10 (x5).toNatClampNeg) < 0 → rb_Bd κ mX4_chain (0, 0) (mm_H h (mm_sI (mm_sI ms11 29 ((((48 : Int32) * a3) + (ms11.1 28 (a3).toNatClampNeg))).toNatClampNeg x2) 28 (a3).toNatClampNeg ((ms11.1 28 (a3).toNatClampNeg) + (1 : Int32))) M0) 17 [some (.ref h), some (.int a1), some (.int a2), some (.int a3), some (.int (a4 + (1 : Int32))), some (.int (ms.1 26 ((((24 : Int32) * a1) + a4)).toNatClampNeg)), some (.int x2), some (.int x5)] []) ∧ (0 ≤ (ms11.1 10 (x5).toNatClampNeg) → (vp_in a3 (mm_l 28) ∧ (vp_in (((48 : Int32) * a3) + ((mm_sI ms11 28 (a3).toNatClampNeg ((ms11.1 28 (a3).toNatClampNeg) + (1 : Int32))).1 28 (a3).toNatClampNeg)) (mm_l 29) ∧ (vp_in a3 (mm_l 28) ∧ (vp_in a3 (mm_l 28) ∧ rb_Bd κ mX4_chain (0, 0) (mm_H h (mm_sI (mm_sI (mm_sI (mm_sI ms11 29 ((((48 : Int32) * a3) + (ms11.1 28 (a3).toNatClampNeg))).toNatClampNeg x2) 28 (a3).toNatClampNeg ((ms11.1 28 (a3).toNatClampNeg) + (1 : Int32))) 29 ((((48 : Int32) * a3) + ((mm_sI ms11 28 (a3).toNatClampNeg ((ms11.1 28 (a3).toNatClampNeg) + (1 : Int32))).1 28 (a3).toNatClampNeg))).toNatClampNeg x5) 28 (a3).toNatClampNeg (((mm_sI ms11 28 (a3).toNatClampNeg ((ms11.1 28 (a3).toNatClampNeg) + (1 : Int32))).1 28 (a3).toNatClampNeg) + (1 : Int32))) M0) 17 [some (.ref h), some (.int a1), some (.int a2), some (.int a3), some (.int (a4 + (1 : Int32))), some (.int (ms.1 26 ((((24 : Int32) * a1) + a4)).toNatClampNeg)), some (.int x2), some (.int x5)] [])))))))))))))))))))))))) : rb_Bd κ mX4_chain (0, 0) (mm_H h ms M0) 17 [some (.ref h), some (.int a1), some (.int a2), some (.int a3), some (.int a4), none, none, none] [] := by
  refine rb_iload rfl dX4_chain_17 ?_
  refine rb_aload_n 0 rfl rfl (rb_isR_ref _) dX4_chain_19 ?_
  refine mm_getA (t := 2) fl_X4_72 rfl (by decide) dX4_chain_20 ?_
  refine rb_iload_n 1 rfl rfl dX4_chain_23 ?_
  refine mm_iald (k := 25) (v := (ms.1 25 (a1).toNatClampNeg)) rfl rfl (K).1 dX4_chain_24 ?_
  refine rb_icge 152 (by decide) dX4_chain_25 (fun c1 => ?_) (fun c1 => ?_)
  · skip
    exact rb_vret rfl (Nat.zero_le _) (Nat.zero_le _) dX4_chain_152 (((K).2).1 c1)
  · skip
    refine rb_aload_n 0 rfl rfl (rb_isR_ref _) dX4_chain_28 ?_
    refine mm_getA (t := 2) fl_X4_75 rfl (by decide) dX4_chain_29 ?_
    refine rb_bipush (v := (24 : Int32)) (by decide) dX4_chain_32 ?_
    refine rb_iload_n 1 rfl rfl dX4_chain_34 ?_
    refine rb_imul (z := ((24 : Int32) * a1)) rfl dX4_chain_35 ?_
    refine rb_iload rfl dX4_chain_36 ?_
    refine rb_iadd (z := (((24 : Int32) * a1) + a4)) rfl dX4_chain_38 ?_
    refine mm_iald (k := 26) (v := (ms.1 26 ((((24 : Int32) * a1) + a4)).toNatClampNeg)) rfl rfl ((((K).2).2 c1)).1 dX4_chain_39 ?_
    refine rb_istore (ls' := [some (.ref h), some (.int a1), some (.int a2), some (.int a3), some (.int a4), some (.int (ms.1 26 ((((24 : Int32) * a1) + a4)).toNatClampNeg)), none, none]) (by decide) rfl rfl dX4_chain_40 ?_
    refine rb_iload rfl dX4_chain_42 ?_
    refine rb_iconst (v := (0 : Int32)) (by decide) dX4_chain_44 ?_
    refine rb_iload_n 2 rfl rfl dX4_chain_45 ?_
    obtain ⟨x2, ms3, d4, h1, h2, Kx2⟩ := ((((K).2).2 c1)).2
    refine mm_call st_X4_209 (rest := []) h1 rfl rfl mm_rn (Nat.le_of_ble_eq_true rfl) h2 dX4_chain_46 ?_
    show rb_Bd κ mX4_chain (0, 0) (mm_H h ms3 M0) 49 [some (.ref h), some (.int a1), some (.int a2), some (.int a3), some (.int a4), some (.int (ms.1 26 ((((24 : Int32) * a1) + a4)).toNatClampNeg)), none, none] [.int x2]
    refine rb_istore (ls' := [some (.ref h), some (.int a1), some (.int a2), some (.int a3), some (.int a4), some (.int (ms.1 26 ((((24 : Int32) * a1) + a4)).toNatClampNeg)), some (.int x2), none]) (by decide) rfl rfl dX4_chain_49 ?_
    refine rb_iload rfl dX4_chain_51 ?_
    refine rb_iconst (v := (1 : Int32)) (by decide) dX4_chain_53 ?_
    refine rb_iload_n 2 rfl rfl dX4_chain_54 ?_
    obtain ⟨x5, ms6, d7, h1, h2, Kx5⟩ := Kx2
    refine mm_call st_X4_209 (rest := []) h1 rfl rfl mm_rn (Nat.le_of_ble_eq_true rfl) h2 dX4_chain_55 ?_
    show rb_Bd κ mX4_chain (0, 0) (mm_H h ms6 M0) 58 [some (.ref h), some (.int a1), some (.int a2), some (.int a3), some (.int a4), some (.int (ms.1 26 ((((24 : Int32) * a1) + a4)).toNatClampNeg)), some (.int x2), none] [.int x5]
    refine rb_istore (ls' := [some (.ref h), some (.int a1), some (.int a2), some (.int a3), some (.int a4), some (.int (ms.1 26 ((((24 : Int32) * a1) + a4)).toNatClampNeg)), some (.int x2), some (.int x5)]) (by decide) rfl rfl dX4_chain_58 ?_
    refine rb_aload_n 0 rfl rfl (rb_isR_ref _) dX4_chain_60 ?_
    refine mm_getA (t := 2) fl_X4_35 rfl (by decide) dX4_chain_61 ?_
    refine rb_iload rfl dX4_chain_64 ?_
    refine mm_iald (k := 10) (v := (ms6.1 10 (x2).toNatClampNeg)) rfl rfl (Kx5).1 dX4_chain_66 ?_
    refine rb_iflt 108 (by decide) dX4_chain_67 (fun c8 => ?_) (fun c8 => ?_)
    · skip
      refine rb_aload_n 0 rfl rfl (rb_isR_ref _) dX4_chain_108 ?_
      refine mm_getA (t := 2) fl_X4_35 rfl (by decide) dX4_chain_109 ?_
      refine rb_iload rfl dX4_chain_112 ?_
      refine mm_iald (k := 10) (v := (ms6.1 10 (x5).toNatClampNeg)) rfl rfl ((((Kx5).2).1 c8)).1 dX4_chain_114 ?_
      refine rb_iflt 146 (by decide) dX4_chain_115 (fun c9 => ?_) (fun c9 => ?_)
      · skip
        refine rb_iinc (ls' := [some (.ref h), some (.int a1), some (.int a2), some (.int a3), some (.int (a4 + (1 : Int32))), some (.int (ms.1 26 ((((24 : Int32) * a1) + a4)).toNatClampNeg)), some (.int x2), some (.int x5)]) (v := (a4 + (1 : Int32))) rfl rfl (by decide) rfl rfl dX4_chain_146 ?_
        refine rb_goto 17 (by decide) dX4_chain_149 ?_
        exact ((((((Kx5).2).1 c8)).2).1 c9)
      · skip
        refine rb_aload_n 0 rfl rfl (rb_isR_ref _) dX4_chain_118 ?_
        refine mm_getA (t := 2) fl_X4_84 rfl (by decide) dX4_chain_119 ?_
        refine rb_bipush (v := (48 : Int32)) (by decide) dX4_chain_122 ?_
        refine rb_iload_n 3 rfl rfl dX4_chain_124 ?_
        refine rb_imul (z := ((48 : Int32) * a3)) rfl dX4_chain_125 ?_
        refine rb_aload_n 0 rfl rfl (rb_isR_ref _) dX4_chain_126 ?_
        refine mm_getA (t := 2) fl_X4_81 rfl (by decide) dX4_chain_127 ?_
        refine rb_iload_n 3 rfl rfl dX4_chain_130 ?_
        refine mm_iald (k := 28) (v := (ms6.1 28 (a3).toNatClampNeg)) rfl rfl (((((((Kx5).2).1 c8)).2).2 c9)).1 dX4_chain_131 ?_
        refine rb_iadd (z := (((48 : Int32) * a3) + (ms6.1 28 (a3).toNatClampNeg))) rfl dX4_chain_132 ?_
        refine rb_iload rfl dX4_chain_133 ?_
        refine mm_iast (k := 29) rfl ((((((((Kx5).2).1 c8)).2).2 c9)).2).1 dX4_chain_135 ?_
        refine rb_aload_n 0 rfl rfl (rb_isR_ref _) dX4_chain_136 ?_
        refine mm_getA (t := 2) fl_X4_81 rfl (by decide) dX4_chain_137 ?_
        refine rb_iload_n 3 rfl rfl dX4_chain_140 ?_
        refine rb_dup2 rfl rfl dX4_chain_141 ?_
        refine mm_iald (k := 28) (v := (ms6.1 28 (a3).toNatClampNeg)) rfl rfl (((((((((Kx5).2).1 c8)).2).2 c9)).2).2).1 dX4_chain_142 ?_
        refine rb_iconst (v := (1 : Int32)) (by decide) dX4_chain_143 ?_
        refine rb_iadd (z := ((ms6.1 28 (a3).toNatClampNeg) + (1 : Int32))) rfl dX4_chain_144 ?_
        refine mm_iast (k := 28) rfl ((((((((((Kx5).2).1 c8)).2).2 c9)).2).2).2).1 dX4_chain_145 ?_
        refine rb_iinc (ls' := [some (.ref h), some (.int a1), some (.int a2), some (.int a3), some (.int (a4 + (1 : Int32))), some (.int (ms.1 26 ((((24 : Int32) * a1) + a4)).toNatClampNeg)), some (.int x2), some (.int x5)]) (v := (a4 + (1 : Int32))) rfl rfl (by decide) rfl rfl dX4_chain_146 ?_
        refine rb_goto 17 (by decide) dX4_chain_149 ?_
        exact ((((((((((Kx5).2).1 c8)).2).2 c9)).2).2).2).2
    · skip
      refine rb_aload_n 0 rfl rfl (rb_isR_ref _) dX4_chain_70 ?_
      refine rb_iload rfl dX4_chain_71 ?_
      refine rb_iload_n 2 rfl rfl dX4_chain_73 ?_
      obtain ⟨x10, ms11, d12, h1, h2, Kx10⟩ := (((Kx5).2).2 c8)
      refine mm_call st_X4_243 (rest := []) h1 rfl rfl mm_rc (Nat.le_of_ble_eq_true rfl) h2 dX4_chain_74 ?_
      show rb_Bd κ mX4_chain (0, 0) (mm_H h ms11 M0) 77 [some (.ref h), some (.int a1), some (.int a2), some (.int a3), some (.int a4), some (.int (ms.1 26 ((((24 : Int32) * a1) + a4)).toNatClampNeg)), some (.int x2), some (.int x5)] [.int x10]
      refine rb_ifne 108 (by decide) dX4_chain_77 (fun c13 => ?_) (fun c13 => ?_)
      · skip
        refine rb_aload_n 0 rfl rfl (rb_isR_ref _) dX4_chain_108 ?_
        refine mm_getA (t := 2) fl_X4_35 rfl (by decide) dX4_chain_109 ?_
        refine rb_iload rfl dX4_chain_112 ?_
        refine mm_iald (k := 10) (v := (ms11.1 10 (x5).toNatClampNeg)) rfl rfl (((Kx10).1 c13)).1 dX4_chain_114 ?_
        refine rb_iflt 146 (by decide) dX4_chain_115 (fun c14 => ?_) (fun c14 => ?_)
        · skip
          refine rb_iinc (ls' := [some (.ref h), some (.int a1), some (.int a2), some (.int a3), some (.int (a4 + (1 : Int32))), some (.int (ms.1 26 ((((24 : Int32) * a1) + a4)).toNatClampNeg)), some (.int x2), some (.int x5)]) (v := (a4 + (1 : Int32))) rfl rfl (by decide) rfl rfl dX4_chain_146 ?_
          refine rb_goto 17 (by decide) dX4_chain_149 ?_
          exact (((((Kx10).1 c13)).2).1 c14)
        · skip
          refine rb_aload_n 0 rfl rfl (rb_isR_ref _) dX4_chain_118 ?_
          refine mm_getA (t := 2) fl_X4_84 rfl (by decide) dX4_chain_119 ?_
          refine rb_bipush (v := (48 : Int32)) (by decide) dX4_chain_122 ?_
          refine rb_iload_n 3 rfl rfl dX4_chain_124 ?_
          refine rb_imul (z := ((48 : Int32) * a3)) rfl dX4_chain_125 ?_
          refine rb_aload_n 0 rfl rfl (rb_isR_ref _) dX4_chain_126 ?_
          refine mm_getA (t := 2) fl_X4_81 rfl (by decide) dX4_chain_127 ?_
          refine rb_iload_n 3 rfl rfl dX4_chain_130 ?_
          refine mm_iald (k := 28) (v := (ms11.1 28 (a3).toNatClampNeg)) rfl rfl ((((((Kx10).1 c13)).2).2 c14)).1 dX4_chain_131 ?_
          refine rb_iadd (z := (((48 : Int32) * a3) + (ms11.1 28 (a3).toNatClampNeg))) rfl dX4_chain_132 ?_
          refine rb_iload rfl dX4_chain_133 ?_
          refine mm_iast (k := 29) rfl (((((((Kx10).1 c13)).2).2 c14)).2).1 dX4_chain_135 ?_
          refine rb_aload_n 0 rfl rfl (rb_isR_ref _) dX4_chain_136 ?_
          refine mm_getA (t := 2) fl_X4_81 rfl (by decide) dX4_chain_137 ?_
          refine rb_iload_n 3 rfl rfl dX4_chain_140 ?_
          refine rb_dup2 rfl rfl dX4_chain_141 ?_
          refine mm_iald (k := 28) (v := (ms11.1 28 (a3).toNatClampNeg)) rfl rfl ((((((((Kx10).1 c13)).2).2 c14)).2).2).1 dX4_chain_142 ?_
          refine rb_iconst (v := (1 : Int32)) (by decide) dX4_chain_143 ?_
          refine rb_iadd (z := ((ms11.1 28 (a3).toNatClampNeg) + (1 : Int32))) rfl dX4_chain_144 ?_
          refine mm_iast (k := 28) rfl (((((((((Kx10).1 c13)).2).2 c14)).2).2).2).1 dX4_chain_145 ?_
          refine rb_iinc (ls' := [some (.ref h), some (.int a1), some (.int a2), some (.int a3), some (.int (a4 + (1 : Int32))), some (.int (ms.1 26 ((((24 : Int32) * a1) + a4)).toNatClampNeg)), some (.int x2), some (.int x5)]) (v := (a4 + (1 : Int32))) rfl rfl (by decide) rfl rfl dX4_chain_146 ?_
          refine rb_goto 17 (by decide) dX4_chain_149 ?_
          exact (((((((((Kx10).1 c13)).2).2 c14)).2).2).2).2
      · skip
        refine rb_aload_n 0 rfl rfl (rb_isR_ref _) dX4_chain_80 ?_
        refine mm_getA (t := 2) fl_X4_84 rfl (by decide) dX4_chain_81 ?_
        refine rb_bipush (v := (48 : Int32)) (by decide) dX4_chain_84 ?_
        refine rb_iload_n 3 rfl rfl dX4_chain_86 ?_
        refine rb_imul (z := ((48 : Int32) * a3)) rfl dX4_chain_87 ?_
        refine rb_aload_n 0 rfl rfl (rb_isR_ref _) dX4_chain_88 ?_
        refine mm_getA (t := 2) fl_X4_81 rfl (by decide) dX4_chain_89 ?_
        refine rb_iload_n 3 rfl rfl dX4_chain_92 ?_
        refine mm_iald (k := 28) (v := (ms11.1 28 (a3).toNatClampNeg)) rfl rfl (((Kx10).2 c13)).1 dX4_chain_93 ?_
        refine rb_iadd (z := (((48 : Int32) * a3) + (ms11.1 28 (a3).toNatClampNeg))) rfl dX4_chain_94 ?_
        refine rb_iload rfl dX4_chain_95 ?_
        refine mm_iast (k := 29) rfl ((((Kx10).2 c13)).2).1 dX4_chain_97 ?_
        refine rb_aload_n 0 rfl rfl (rb_isR_ref _) dX4_chain_98 ?_
        refine mm_getA (t := 2) fl_X4_81 rfl (by decide) dX4_chain_99 ?_
        refine rb_iload_n 3 rfl rfl dX4_chain_102 ?_
        refine rb_dup2 rfl rfl dX4_chain_103 ?_
        refine mm_iald (k := 28) (v := (ms11.1 28 (a3).toNatClampNeg)) rfl rfl (((((Kx10).2 c13)).2).2).1 dX4_chain_104 ?_
        refine rb_iconst (v := (1 : Int32)) (by decide) dX4_chain_105 ?_
        refine rb_iadd (z := ((ms11.1 28 (a3).toNatClampNeg) + (1 : Int32))) rfl dX4_chain_106 ?_
        refine mm_iast (k := 28) rfl ((((((Kx10).2 c13)).2).2).2).1 dX4_chain_107 ?_
        refine rb_aload_n 0 rfl rfl (rb_isR_ref _) dX4_chain_108 ?_
        refine mm_getA (t := 2) fl_X4_35 rfl (by decide) dX4_chain_109 ?_
        refine rb_iload rfl dX4_chain_112 ?_
        refine mm_iald (k := 10) (v := (ms11.1 10 (x5).toNatClampNeg)) rfl rfl (((((((Kx10).2 c13)).2).2).2).2).1 dX4_chain_114 ?_
        refine rb_iflt 146 (by decide) dX4_chain_115 (fun c15 => ?_) (fun c15 => ?_)
        · skip
          refine rb_iinc (ls' := [some (.ref h), some (.int a1), some (.int a2), some (.int a3), some (.int (a4 + (1 : Int32))), some (.int (ms.1 26 ((((24 : Int32) * a1) + a4)).toNatClampNeg)), some (.int x2), some (.int x5)]) (v := (a4 + (1 : Int32))) rfl rfl (by decide) rfl rfl dX4_chain_146 ?_
          refine rb_goto 17 (by decide) dX4_chain_149 ?_
          exact (((((((((Kx10).2 c13)).2).2).2).2).2).1 c15)
        · skip
          refine rb_aload_n 0 rfl rfl (rb_isR_ref _) dX4_chain_118 ?_
          refine mm_getA (t := 2) fl_X4_84 rfl (by decide) dX4_chain_119 ?_
          refine rb_bipush (v := (48 : Int32)) (by decide) dX4_chain_122 ?_
          refine rb_iload_n 3 rfl rfl dX4_chain_124 ?_
          refine rb_imul (z := ((48 : Int32) * a3)) rfl dX4_chain_125 ?_
          refine rb_aload_n 0 rfl rfl (rb_isR_ref _) dX4_chain_126 ?_
          refine mm_getA (t := 2) fl_X4_81 rfl (by decide) dX4_chain_127 ?_
          refine rb_iload_n 3 rfl rfl dX4_chain_130 ?_
          refine mm_iald (k := 28) (v := ((mm_sI ms11 28 (a3).toNatClampNeg ((ms11.1 28 (a3).toNatClampNeg) + (1 : Int32))).1 28 (a3).toNatClampNeg)) rfl rfl ((((((((((Kx10).2 c13)).2).2).2).2).2).2 c15)).1 dX4_chain_131 ?_
          refine rb_iadd (z := (((48 : Int32) * a3) + ((mm_sI ms11 28 (a3).toNatClampNeg ((ms11.1 28 (a3).toNatClampNeg) + (1 : Int32))).1 28 (a3).toNatClampNeg))) rfl dX4_chain_132 ?_
          refine rb_iload rfl dX4_chain_133 ?_
          refine mm_iast (k := 29) rfl (((((((((((Kx10).2 c13)).2).2).2).2).2).2 c15)).2).1 dX4_chain_135 ?_
          refine rb_aload_n 0 rfl rfl (rb_isR_ref _) dX4_chain_136 ?_
          refine mm_getA (t := 2) fl_X4_81 rfl (by decide) dX4_chain_137 ?_
          refine rb_iload_n 3 rfl rfl dX4_chain_140 ?_
          refine rb_dup2 rfl rfl dX4_chain_141 ?_
          refine mm_iald (k := 28) (v := ((mm_sI ms11 28 (a3).toNatClampNeg ((ms11.1 28 (a3).toNatClampNeg) + (1 : Int32))).1 28 (a3).toNatClampNeg)) rfl rfl ((((((((((((Kx10).2 c13)).2).2).2).2).2).2 c15)).2).2).1 dX4_chain_142 ?_
          refine rb_iconst (v := (1 : Int32)) (by decide) dX4_chain_143 ?_
          refine rb_iadd (z := (((mm_sI ms11 28 (a3).toNatClampNeg ((ms11.1 28 (a3).toNatClampNeg) + (1 : Int32))).1 28 (a3).toNatClampNeg) + (1 : Int32))) rfl dX4_chain_144 ?_
          refine mm_iast (k := 28) rfl (((((((((((((Kx10).2 c13)).2).2).2).2).2).2 c15)).2).2).2).1 dX4_chain_145 ?_
          refine rb_iinc (ls' := [some (.ref h), some (.int a1), some (.int a2), some (.int a3), some (.int (a4 + (1 : Int32))), some (.int (ms.1 26 ((((24 : Int32) * a1) + a4)).toNatClampNeg)), some (.int x2), some (.int x5)]) (v := (a4 + (1 : Int32))) rfl rfl (by decide) rfl rfl dX4_chain_146 ?_
          refine rb_goto 17 (by decide) dX4_chain_149 ?_
          exact (((((((((((((Kx10).2 c13)).2).2).2).2).2).2 c15)).2).2).2).2
theorem sgX4_isExcluded_0 {κ : rb_K} {M0 : rb_H} {h : Nat} {ms : mm_S} {a1 : Int32} {a2 : Int32} (K : rb_Bd κ mX4_isExcluded (0, 0) (mm_H h ms M0) 5 [some (.ref h), some (.int a1), some (.int a2), some (.int (0 : Int32)), some (.int (0 : Int32))] []) : rb_Bd κ mX4_isExcluded (0, 0) (mm_H h ms M0) 0 [some (.ref h), some (.int a1), some (.int a2), none, none] [] := by
  refine rb_iconst (v := (0 : Int32)) (by decide) dX4_isExcluded_0 ?_
  refine rb_istore_n 3 rfl (ls' := [some (.ref h), some (.int a1), some (.int a2), some (.int (0 : Int32)), none]) (by decide) rfl rfl dX4_isExcluded_1 ?_
  refine rb_iconst (v := (0 : Int32)) (by decide) dX4_isExcluded_2 ?_
  refine rb_istore (ls' := [some (.ref h), some (.int a1), some (.int a2), some (.int (0 : Int32)), some (.int (0 : Int32))]) (by decide) rfl rfl dX4_isExcluded_3 ?_
  exact K
theorem sgX4_isExcluded_5 {κ : rb_K} {M0 : rb_H} {h : Nat} {ms : mm_S} {a1 : Int32} {a2 : Int32} {a3 : Int32} {a4 : Int32} (K : (((ms.1 18 0) ≤ a4 → (narrow .boolean (.int a3) = .int a3 ∧ κ.2.2.1 (.returned (some (.int a3))) (mm_H h ms M0))) ∧ (a4 < (ms.1 18 0) → ((¬ a3 = 0 → rb_Bd κ mX4_isExcluded (0, 0) (mm_H h ms M0) 5 [some (.ref h), some (.int a1), some (.int a2), some (.int (1 : Int32)), some (.int (a4 + (1 : Int32)))] []) ∧ (a3 = 0 → (vp_in a4 (mm_l 19) ∧ ((¬ (ms.1 19 (a4).toNatClampNeg) = a1 → rb_Bd κ mX4_isExcluded (0, 0) (mm_H h ms M0) 5 [some (.ref h), some (.int a1), some (.int a2), some (.int (0 : Int32)), some (.int (a4 + (1 : Int32)))] []) ∧ ((ms.1 19 (a4).toNatClampNeg) = a1 → (vp_in a4 (mm_l 20) ∧ ((¬ (ms.1 20 (a4).toNatClampNeg) = a2 → rb_Bd κ mX4_isExcluded (0, 0) (mm_H h ms M0) 5 [some (.ref h), some (.int a1), some (.int a2), some (.int (0 : Int32)), some (.int (a4 + (1 : Int32)))] []) ∧ ((ms.1 20 (a4).toNatClampNeg) = a2 → rb_Bd κ mX4_isExcluded (0, 0) (mm_H h ms M0) 5 [some (.ref h), some (.int a1), some (.int a2), some (.int (1 : Int32)), some (.int (a4 + (1 : Int32)))] []))))))))))) : rb_Bd κ mX4_isExcluded (0, 0) (mm_H h ms M0) 5 [some (.ref h), some (.int a1), some (.int a2), some (.int a3), some (.int a4)] [] := by
  refine rb_iload rfl dX4_isExcluded_5 ?_
  refine rb_aload_n 0 rfl rfl (rb_isR_ref _) dX4_isExcluded_7 ?_
  refine mm_getI (v := (ms.1 18 0)) rfl fl_X4_220 rfl dX4_isExcluded_8 ?_
  refine rb_icge 52 (by decide) dX4_isExcluded_11 (fun c1 => ?_) (fun c1 => ?_)
  · skip
    refine rb_iload_n 3 rfl rfl dX4_isExcluded_52 ?_
    exact rb_iret rfl (((K).1 c1)).1 (Nat.zero_le _) (Nat.zero_le _) dX4_isExcluded_53 (((K).1 c1)).2
  · skip
    refine rb_iload_n 3 rfl rfl dX4_isExcluded_14 ?_
    refine rb_ifne 40 (by decide) dX4_isExcluded_15 (fun c2 => ?_) (fun c2 => ?_)
    · skip
      refine rb_iconst (v := (1 : Int32)) (by decide) dX4_isExcluded_40 ?_
      refine rb_goto 45 (by decide) dX4_isExcluded_41 ?_
      refine rb_istore_n 3 rfl (ls' := [some (.ref h), some (.int a1), some (.int a2), some (.int (1 : Int32)), some (.int a4)]) (by decide) rfl rfl dX4_isExcluded_45 ?_
      refine rb_iinc (ls' := [some (.ref h), some (.int a1), some (.int a2), some (.int (1 : Int32)), some (.int (a4 + (1 : Int32)))]) (v := (a4 + (1 : Int32))) rfl rfl (by decide) rfl rfl dX4_isExcluded_46 ?_
      refine rb_goto 5 (by decide) dX4_isExcluded_49 ?_
      exact ((((K).2 c1)).1 c2)
    · skip
      refine rb_aload_n 0 rfl rfl (rb_isR_ref _) dX4_isExcluded_18 ?_
      refine mm_getA (t := 2) fl_X4_57 rfl (by decide) dX4_isExcluded_19 ?_
      refine rb_iload rfl dX4_isExcluded_22 ?_
      refine mm_iald (k := 19) (v := (ms.1 19 (a4).toNatClampNeg)) rfl rfl (((((K).2 c1)).2 c2)).1 dX4_isExcluded_24 ?_
      refine rb_iload_n 1 rfl rfl dX4_isExcluded_25 ?_
      refine rb_icne 44 (by decide) dX4_isExcluded_26 (fun c3 => ?_) (fun c3 => ?_)
      · skip
        refine rb_iconst (v := (0 : Int32)) (by decide) dX4_isExcluded_44 ?_
        refine rb_istore_n 3 rfl (ls' := [some (.ref h), some (.int a1), some (.int a2), some (.int (0 : Int32)), some (.int a4)]) (by decide) rfl rfl dX4_isExcluded_45 ?_
        refine rb_iinc (ls' := [some (.ref h), some (.int a1), some (.int a2), some (.int (0 : Int32)), some (.int (a4 + (1 : Int32)))]) (v := (a4 + (1 : Int32))) rfl rfl (by decide) rfl rfl dX4_isExcluded_46 ?_
        refine rb_goto 5 (by decide) dX4_isExcluded_49 ?_
        exact (((((((K).2 c1)).2 c2)).2).1 c3)
      · skip
        refine rb_aload_n 0 rfl rfl (rb_isR_ref _) dX4_isExcluded_29 ?_
        refine mm_getA (t := 2) fl_X4_60 rfl (by decide) dX4_isExcluded_30 ?_
        refine rb_iload rfl dX4_isExcluded_33 ?_
        refine mm_iald (k := 20) (v := (ms.1 20 (a4).toNatClampNeg)) rfl rfl ((((((((K).2 c1)).2 c2)).2).2 c3)).1 dX4_isExcluded_35 ?_
        refine rb_iload_n 2 rfl rfl dX4_isExcluded_36 ?_
        refine rb_icne 44 (by decide) dX4_isExcluded_37 (fun c4 => ?_) (fun c4 => ?_)
        · skip
          refine rb_iconst (v := (0 : Int32)) (by decide) dX4_isExcluded_44 ?_
          refine rb_istore_n 3 rfl (ls' := [some (.ref h), some (.int a1), some (.int a2), some (.int (0 : Int32)), some (.int a4)]) (by decide) rfl rfl dX4_isExcluded_45 ?_
          refine rb_iinc (ls' := [some (.ref h), some (.int a1), some (.int a2), some (.int (0 : Int32)), some (.int (a4 + (1 : Int32)))]) (v := (a4 + (1 : Int32))) rfl rfl (by decide) rfl rfl dX4_isExcluded_46 ?_
          refine rb_goto 5 (by decide) dX4_isExcluded_49 ?_
          exact ((((((((((K).2 c1)).2 c2)).2).2 c3)).2).1 c4)
        · skip
          refine rb_iconst (v := (1 : Int32)) (by decide) dX4_isExcluded_40 ?_
          refine rb_goto 45 (by decide) dX4_isExcluded_41 ?_
          refine rb_istore_n 3 rfl (ls' := [some (.ref h), some (.int a1), some (.int a2), some (.int (1 : Int32)), some (.int a4)]) (by decide) rfl rfl dX4_isExcluded_45 ?_
          refine rb_iinc (ls' := [some (.ref h), some (.int a1), some (.int a2), some (.int (1 : Int32)), some (.int (a4 + (1 : Int32)))]) (v := (a4 + (1 : Int32))) rfl rfl (by decide) rfl rfl dX4_isExcluded_46 ?_
          refine rb_goto 5 (by decide) dX4_isExcluded_49 ?_
          exact ((((((((((K).2 c1)).2 c2)).2).2 c3)).2).2 c4)
theorem sgX4_lacksAny_0 {κ : rb_K} {M0 : rb_H} {h : Nat} {ms : mm_S} {a1 : Int32} (K : rb_Bd κ mX4_lacksAny (0, 0) (mm_H h ms M0) 2 [some (.ref h), some (.int a1), some (.int (0 : Int32)), none, none] []) : rb_Bd κ mX4_lacksAny (0, 0) (mm_H h ms M0) 0 [some (.ref h), some (.int a1), none, none, none] [] := by
  refine rb_iconst (v := (0 : Int32)) (by decide) dX4_lacksAny_0 ?_
  refine rb_istore_n 2 rfl (ls' := [some (.ref h), some (.int a1), some (.int (0 : Int32)), none, none]) (by decide) rfl rfl dX4_lacksAny_1 ?_
  exact K
theorem sgX4_lacksAny_2 {κ : rb_K} {M0 : rb_H} {h : Nat} {ms : mm_S} {a1 : Int32} {a2 : Int32} (K : (vp_in a1 (mm_l 25) ∧ (((ms.1 25 (a1).toNatClampNeg) ≤ a2 → rb_Bd κ mX4_lacksAny (0, 0) (mm_H h ms M0) 86 [some (.ref h), some (.int a1), some (.int (0 : Int32)), none, none] []) ∧ (a2 < (ms.1 25 (a1).toNatClampNeg) → (vp_in (((24 : Int32) * a1) + a2) (mm_l 26) ∧ rb_Bd κ mX4_lacksAny (0, 0) (mm_H h ms M0) 27 [some (.ref h), some (.int a1), some (.int a2), some (.int (ms.1 26 ((((24 : Int32) * a1) + a2)).toNatClampNeg)), some (.int (0 : Int32))] []))))) : rb_Bd κ mX4_lacksAny (0, 0) (mm_H h ms M0) 2 [some (.ref h), some (.int a1), some (.int a2), none, none] [] := by
  refine rb_iload_n 2 rfl rfl dX4_lacksAny_2 ?_
  refine rb_aload_n 0 rfl rfl (rb_isR_ref _) dX4_lacksAny_3 ?_
  refine mm_getA (t := 2) fl_X4_72 rfl (by decide) dX4_lacksAny_4 ?_
  refine rb_iload_n 1 rfl rfl dX4_lacksAny_7 ?_
  refine mm_iald (k := 25) (v := (ms.1 25 (a1).toNatClampNeg)) rfl rfl (K).1 dX4_lacksAny_8 ?_
  refine rb_icge 84 (by decide) dX4_lacksAny_9 (fun c1 => ?_) (fun c1 => ?_)
  · skip
    refine rb_iconst (v := (0 : Int32)) (by decide) dX4_lacksAny_84 ?_
    refine rb_istore_n 2 rfl (ls' := [some (.ref h), some (.int a1), some (.int (0 : Int32)), none, none]) (by decide) rfl rfl dX4_lacksAny_85 ?_
    exact (((K).2).1 c1)
  · skip
    refine rb_aload_n 0 rfl rfl (rb_isR_ref _) dX4_lacksAny_12 ?_
    refine mm_getA (t := 2) fl_X4_75 rfl (by decide) dX4_lacksAny_13 ?_
    refine rb_bipush (v := (24 : Int32)) (by decide) dX4_lacksAny_16 ?_
    refine rb_iload_n 1 rfl rfl dX4_lacksAny_18 ?_
    refine rb_imul (z := ((24 : Int32) * a1)) rfl dX4_lacksAny_19 ?_
    refine rb_iload_n 2 rfl rfl dX4_lacksAny_20 ?_
    refine rb_iadd (z := (((24 : Int32) * a1) + a2)) rfl dX4_lacksAny_21 ?_
    refine mm_iald (k := 26) (v := (ms.1 26 ((((24 : Int32) * a1) + a2)).toNatClampNeg)) rfl rfl ((((K).2).2 c1)).1 dX4_lacksAny_22 ?_
    refine rb_istore_n 3 rfl (ls' := [some (.ref h), some (.int a1), some (.int a2), some (.int (ms.1 26 ((((24 : Int32) * a1) + a2)).toNatClampNeg)), none]) (by decide) rfl rfl dX4_lacksAny_23 ?_
    refine rb_iconst (v := (0 : Int32)) (by decide) dX4_lacksAny_24 ?_
    refine rb_istore (ls' := [some (.ref h), some (.int a1), some (.int a2), some (.int (ms.1 26 ((((24 : Int32) * a1) + a2)).toNatClampNeg)), some (.int (0 : Int32))]) (by decide) rfl rfl dX4_lacksAny_25 ?_
    exact ((((K).2).2 c1)).2
theorem sgX4_lacksAny_27 {κ : rb_K} {M0 : rb_H} {h : Nat} {ms : mm_S} {a1 : Int32} {a2 : Int32} {a3 : Int32} {a4 : Int32} (K : (((12 : Int32) ≤ a4 → rb_Bd κ mX4_lacksAny (0, 0) (mm_H h ms M0) 2 [some (.ref h), some (.int a1), some (.int (a2 + (1 : Int32))), some (.int a3), some (.int a4)] []) ∧ (a4 < (12 : Int32) → (vp_in (((12 : Int32) * a3) + a4) (mm_l 6) ∧ (((ms.1 6 ((((12 : Int32) * a3) + a4)).toNatClampNeg) = 0 → rb_Bd κ mX4_lacksAny (0, 0) (mm_H h ms M0) 27 [some (.ref h), some (.int a1), some (.int a2), some (.int a3), some (.int (a4 + (1 : Int32)))] []) ∧ (¬ (ms.1 6 ((((12 : Int32) * a3) + a4)).toNatClampNeg) = 0 → (∃ (x3 : Int32) (ms4 : mm_S) (d5 : Nat), mm_C κ.1 yX4_hasGiven wX4_hasGiven d5 h M0 ms [.ref h, .int a1, .int a4] (some (.int x3)) ms4 ∧ rb_dp κ d5 ∧ ((¬ x3 = 0 → rb_Bd κ mX4_lacksAny (0, 0) (mm_H h ms4 M0) 27 [some (.ref h), some (.int a1), some (.int a2), some (.int a3), some (.int (a4 + (1 : Int32)))] []) ∧ (x3 = 0 → (κ.2.2.1 (.returned (some (.int (1 : Int32)))) (mm_H h (mm_sI (mm_sI ms4 35 0 a3) 36 0 a4) M0))))))))))) : rb_Bd κ mX4_lacksAny (0, 0) (mm_H h ms M0) 27 [some (.ref h), some (.int a1), some (.int a2), some (.int a3), some (.int a4)] [] := by
  refine rb_iload rfl dX4_lacksAny_27 ?_
  refine rb_bipush (v := (12 : Int32)) (by decide) dX4_lacksAny_29 ?_
  refine rb_icge 78 (by decide) dX4_lacksAny_31 (fun c1 => ?_) (fun c1 => ?_)
  · skip
    refine rb_iinc (ls' := [some (.ref h), some (.int a1), some (.int (a2 + (1 : Int32))), some (.int a3), some (.int a4)]) (v := (a2 + (1 : Int32))) rfl rfl (by decide) rfl rfl dX4_lacksAny_78 ?_
    refine rb_goto 2 (by decide) dX4_lacksAny_81 ?_
    exact ((K).1 c1)
  · skip
    refine rb_aload_n 0 rfl rfl (rb_isR_ref _) dX4_lacksAny_34 ?_
    refine mm_getA (t := 4) fl_X4_25 rfl (by decide) dX4_lacksAny_35 ?_
    refine rb_bipush (v := (12 : Int32)) (by decide) dX4_lacksAny_38 ?_
    refine rb_iload_n 3 rfl rfl dX4_lacksAny_40 ?_
    refine rb_imul (z := ((12 : Int32) * a3)) rfl dX4_lacksAny_41 ?_
    refine rb_iload rfl dX4_lacksAny_42 ?_
    refine rb_iadd (z := (((12 : Int32) * a3) + a4)) rfl dX4_lacksAny_44 ?_
    refine mm_zald (k := 6) (v := (ms.1 6 ((((12 : Int32) * a3) + a4)).toNatClampNeg)) rfl rfl (((K).2 c1)).1 dX4_lacksAny_45 ?_
    refine rb_ifeq 72 (by decide) dX4_lacksAny_46 (fun c2 => ?_) (fun c2 => ?_)
    · skip
      refine rb_iinc (ls' := [some (.ref h), some (.int a1), some (.int a2), some (.int a3), some (.int (a4 + (1 : Int32)))]) (v := (a4 + (1 : Int32))) rfl rfl (by decide) rfl rfl dX4_lacksAny_72 ?_
      refine rb_goto 27 (by decide) dX4_lacksAny_75 ?_
      exact (((((K).2 c1)).2).1 c2)
    · skip
      refine rb_aload_n 0 rfl rfl (rb_isR_ref _) dX4_lacksAny_49 ?_
      refine rb_iload_n 1 rfl rfl dX4_lacksAny_50 ?_
      refine rb_iload rfl dX4_lacksAny_51 ?_
      obtain ⟨x3, ms4, d5, h1, h2, Kx3⟩ := (((((K).2 c1)).2).2 c2)
      refine mm_call st_X4_249 (rest := []) h1 rfl rfl mm_rc (Nat.le_of_ble_eq_true rfl) h2 dX4_lacksAny_53 ?_
      show rb_Bd κ mX4_lacksAny (0, 0) (mm_H h ms4 M0) 56 [some (.ref h), some (.int a1), some (.int a2), some (.int a3), some (.int a4)] [.int x3]
      refine rb_ifne 72 (by decide) dX4_lacksAny_56 (fun c6 => ?_) (fun c6 => ?_)
      · skip
        refine rb_iinc (ls' := [some (.ref h), some (.int a1), some (.int a2), some (.int a3), some (.int (a4 + (1 : Int32)))]) (v := (a4 + (1 : Int32))) rfl rfl (by decide) rfl rfl dX4_lacksAny_72 ?_
        refine rb_goto 27 (by decide) dX4_lacksAny_75 ?_
        exact ((Kx3).1 c6)
      · skip
        refine rb_aload_n 0 rfl rfl (rb_isR_ref _) dX4_lacksAny_59 ?_
        refine rb_iload_n 3 rfl rfl dX4_lacksAny_60 ?_
        refine mm_putI fl_X4_99 rfl dX4_lacksAny_61 ?_
        refine rb_aload_n 0 rfl rfl (rb_isR_ref _) dX4_lacksAny_64 ?_
        refine rb_iload rfl dX4_lacksAny_65 ?_
        refine mm_putI fl_X4_102 rfl dX4_lacksAny_67 ?_
        refine rb_iconst (v := (1 : Int32)) (by decide) dX4_lacksAny_70 ?_
        exact rb_iret rfl (by decide) (Nat.zero_le _) (Nat.zero_le _) dX4_lacksAny_71 ((Kx3).2 c6)
theorem sgX4_lacksAny_86 {κ : rb_K} {M0 : rb_H} {h : Nat} {ms : mm_S} {a1 : Int32} {a2 : Int32} (K : (((4 : Int32) ≤ a2 → (κ.2.2.1 (.returned (some (.int (0 : Int32)))) (mm_H h ms M0))) ∧ (a2 < (4 : Int32) → (vp_in (((4 : Int32) * a1) + a2) (mm_l 30) ∧ (vp_in a2 (mm_l 23) ∧ (((ms.1 23 (a2).toNatClampNeg) = 0 → rb_Bd κ mX4_lacksAny (0, 0) (mm_H h (mm_sI ms 30 ((((4 : Int32) * a1) + a2)).toNatClampNeg (-9 : Int32)) M0) 86 [some (.ref h), some (.int a1), some (.int (a2 + (1 : Int32))), none, none] []) ∧ (¬ (ms.1 23 (a2).toNatClampNeg) = 0 → (vp_in a2 (mm_l 21) ∧ (vp_in a2 (mm_l 22) ∧ (∃ (x3 : Int32) (ms4 : mm_S) (d5 : Nat), mm_C κ.1 yX4_chainPlace wX4_chainPlace d5 h M0 (mm_sI ms 30 ((((4 : Int32) * a1) + a2)).toNatClampNeg (-9 : Int32)) [.ref h, .int a1, .int (ms.1 21 (a2).toNatClampNeg), .int (ms.1 22 (a2).toNatClampNeg)] (some (.int x3)) ms4 ∧ rb_dp κ d5 ∧ ((0 ≤ x3 → (vp_in a2 (mm_l 22) ∧ (vp_in (((4 : Int32) * a1) + a2) (mm_l 30) ∧ (vp_in (((4 : Int32) * a1) + a2) (mm_l 31) ∧ rb_Bd κ mX4_lacksAny (0, 0) (mm_H h (mm_sI (mm_sI ms4 30 ((((4 : Int32) * a1) + a2)).toNatClampNeg (ms4.1 22 (a2).toNatClampNeg)) 31 ((((4 : Int32) * a1) + a2)).toNatClampNeg x3) M0) 86 [some (.ref h), some (.int a1), some (.int (a2 + (1 : Int32))), some (.int x3), none] [])))) ∧ (x3 < 0 → (vp_in a2 (mm_l 21) ∧ (vp_in a2 (mm_l 22) ∧ (κ.2.2.1 (.returned (some (.int (1 : Int32)))) (mm_H h (mm_sI (mm_sI ms4 35 0 (ms4.1 21 (a2).toNatClampNeg)) 36 0 (ms4.1 22 (a2).toNatClampNeg)) M0)))))))))))))))) : rb_Bd κ mX4_lacksAny (0, 0) (mm_H h ms M0) 86 [some (.ref h), some (.int a1), some (.int a2), none, none] [] := by
  refine rb_iload_n 2 rfl rfl dX4_lacksAny_86 ?_
  refine rb_iconst (v := (4 : Int32)) (by decide) dX4_lacksAny_87 ?_
  refine rb_icge 189 (by decide) dX4_lacksAny_88 (fun c1 => ?_) (fun c1 => ?_)
  · skip
    refine rb_iconst (v := (0 : Int32)) (by decide) dX4_lacksAny_189 ?_
    exact rb_iret rfl (by decide) (Nat.zero_le _) (Nat.zero_le _) dX4_lacksAny_190 ((K).1 c1)
  · skip
    refine rb_aload_n 0 rfl rfl (rb_isR_ref _) dX4_lacksAny_91 ?_
    refine mm_getA (t := 2) fl_X4_87 rfl (by decide) dX4_lacksAny_92 ?_
    refine rb_iconst (v := (4 : Int32)) (by decide) dX4_lacksAny_95 ?_
    refine rb_iload_n 1 rfl rfl dX4_lacksAny_96 ?_
    refine rb_imul (z := ((4 : Int32) * a1)) rfl dX4_lacksAny_97 ?_
    refine rb_iload_n 2 rfl rfl dX4_lacksAny_98 ?_
    refine rb_iadd (z := (((4 : Int32) * a1) + a2)) rfl dX4_lacksAny_99 ?_
    refine rb_bipush (v := (-9 : Int32)) (by decide) dX4_lacksAny_100 ?_
    refine mm_iast (k := 30) rfl (((K).2 c1)).1 dX4_lacksAny_102 ?_
    refine rb_aload_n 0 rfl rfl (rb_isR_ref _) dX4_lacksAny_103 ?_
    refine mm_getA (t := 4) fl_X4_69 rfl (by decide) dX4_lacksAny_104 ?_
    refine rb_iload_n 2 rfl rfl dX4_lacksAny_107 ?_
    refine mm_zald (k := 23) (v := (ms.1 23 (a2).toNatClampNeg)) rfl rfl ((((K).2 c1)).2).1 dX4_lacksAny_108 ?_
    refine rb_ifeq 183 (by decide) dX4_lacksAny_109 (fun c2 => ?_) (fun c2 => ?_)
    · skip
      refine rb_iinc (ls' := [some (.ref h), some (.int a1), some (.int (a2 + (1 : Int32))), none, none]) (v := (a2 + (1 : Int32))) rfl rfl (by decide) rfl rfl dX4_lacksAny_183 ?_
      refine rb_goto 86 (by decide) dX4_lacksAny_186 ?_
      exact ((((((K).2 c1)).2).2).1 c2)
    · skip
      refine rb_aload_n 0 rfl rfl (rb_isR_ref _) dX4_lacksAny_112 ?_
      refine rb_iload_n 1 rfl rfl dX4_lacksAny_113 ?_
      refine rb_aload_n 0 rfl rfl (rb_isR_ref _) dX4_lacksAny_114 ?_
      refine mm_getA (t := 2) fl_X4_63 rfl (by decide) dX4_lacksAny_115 ?_
      refine rb_iload_n 2 rfl rfl dX4_lacksAny_118 ?_
      refine mm_iald (k := 21) (v := (ms.1 21 (a2).toNatClampNeg)) rfl rfl (((((((K).2 c1)).2).2).2 c2)).1 dX4_lacksAny_119 ?_
      refine rb_aload_n 0 rfl rfl (rb_isR_ref _) dX4_lacksAny_120 ?_
      refine mm_getA (t := 2) fl_X4_66 rfl (by decide) dX4_lacksAny_121 ?_
      refine rb_iload_n 2 rfl rfl dX4_lacksAny_124 ?_
      refine mm_iald (k := 22) (v := (ms.1 22 (a2).toNatClampNeg)) rfl rfl ((((((((K).2 c1)).2).2).2 c2)).2).1 dX4_lacksAny_125 ?_
      obtain ⟨x3, ms4, d5, h1, h2, Kx3⟩ := ((((((((K).2 c1)).2).2).2 c2)).2).2
      refine mm_call st_X4_252 (rest := []) h1 rfl rfl mm_rc (Nat.le_of_ble_eq_true rfl) h2 dX4_lacksAny_126 ?_
      show rb_Bd κ mX4_lacksAny (0, 0) (mm_H h ms4 M0) 129 [some (.ref h), some (.int a1), some (.int a2), none, none] [.int x3]
      refine rb_istore_n 3 rfl (ls' := [some (.ref h), some (.int a1), some (.int a2), some (.int x3), none]) (by decide) rfl rfl dX4_lacksAny_129 ?_
      refine rb_iload_n 3 rfl rfl dX4_lacksAny_130 ?_
      refine rb_ifge 156 (by decide) dX4_lacksAny_131 (fun c6 => ?_) (fun c6 => ?_)
      · skip
        refine rb_aload_n 0 rfl rfl (rb_isR_ref _) dX4_lacksAny_156 ?_
        refine mm_getA (t := 2) fl_X4_87 rfl (by decide) dX4_lacksAny_157 ?_
        refine rb_iconst (v := (4 : Int32)) (by decide) dX4_lacksAny_160 ?_
        refine rb_iload_n 1 rfl rfl dX4_lacksAny_161 ?_
        refine rb_imul (z := ((4 : Int32) * a1)) rfl dX4_lacksAny_162 ?_
        refine rb_iload_n 2 rfl rfl dX4_lacksAny_163 ?_
        refine rb_iadd (z := (((4 : Int32) * a1) + a2)) rfl dX4_lacksAny_164 ?_
        refine rb_aload_n 0 rfl rfl (rb_isR_ref _) dX4_lacksAny_165 ?_
        refine mm_getA (t := 2) fl_X4_66 rfl (by decide) dX4_lacksAny_166 ?_
        refine rb_iload_n 2 rfl rfl dX4_lacksAny_169 ?_
        refine mm_iald (k := 22) (v := (ms4.1 22 (a2).toNatClampNeg)) rfl rfl (((Kx3).1 c6)).1 dX4_lacksAny_170 ?_
        refine mm_iast (k := 30) rfl ((((Kx3).1 c6)).2).1 dX4_lacksAny_171 ?_
        refine rb_aload_n 0 rfl rfl (rb_isR_ref _) dX4_lacksAny_172 ?_
        refine mm_getA (t := 2) fl_X4_90 rfl (by decide) dX4_lacksAny_173 ?_
        refine rb_iconst (v := (4 : Int32)) (by decide) dX4_lacksAny_176 ?_
        refine rb_iload_n 1 rfl rfl dX4_lacksAny_177 ?_
        refine rb_imul (z := ((4 : Int32) * a1)) rfl dX4_lacksAny_178 ?_
        refine rb_iload_n 2 rfl rfl dX4_lacksAny_179 ?_
        refine rb_iadd (z := (((4 : Int32) * a1) + a2)) rfl dX4_lacksAny_180 ?_
        refine rb_iload_n 3 rfl rfl dX4_lacksAny_181 ?_
        refine mm_iast (k := 31) rfl (((((Kx3).1 c6)).2).2).1 dX4_lacksAny_182 ?_
        refine rb_iinc (ls' := [some (.ref h), some (.int a1), some (.int (a2 + (1 : Int32))), some (.int x3), none]) (v := (a2 + (1 : Int32))) rfl rfl (by decide) rfl rfl dX4_lacksAny_183 ?_
        refine rb_goto 86 (by decide) dX4_lacksAny_186 ?_
        exact (((((Kx3).1 c6)).2).2).2
      · skip
        refine rb_aload_n 0 rfl rfl (rb_isR_ref _) dX4_lacksAny_134 ?_
        refine rb_aload_n 0 rfl rfl (rb_isR_ref _) dX4_lacksAny_135 ?_
        refine mm_getA (t := 2) fl_X4_63 rfl (by decide) dX4_lacksAny_136 ?_
        refine rb_iload_n 2 rfl rfl dX4_lacksAny_139 ?_
        refine mm_iald (k := 21) (v := (ms4.1 21 (a2).toNatClampNeg)) rfl rfl (((Kx3).2 c6)).1 dX4_lacksAny_140 ?_
        refine mm_putI fl_X4_99 rfl dX4_lacksAny_141 ?_
        refine rb_aload_n 0 rfl rfl (rb_isR_ref _) dX4_lacksAny_144 ?_
        refine rb_aload_n 0 rfl rfl (rb_isR_ref _) dX4_lacksAny_145 ?_
        refine mm_getA (t := 2) fl_X4_66 rfl (by decide) dX4_lacksAny_146 ?_
        refine rb_iload_n 2 rfl rfl dX4_lacksAny_149 ?_
        refine mm_iald (k := 22) (v := (ms4.1 22 (a2).toNatClampNeg)) rfl rfl ((((Kx3).2 c6)).2).1 dX4_lacksAny_150 ?_
        refine mm_putI fl_X4_102 rfl dX4_lacksAny_151 ?_
        refine rb_iconst (v := (1 : Int32)) (by decide) dX4_lacksAny_154 ?_
        exact rb_iret rfl (by decide) (Nat.zero_le _) (Nat.zero_le _) dX4_lacksAny_155 ((((Kx3).2 c6)).2).2
theorem sgX4_hasGiven_0 {κ : rb_K} {M0 : rb_H} {h : Nat} {ms : mm_S} {a1 : Int32} {a2 : Int32} (K : rb_Bd κ mX4_hasGiven (0, 0) (mm_H h ms M0) 13 [some (.ref h), some (.int a1), some (.int a2), some (.int (0 : Int32)), some (.int (((12 : Int32) * a1) + a2)), some (.int (0 : Int32))] []) : rb_Bd κ mX4_hasGiven (0, 0) (mm_H h ms M0) 0 [some (.ref h), some (.int a1), some (.int a2), none, none, none] [] := by
  refine rb_iconst (v := (0 : Int32)) (by decide) dX4_hasGiven_0 ?_
  refine rb_istore_n 3 rfl (ls' := [some (.ref h), some (.int a1), some (.int a2), some (.int (0 : Int32)), none, none]) (by decide) rfl rfl dX4_hasGiven_1 ?_
  refine rb_bipush (v := (12 : Int32)) (by decide) dX4_hasGiven_2 ?_
  refine rb_iload_n 1 rfl rfl dX4_hasGiven_4 ?_
  refine rb_imul (z := ((12 : Int32) * a1)) rfl dX4_hasGiven_5 ?_
  refine rb_iload_n 2 rfl rfl dX4_hasGiven_6 ?_
  refine rb_iadd (z := (((12 : Int32) * a1) + a2)) rfl dX4_hasGiven_7 ?_
  refine rb_istore (ls' := [some (.ref h), some (.int a1), some (.int a2), some (.int (0 : Int32)), some (.int (((12 : Int32) * a1) + a2)), none]) (by decide) rfl rfl dX4_hasGiven_8 ?_
  refine rb_iconst (v := (0 : Int32)) (by decide) dX4_hasGiven_10 ?_
  refine rb_istore (ls' := [some (.ref h), some (.int a1), some (.int a2), some (.int (0 : Int32)), some (.int (((12 : Int32) * a1) + a2)), some (.int (0 : Int32))]) (by decide) rfl rfl dX4_hasGiven_11 ?_
  exact K
theorem sgX4_hasGiven_13 {κ : rb_K} {M0 : rb_H} {h : Nat} {ms : mm_S} {a1 : Int32} {a2 : Int32} {a3 : Int32} {a4 : Int32} {a5 : Int32} (K : (vp_in a4 (mm_l 28) ∧ (((ms.1 28 (a4).toNatClampNeg) ≤ a5 → (narrow .boolean (.int a3) = .int a3 ∧ κ.2.2.1 (.returned (some (.int a3))) (mm_H h ms M0))) ∧ (a5 < (ms.1 28 (a4).toNatClampNeg) → ((¬ a3 = 0 → rb_Bd κ mX4_hasGiven (0, 0) (mm_H h ms M0) 13 [some (.ref h), some (.int a1), some (.int a2), some (.int (1 : Int32)), some (.int a4), some (.int (a5 + (1 : Int32)))] []) ∧ (a3 = 0 → (vp_in (((48 : Int32) * a4) + a5) (mm_l 29) ∧ (∃ (x3 : Int32) (ms4 : mm_S) (d5 : Nat), mm_C κ.1 yX4_isGiven wX4_isGiven d5 h M0 ms [.int (ms.1 29 ((((48 : Int32) * a4) + a5)).toNatClampNeg)] (some (.int x3)) ms4 ∧ rb_dp κ d5 ∧ ((x3 = 0 → rb_Bd κ mX4_hasGiven (0, 0) (mm_H h ms4 M0) 13 [some (.ref h), some (.int a1), some (.int a2), some (.int (0 : Int32)), some (.int a4), some (.int (a5 + (1 : Int32)))] []) ∧ (¬ x3 = 0 → rb_Bd κ mX4_hasGiven (0, 0) (mm_H h ms4 M0) 13 [some (.ref h), some (.int a1), some (.int a2), some (.int (1 : Int32)), some (.int a4), some (.int (a5 + (1 : Int32)))] [])))))))))) : rb_Bd κ mX4_hasGiven (0, 0) (mm_H h ms M0) 13 [some (.ref h), some (.int a1), some (.int a2), some (.int a3), some (.int a4), some (.int a5)] [] := by
  refine rb_iload rfl dX4_hasGiven_13 ?_
  refine rb_aload_n 0 rfl rfl (rb_isR_ref _) dX4_hasGiven_15 ?_
  refine mm_getA (t := 2) fl_X4_81 rfl (by decide) dX4_hasGiven_16 ?_
  refine rb_iload rfl dX4_hasGiven_19 ?_
  refine mm_iald (k := 28) (v := (ms.1 28 (a4).toNatClampNeg)) rfl rfl (K).1 dX4_hasGiven_21 ?_
  refine rb_icge 60 (by decide) dX4_hasGiven_22 (fun c1 => ?_) (fun c1 => ?_)
  · skip
    refine rb_iload_n 3 rfl rfl dX4_hasGiven_60 ?_
    exact rb_iret rfl ((((K).2).1 c1)).1 (Nat.zero_le _) (Nat.zero_le _) dX4_hasGiven_61 ((((K).2).1 c1)).2
  · skip
    refine rb_iload_n 3 rfl rfl dX4_hasGiven_25 ?_
    refine rb_ifne 48 (by decide) dX4_hasGiven_26 (fun c2 => ?_) (fun c2 => ?_)
    · skip
      refine rb_iconst (v := (1 : Int32)) (by decide) dX4_hasGiven_48 ?_
      refine rb_goto 53 (by decide) dX4_hasGiven_49 ?_
      refine rb_istore_n 3 rfl (ls' := [some (.ref h), some (.int a1), some (.int a2), some (.int (1 : Int32)), some (.int a4), some (.int a5)]) (by decide) rfl rfl dX4_hasGiven_53 ?_
      refine rb_iinc (ls' := [some (.ref h), some (.int a1), some (.int a2), some (.int (1 : Int32)), some (.int a4), some (.int (a5 + (1 : Int32)))]) (v := (a5 + (1 : Int32))) rfl rfl (by decide) rfl rfl dX4_hasGiven_54 ?_
      refine rb_goto 13 (by decide) dX4_hasGiven_57 ?_
      exact (((((K).2).2 c1)).1 c2)
    · skip
      refine rb_aload_n 0 rfl rfl (rb_isR_ref _) dX4_hasGiven_29 ?_
      refine mm_getA (t := 2) fl_X4_84 rfl (by decide) dX4_hasGiven_30 ?_
      refine rb_bipush (v := (48 : Int32)) (by decide) dX4_hasGiven_33 ?_
      refine rb_iload rfl dX4_hasGiven_35 ?_
      refine rb_imul (z := ((48 : Int32) * a4)) rfl dX4_hasGiven_37 ?_
      refine rb_iload rfl dX4_hasGiven_38 ?_
      refine rb_iadd (z := (((48 : Int32) * a4) + a5)) rfl dX4_hasGiven_40 ?_
      refine mm_iald (k := 29) (v := (ms.1 29 ((((48 : Int32) * a4) + a5)).toNatClampNeg)) rfl rfl ((((((K).2).2 c1)).2 c2)).1 dX4_hasGiven_41 ?_
      obtain ⟨x3, ms4, d5, h1, h2, Kx3⟩ := ((((((K).2).2 c1)).2 c2)).2
      refine mm_call st_X4_246 (rest := []) h1 rfl rfl mm_rn (Nat.le_of_ble_eq_true rfl) h2 dX4_hasGiven_42 ?_
      show rb_Bd κ mX4_hasGiven (0, 0) (mm_H h ms4 M0) 45 [some (.ref h), some (.int a1), some (.int a2), some (.int a3), some (.int a4), some (.int a5)] [.int x3]
      refine rb_ifeq 52 (by decide) dX4_hasGiven_45 (fun c6 => ?_) (fun c6 => ?_)
      · skip
        refine rb_iconst (v := (0 : Int32)) (by decide) dX4_hasGiven_52 ?_
        refine rb_istore_n 3 rfl (ls' := [some (.ref h), some (.int a1), some (.int a2), some (.int (0 : Int32)), some (.int a4), some (.int a5)]) (by decide) rfl rfl dX4_hasGiven_53 ?_
        refine rb_iinc (ls' := [some (.ref h), some (.int a1), some (.int a2), some (.int (0 : Int32)), some (.int a4), some (.int (a5 + (1 : Int32)))]) (v := (a5 + (1 : Int32))) rfl rfl (by decide) rfl rfl dX4_hasGiven_54 ?_
        refine rb_goto 13 (by decide) dX4_hasGiven_57 ?_
        exact ((Kx3).1 c6)
      · skip
        refine rb_iconst (v := (1 : Int32)) (by decide) dX4_hasGiven_48 ?_
        refine rb_goto 53 (by decide) dX4_hasGiven_49 ?_
        refine rb_istore_n 3 rfl (ls' := [some (.ref h), some (.int a1), some (.int a2), some (.int (1 : Int32)), some (.int a4), some (.int a5)]) (by decide) rfl rfl dX4_hasGiven_53 ?_
        refine rb_iinc (ls' := [some (.ref h), some (.int a1), some (.int a2), some (.int (1 : Int32)), some (.int a4), some (.int (a5 + (1 : Int32)))]) (v := (a5 + (1 : Int32))) rfl rfl (by decide) rfl rfl dX4_hasGiven_54 ?_
        refine rb_goto 13 (by decide) dX4_hasGiven_57 ?_
        exact ((Kx3).2 c6)
theorem sgX4_isGiven_0 {κ : rb_K} {M : rb_H} {a0 : Int32} (K : (((12 : Int32) ≤ (a0 - a0 / (25 : Int32) * (25 : Int32)) → (κ.2.2.1 (.returned (some (.int (0 : Int32)))) M)) ∧ ((a0 - a0 / (25 : Int32) * (25 : Int32)) < (12 : Int32) → (κ.2.2.1 (.returned (some (.int (1 : Int32)))) M)))) : rb_Bd κ mX4_isGiven (0, 0) M 0 [some (.int a0)] [] := by
  refine rb_iload_n 0 rfl rfl dX4_isGiven_0 ?_
  refine rb_bipush (v := (25 : Int32)) (by decide) dX4_isGiven_1 ?_
  refine rb_irem (z := (a0 - a0 / (25 : Int32) * (25 : Int32))) (by decide) rfl dX4_isGiven_3 ?_
  refine rb_bipush (v := (12 : Int32)) (by decide) dX4_isGiven_4 ?_
  refine rb_icge 13 (by decide) dX4_isGiven_6 (fun c1 => ?_) (fun c1 => ?_)
  · skip
    refine rb_iconst (v := (0 : Int32)) (by decide) dX4_isGiven_13 ?_
    exact rb_iret rfl (by decide) (Nat.zero_le _) (Nat.zero_le _) dX4_isGiven_14 ((K).1 c1)
  · skip
    refine rb_iconst (v := (1 : Int32)) (by decide) dX4_isGiven_9 ?_
    refine rb_goto 14 (by decide) dX4_isGiven_10 ?_
    exact rb_iret rfl (by decide) (Nat.zero_le _) (Nat.zero_le _) dX4_isGiven_14 ((K).2 c1)
theorem sgX4_chainPlace_0 {κ : rb_K} {M0 : rb_H} {h : Nat} {ms : mm_S} {a1 : Int32} {a2 : Int32} {a3 : Int32} (K : rb_Bd κ mX4_chainPlace (0, 0) (mm_H h ms M0) 11 [some (.ref h), some (.int a1), some (.int a2), some (.int a3), some (.int (((12 : Int32) * a1) + a3)), some (.int (0 : Int32))] []) : rb_Bd κ mX4_chainPlace (0, 0) (mm_H h ms M0) 0 [some (.ref h), some (.int a1), some (.int a2), some (.int a3), none, none] [] := by
  refine rb_bipush (v := (12 : Int32)) (by decide) dX4_chainPlace_0 ?_
  refine rb_iload_n 1 rfl rfl dX4_chainPlace_2 ?_
  refine rb_imul (z := ((12 : Int32) * a1)) rfl dX4_chainPlace_3 ?_
  refine rb_iload_n 3 rfl rfl dX4_chainPlace_4 ?_
  refine rb_iadd (z := (((12 : Int32) * a1) + a3)) rfl dX4_chainPlace_5 ?_
  refine rb_istore (ls' := [some (.ref h), some (.int a1), some (.int a2), some (.int a3), some (.int (((12 : Int32) * a1) + a3)), none]) (by decide) rfl rfl dX4_chainPlace_6 ?_
  refine rb_iconst (v := (0 : Int32)) (by decide) dX4_chainPlace_8 ?_
  refine rb_istore (ls' := [some (.ref h), some (.int a1), some (.int a2), some (.int a3), some (.int (((12 : Int32) * a1) + a3)), some (.int (0 : Int32))]) (by decide) rfl rfl dX4_chainPlace_9 ?_
  exact K
theorem sgX4_chainPlace_11 {κ : rb_K} {M0 : rb_H} {h : Nat} {ms : mm_S} {a1 : Int32} {a2 : Int32} {a3 : Int32} {a4 : Int32} {a5 : Int32} (K : (vp_in a4 (mm_l 28) ∧ (((ms.1 28 (a4).toNatClampNeg) ≤ a5 → (κ.2.2.1 (.returned (some (.int (-9 : Int32)))) (mm_H h ms M0))) ∧ (a5 < (ms.1 28 (a4).toNatClampNeg) → (vp_in (((48 : Int32) * a4) + a5) (mm_l 29) ∧ (∃ (x2 : Int32) (ms3 : mm_S) (d4 : Nat), mm_C κ.1 yX4_bodyOf wX4_bodyOf d4 h M0 ms [.int a2, .int (0 : Int32), .int a3] (some (.int x2)) ms3 ∧ rb_dp κ d4 ∧ ((¬ (ms.1 29 ((((48 : Int32) * a4) + a5)).toNatClampNeg) = x2 → rb_Bd κ mX4_chainPlace (0, 0) (mm_H h ms3 M0) 11 [some (.ref h), some (.int a1), some (.int a2), some (.int a3), some (.int a4), some (.int (a5 + (1 : Int32)))] []) ∧ ((ms.1 29 ((((48 : Int32) * a4) + a5)).toNatClampNeg) = x2 → (κ.2.2.1 (.returned (some (.int a5))) (mm_H h ms3 M0)))))))))) : rb_Bd κ mX4_chainPlace (0, 0) (mm_H h ms M0) 11 [some (.ref h), some (.int a1), some (.int a2), some (.int a3), some (.int a4), some (.int a5)] [] := by
  refine rb_iload rfl dX4_chainPlace_11 ?_
  refine rb_aload_n 0 rfl rfl (rb_isR_ref _) dX4_chainPlace_13 ?_
  refine mm_getA (t := 2) fl_X4_81 rfl (by decide) dX4_chainPlace_14 ?_
  refine rb_iload rfl dX4_chainPlace_17 ?_
  refine mm_iald (k := 28) (v := (ms.1 28 (a4).toNatClampNeg)) rfl rfl (K).1 dX4_chainPlace_19 ?_
  refine rb_icge 54 (by decide) dX4_chainPlace_20 (fun c1 => ?_) (fun c1 => ?_)
  · skip
    refine rb_bipush (v := (-9 : Int32)) (by decide) dX4_chainPlace_54 ?_
    exact rb_iret rfl rfl (Nat.zero_le _) (Nat.zero_le _) dX4_chainPlace_56 (((K).2).1 c1)
  · skip
    refine rb_aload_n 0 rfl rfl (rb_isR_ref _) dX4_chainPlace_23 ?_
    refine mm_getA (t := 2) fl_X4_84 rfl (by decide) dX4_chainPlace_24 ?_
    refine rb_bipush (v := (48 : Int32)) (by decide) dX4_chainPlace_27 ?_
    refine rb_iload rfl dX4_chainPlace_29 ?_
    refine rb_imul (z := ((48 : Int32) * a4)) rfl dX4_chainPlace_31 ?_
    refine rb_iload rfl dX4_chainPlace_32 ?_
    refine rb_iadd (z := (((48 : Int32) * a4) + a5)) rfl dX4_chainPlace_34 ?_
    refine mm_iald (k := 29) (v := (ms.1 29 ((((48 : Int32) * a4) + a5)).toNatClampNeg)) rfl rfl ((((K).2).2 c1)).1 dX4_chainPlace_35 ?_
    refine rb_iload_n 2 rfl rfl dX4_chainPlace_36 ?_
    refine rb_iconst (v := (0 : Int32)) (by decide) dX4_chainPlace_37 ?_
    refine rb_iload_n 3 rfl rfl dX4_chainPlace_38 ?_
    obtain ⟨x2, ms3, d4, h1, h2, Kx2⟩ := ((((K).2).2 c1)).2
    refine mm_call st_X4_209 (rest := [.int (ms.1 29 ((((48 : Int32) * a4) + a5)).toNatClampNeg)]) h1 rfl rfl mm_rn (Nat.le_of_ble_eq_true rfl) h2 dX4_chainPlace_39 ?_
    show rb_Bd κ mX4_chainPlace (0, 0) (mm_H h ms3 M0) 42 [some (.ref h), some (.int a1), some (.int a2), some (.int a3), some (.int a4), some (.int a5)] [.int x2, .int (ms.1 29 ((((48 : Int32) * a4) + a5)).toNatClampNeg)]
    refine rb_icne 48 (by decide) dX4_chainPlace_42 (fun c5 => ?_) (fun c5 => ?_)
    · skip
      refine rb_iinc (ls' := [some (.ref h), some (.int a1), some (.int a2), some (.int a3), some (.int a4), some (.int (a5 + (1 : Int32)))]) (v := (a5 + (1 : Int32))) rfl rfl (by decide) rfl rfl dX4_chainPlace_48 ?_
      refine rb_goto 11 (by decide) dX4_chainPlace_51 ?_
      exact ((Kx2).1 c5)
    · skip
      refine rb_iload rfl dX4_chainPlace_45 ?_
      exact rb_iret rfl rfl (Nat.zero_le _) (Nat.zero_le _) dX4_chainPlace_47 ((Kx2).2 c5)
theorem sgX4_ring_0 {κ : rb_K} {M0 : rb_H} {h : Nat} {ms : mm_S} {a1 : Int32} (K : (∃ (x1 : Int32) (ms2 : mm_S) (d3 : Nat), mm_C κ.1 yX4_in wX4_in d3 h M0 ms [.int a1, .int (0 : Int32), .int ((ms.1 34 0) - (1 : Int32))] (some (.int x1)) ms2 ∧ rb_dp κ d3 ∧ ((x1 = 0 → (κ.2.2.1 (.returned (some (.int (-9 : Int32)))) (mm_H h ms2 M0))) ∧ (¬ x1 = 0 → (vp_in a1 (mm_l 33) ∧ (κ.2.2.1 (.returned (some (.int (ms2.1 33 (a1).toNatClampNeg)))) (mm_H h ms2 M0))))))) : rb_Bd κ mX4_ring (0, 0) (mm_H h ms M0) 0 [some (.ref h), some (.int a1)] [] := by
  refine rb_iload_n 1 rfl rfl dX4_ring_0 ?_
  refine rb_iconst (v := (0 : Int32)) (by decide) dX4_ring_1 ?_
  refine rb_aload_n 0 rfl rfl (rb_isR_ref _) dX4_ring_2 ?_
  refine mm_getI (v := (ms.1 34 0)) rfl fl_X4_240 rfl dX4_ring_3 ?_
  refine rb_iconst (v := (1 : Int32)) (by decide) dX4_ring_6 ?_
  refine rb_isub (z := ((ms.1 34 0) - (1 : Int32))) rfl dX4_ring_7 ?_
  obtain ⟨x1, ms2, d3, h1, h2, Kx1⟩ := K
  refine mm_call st_X4_188 (rest := []) h1 rfl rfl mm_rn (Nat.le_of_ble_eq_true rfl) h2 dX4_ring_8 ?_
  show rb_Bd κ mX4_ring (0, 0) (mm_H h ms2 M0) 11 [some (.ref h), some (.int a1)] [.int x1]
  refine rb_ifeq 23 (by decide) dX4_ring_11 (fun c4 => ?_) (fun c4 => ?_)
  · skip
    refine rb_bipush (v := (-9 : Int32)) (by decide) dX4_ring_23 ?_
    exact rb_iret rfl rfl (Nat.zero_le _) (Nat.zero_le _) dX4_ring_25 ((Kx1).1 c4)
  · skip
    refine rb_aload_n 0 rfl rfl (rb_isR_ref _) dX4_ring_14 ?_
    refine mm_getA (t := 2) fl_X4_96 rfl (by decide) dX4_ring_15 ?_
    refine rb_iload_n 1 rfl rfl dX4_ring_18 ?_
    refine mm_iald (k := 33) (v := (ms2.1 33 (a1).toNatClampNeg)) rfl rfl (((Kx1).2 c4)).1 dX4_ring_19 ?_
    refine rb_goto 25 (by decide) dX4_ring_20 ?_
    exact rb_iret rfl rfl (Nat.zero_le _) (Nat.zero_le _) dX4_ring_25 (((Kx1).2 c4)).2
theorem sgX4_lacks_0 {κ : rb_K} {M0 : rb_H} {h : Nat} {ms : mm_S} {a1 : Int32} (K : ((¬ a1 = 0 → ((¬ a1 = (1 : Int32) → (κ.2.2.1 (.returned (some (.int (-1 : Int32)))) (mm_H h ms M0))) ∧ (a1 = (1 : Int32) → (κ.2.2.1 (.returned (some (.int (ms.1 36 0)))) (mm_H h ms M0))))) ∧ (a1 = 0 → (κ.2.2.1 (.returned (some (.int (ms.1 35 0)))) (mm_H h ms M0))))) : rb_Bd κ mX4_lacks (0, 0) (mm_H h ms M0) 0 [some (.ref h), some (.int a1)] [] := by
  refine rb_iload_n 1 rfl rfl dX4_lacks_0 ?_
  refine rb_ifne 11 (by decide) dX4_lacks_1 (fun c1 => ?_) (fun c1 => ?_)
  · skip
    refine rb_iload_n 1 rfl rfl dX4_lacks_11 ?_
    refine rb_iconst (v := (1 : Int32)) (by decide) dX4_lacks_12 ?_
    refine rb_icne 23 (by decide) dX4_lacks_13 (fun c2 => ?_) (fun c2 => ?_)
    · skip
      refine rb_iconst (v := (-1 : Int32)) (by decide) dX4_lacks_23 ?_
      exact rb_iret rfl rfl (Nat.zero_le _) (Nat.zero_le _) dX4_lacks_24 ((((K).1 c1)).1 c2)
    · skip
      refine rb_aload_n 0 rfl rfl (rb_isR_ref _) dX4_lacks_16 ?_
      refine mm_getI (v := (ms.1 36 0)) rfl fl_X4_102 rfl dX4_lacks_17 ?_
      refine rb_goto 24 (by decide) dX4_lacks_20 ?_
      exact rb_iret rfl rfl (Nat.zero_le _) (Nat.zero_le _) dX4_lacks_24 ((((K).1 c1)).2 c2)
  · skip
    refine rb_aload_n 0 rfl rfl (rb_isR_ref _) dX4_lacks_4 ?_
    refine mm_getI (v := (ms.1 35 0)) rfl fl_X4_99 rfl dX4_lacks_5 ?_
    refine rb_goto 24 (by decide) dX4_lacks_8 ?_
    exact rb_iret rfl rfl (Nat.zero_le _) (Nat.zero_le _) dX4_lacks_24 ((K).2 c1)
theorem sgX4_line_0 {κ : rb_K} {M0 : rb_H} {h : Nat} {ms : mm_S} {a1 : Int32} {a2 : Int32} (K : (∃ (x1 : Int32) (ms2 : mm_S) (d3 : Nat), mm_C κ.1 yX4_isRole wX4_isRole d3 h M0 ms [.ref h, .int a1] (some (.int x1)) ms2 ∧ rb_dp κ d3 ∧ ((¬ x1 = 0 → (vp_in a1 (mm_l 25) ∧ (∃ (x5 : Int32) (ms6 : mm_S) (d7 : Nat), mm_C κ.1 yX4_in wX4_in d7 h M0 ms2 [.int a2, .int (0 : Int32), .int ((ms2.1 25 (a1).toNatClampNeg) - (1 : Int32))] (some (.int x5)) ms6 ∧ rb_dp κ d7 ∧ ((x5 = 0 → (κ.2.2.1 (.returned (some (.int (-9 : Int32)))) (mm_H h ms6 M0))) ∧ (¬ x5 = 0 → (vp_in (((24 : Int32) * a1) + a2) (mm_l 26) ∧ (κ.2.2.1 (.returned (some (.int (ms6.1 26 ((((24 : Int32) * a1) + a2)).toNatClampNeg)))) (mm_H h ms6 M0)))))))) ∧ (x1 = 0 → (κ.2.2.1 (.returned (some (.int (-1 : Int32)))) (mm_H h ms2 M0)))))) : rb_Bd κ mX4_line (0, 0) (mm_H h ms M0) 0 [some (.ref h), some (.int a1), some (.int a2)] [] := by
  refine rb_aload_n 0 rfl rfl (rb_isR_ref _) dX4_line_0 ?_
  refine rb_iload_n 1 rfl rfl dX4_line_1 ?_
  obtain ⟨x1, ms2, d3, h1, h2, Kx1⟩ := K
  refine mm_call st_X4_269 (rest := []) h1 rfl rfl mm_rc (Nat.le_of_ble_eq_true rfl) h2 dX4_line_2 ?_
  show rb_Bd κ mX4_line (0, 0) (mm_H h ms2 M0) 5 [some (.ref h), some (.int a1), some (.int a2)] [.int x1]
  refine rb_ifne 12 (by decide) dX4_line_5 (fun c4 => ?_) (fun c4 => ?_)
  · skip
    refine rb_iload_n 2 rfl rfl dX4_line_12 ?_
    refine rb_iconst (v := (0 : Int32)) (by decide) dX4_line_13 ?_
    refine rb_aload_n 0 rfl rfl (rb_isR_ref _) dX4_line_14 ?_
    refine mm_getA (t := 2) fl_X4_72 rfl (by decide) dX4_line_15 ?_
    refine rb_iload_n 1 rfl rfl dX4_line_18 ?_
    refine mm_iald (k := 25) (v := (ms2.1 25 (a1).toNatClampNeg)) rfl rfl (((Kx1).1 c4)).1 dX4_line_19 ?_
    refine rb_iconst (v := (1 : Int32)) (by decide) dX4_line_20 ?_
    refine rb_isub (z := ((ms2.1 25 (a1).toNatClampNeg) - (1 : Int32))) rfl dX4_line_21 ?_
    obtain ⟨x5, ms6, d7, h1, h2, Kx5⟩ := (((Kx1).1 c4)).2
    refine mm_call st_X4_188 (rest := []) h1 rfl rfl mm_rn (Nat.le_of_ble_eq_true rfl) h2 dX4_line_22 ?_
    show rb_Bd κ mX4_line (0, 0) (mm_H h ms6 M0) 25 [some (.ref h), some (.int a1), some (.int a2)] [.int x5]
    refine rb_ifeq 42 (by decide) dX4_line_25 (fun c8 => ?_) (fun c8 => ?_)
    · skip
      refine rb_bipush (v := (-9 : Int32)) (by decide) dX4_line_42 ?_
      exact rb_iret rfl rfl (Nat.zero_le _) (Nat.zero_le _) dX4_line_44 ((Kx5).1 c8)
    · skip
      refine rb_aload_n 0 rfl rfl (rb_isR_ref _) dX4_line_28 ?_
      refine mm_getA (t := 2) fl_X4_75 rfl (by decide) dX4_line_29 ?_
      refine rb_bipush (v := (24 : Int32)) (by decide) dX4_line_32 ?_
      refine rb_iload_n 1 rfl rfl dX4_line_34 ?_
      refine rb_imul (z := ((24 : Int32) * a1)) rfl dX4_line_35 ?_
      refine rb_iload_n 2 rfl rfl dX4_line_36 ?_
      refine rb_iadd (z := (((24 : Int32) * a1) + a2)) rfl dX4_line_37 ?_
      refine mm_iald (k := 26) (v := (ms6.1 26 ((((24 : Int32) * a1) + a2)).toNatClampNeg)) rfl rfl (((Kx5).2 c8)).1 dX4_line_38 ?_
      refine rb_goto 44 (by decide) dX4_line_39 ?_
      exact rb_iret rfl rfl (Nat.zero_le _) (Nat.zero_le _) dX4_line_44 (((Kx5).2 c8)).2
  · skip
    refine rb_iconst (v := (-1 : Int32)) (by decide) dX4_line_8 ?_
    refine rb_goto 44 (by decide) dX4_line_9 ?_
    exact rb_iret rfl rfl (Nat.zero_le _) (Nat.zero_le _) dX4_line_44 ((Kx1).2 c4)
theorem sgX4_isRole_0 {κ : rb_K} {M0 : rb_H} {h : Nat} {ms : mm_S} {a1 : Int32} (K : (∃ (x1 : Int32) (ms2 : mm_S) (d3 : Nat), mm_C κ.1 yX4_in wX4_in d3 h M0 ms [.int a1, .int (0 : Int32), .int ((ms.1 24 0) - (1 : Int32))] (some (.int x1)) ms2 ∧ rb_dp κ d3 ∧ (narrow .boolean (.int x1) = .int x1 ∧ κ.2.2.1 (.returned (some (.int x1))) (mm_H h ms2 M0)))) : rb_Bd κ mX4_isRole (0, 0) (mm_H h ms M0) 0 [some (.ref h), some (.int a1)] [] := by
  refine rb_iload_n 1 rfl rfl dX4_isRole_0 ?_
  refine rb_iconst (v := (0 : Int32)) (by decide) dX4_isRole_1 ?_
  refine rb_aload_n 0 rfl rfl (rb_isR_ref _) dX4_isRole_2 ?_
  refine mm_getI (v := (ms.1 24 0)) rfl fl_X4_200 rfl dX4_isRole_3 ?_
  refine rb_iconst (v := (1 : Int32)) (by decide) dX4_isRole_6 ?_
  refine rb_isub (z := ((ms.1 24 0) - (1 : Int32))) rfl dX4_isRole_7 ?_
  obtain ⟨x1, ms2, d3, h1, h2, Kx1⟩ := K
  refine mm_call st_X4_188 (rest := []) h1 rfl rfl mm_rn (Nat.le_of_ble_eq_true rfl) h2 dX4_isRole_8 ?_
  show rb_Bd κ mX4_isRole (0, 0) (mm_H h ms2 M0) 11 [some (.ref h), some (.int a1)] [.int x1]
  exact rb_iret rfl (Kx1).1 (Nat.zero_le _) (Nat.zero_le _) dX4_isRole_11 (Kx1).2
theorem sgX4_chain_2_0 {κ : rb_K} {M0 : rb_H} {h : Nat} {ms : mm_S} {a1 : Int32} {a2 : Int32} {a3 : Int32} (K : (∃ (x1 : Int32) (ms2 : mm_S) (d3 : Nat), mm_C κ.1 yX4_isRole wX4_isRole d3 h M0 ms [.ref h, .int a1] (some (.int x1)) ms2 ∧ rb_dp κ d3 ∧ ((x1 = 0 → (κ.2.2.1 (.returned (some (.int (-1 : Int32)))) (mm_H h ms2 M0))) ∧ (¬ x1 = 0 → (∃ (x5 : Int32) (ms6 : mm_S) (d7 : Nat), mm_C κ.1 yX4_isMember wX4_isMember d7 h M0 ms2 [.int a2] (some (.int x5)) ms6 ∧ rb_dp κ d7 ∧ ((¬ x5 = 0 → (vp_in (((12 : Int32) * a1) + a2) (mm_l 28) ∧ (∃ (x9 : Int32) (ms10 : mm_S) (d11 : Nat), mm_C κ.1 yX4_in wX4_in d11 h M0 ms6 [.int a3, .int (0 : Int32), .int ((ms6.1 28 ((((12 : Int32) * a1) + a2)).toNatClampNeg) - (1 : Int32))] (some (.int x9)) ms10 ∧ rb_dp κ d11 ∧ ((¬ x9 = 0 → (vp_in (((48 : Int32) * (((12 : Int32) * a1) + a2)) + a3) (mm_l 29) ∧ (∃ (x13 : Int32) (ms14 : mm_S) (d15 : Nat), mm_C κ.1 yX4_isGiven wX4_isGiven d15 h M0 ms10 [.int (ms10.1 29 ((((48 : Int32) * (((12 : Int32) * a1) + a2)) + a3)).toNatClampNeg)] (some (.int x13)) ms14 ∧ rb_dp κ d15 ∧ ((x13 = 0 → (κ.2.2.1 (.returned (some (.int (((2 : Int32) * ((ms10.1 29 ((((48 : Int32) * (((12 : Int32) * a1) + a2)) + a3)).toNatClampNeg) / (25 : Int32))) + (1 : Int32))))) (mm_H h ms14 M0))) ∧ (¬ x13 = 0 → (κ.2.2.1 (.returned (some (.int (((2 : Int32) * ((ms10.1 29 ((((48 : Int32) * (((12 : Int32) * a1) + a2)) + a3)).toNatClampNeg) / (25 : Int32))) + (0 : Int32))))) (mm_H h ms14 M0))))))) ∧ (x9 = 0 → (κ.2.2.1 (.returned (some (.int (-9 : Int32)))) (mm_H h ms10 M0))))))) ∧ (x5 = 0 → (κ.2.2.1 (.returned (some (.int (-1 : Int32)))) (mm_H h ms6 M0))))))))) : rb_Bd κ mX4_chain_2 (0, 0) (mm_H h ms M0) 0 [some (.ref h), some (.int a1), some (.int a2), some (.int a3), none, none] [] := by
  refine rb_aload_n 0 rfl rfl (rb_isR_ref _) dX4_chain_2_0 ?_
  refine rb_iload_n 1 rfl rfl dX4_chain_2_1 ?_
  obtain ⟨x1, ms2, d3, h1, h2, Kx1⟩ := K
  refine mm_call st_X4_269 (rest := []) h1 rfl rfl mm_rc (Nat.le_of_ble_eq_true rfl) h2 dX4_chain_2_2 ?_
  show rb_Bd κ mX4_chain_2 (0, 0) (mm_H h ms2 M0) 5 [some (.ref h), some (.int a1), some (.int a2), some (.int a3), none, none] [.int x1]
  refine rb_ifeq 15 (by decide) dX4_chain_2_5 (fun c4 => ?_) (fun c4 => ?_)
  · skip
    refine rb_iconst (v := (-1 : Int32)) (by decide) dX4_chain_2_15 ?_
    exact rb_iret rfl rfl (Nat.zero_le _) (Nat.zero_le _) dX4_chain_2_16 ((Kx1).1 c4)
  · skip
    refine rb_iload_n 2 rfl rfl dX4_chain_2_8 ?_
    obtain ⟨x5, ms6, d7, h1, h2, Kx5⟩ := ((Kx1).2 c4)
    refine mm_call st_X4_206 (rest := []) h1 rfl rfl mm_rn (Nat.le_of_ble_eq_true rfl) h2 dX4_chain_2_9 ?_
    show rb_Bd κ mX4_chain_2 (0, 0) (mm_H h ms6 M0) 12 [some (.ref h), some (.int a1), some (.int a2), some (.int a3), none, none] [.int x5]
    refine rb_ifne 17 (by decide) dX4_chain_2_12 (fun c8 => ?_) (fun c8 => ?_)
    · skip
      refine rb_bipush (v := (12 : Int32)) (by decide) dX4_chain_2_17 ?_
      refine rb_iload_n 1 rfl rfl dX4_chain_2_19 ?_
      refine rb_imul (z := ((12 : Int32) * a1)) rfl dX4_chain_2_20 ?_
      refine rb_iload_n 2 rfl rfl dX4_chain_2_21 ?_
      refine rb_iadd (z := (((12 : Int32) * a1) + a2)) rfl dX4_chain_2_22 ?_
      refine rb_istore (ls' := [some (.ref h), some (.int a1), some (.int a2), some (.int a3), some (.int (((12 : Int32) * a1) + a2)), none]) (by decide) rfl rfl dX4_chain_2_23 ?_
      refine rb_iload_n 3 rfl rfl dX4_chain_2_25 ?_
      refine rb_iconst (v := (0 : Int32)) (by decide) dX4_chain_2_26 ?_
      refine rb_aload_n 0 rfl rfl (rb_isR_ref _) dX4_chain_2_27 ?_
      refine mm_getA (t := 2) fl_X4_81 rfl (by decide) dX4_chain_2_28 ?_
      refine rb_iload rfl dX4_chain_2_31 ?_
      refine mm_iald (k := 28) (v := (ms6.1 28 ((((12 : Int32) * a1) + a2)).toNatClampNeg)) rfl rfl (((Kx5).1 c8)).1 dX4_chain_2_33 ?_
      refine rb_iconst (v := (1 : Int32)) (by decide) dX4_chain_2_34 ?_
      refine rb_isub (z := ((ms6.1 28 ((((12 : Int32) * a1) + a2)).toNatClampNeg) - (1 : Int32))) rfl dX4_chain_2_35 ?_
      obtain ⟨x9, ms10, d11, h1, h2, Kx9⟩ := (((Kx5).1 c8)).2
      refine mm_call st_X4_188 (rest := []) h1 rfl rfl mm_rn (Nat.le_of_ble_eq_true rfl) h2 dX4_chain_2_36 ?_
      show rb_Bd κ mX4_chain_2 (0, 0) (mm_H h ms10 M0) 39 [some (.ref h), some (.int a1), some (.int a2), some (.int a3), some (.int (((12 : Int32) * a1) + a2)), none] [.int x9]
      refine rb_ifne 45 (by decide) dX4_chain_2_39 (fun c12 => ?_) (fun c12 => ?_)
      · skip
        refine rb_aload_n 0 rfl rfl (rb_isR_ref _) dX4_chain_2_45 ?_
        refine mm_getA (t := 2) fl_X4_84 rfl (by decide) dX4_chain_2_46 ?_
        refine rb_bipush (v := (48 : Int32)) (by decide) dX4_chain_2_49 ?_
        refine rb_iload rfl dX4_chain_2_51 ?_
        refine rb_imul (z := ((48 : Int32) * (((12 : Int32) * a1) + a2))) rfl dX4_chain_2_53 ?_
        refine rb_iload_n 3 rfl rfl dX4_chain_2_54 ?_
        refine rb_iadd (z := (((48 : Int32) * (((12 : Int32) * a1) + a2)) + a3)) rfl dX4_chain_2_55 ?_
        refine mm_iald (k := 29) (v := (ms10.1 29 ((((48 : Int32) * (((12 : Int32) * a1) + a2)) + a3)).toNatClampNeg)) rfl rfl (((Kx9).1 c12)).1 dX4_chain_2_56 ?_
        refine rb_istore (ls' := [some (.ref h), some (.int a1), some (.int a2), some (.int a3), some (.int (((12 : Int32) * a1) + a2)), some (.int (ms10.1 29 ((((48 : Int32) * (((12 : Int32) * a1) + a2)) + a3)).toNatClampNeg))]) (by decide) rfl rfl dX4_chain_2_57 ?_
        refine rb_iconst (v := (2 : Int32)) (by decide) dX4_chain_2_59 ?_
        refine rb_iload rfl dX4_chain_2_60 ?_
        refine rb_bipush (v := (25 : Int32)) (by decide) dX4_chain_2_62 ?_
        refine rb_idiv (z := ((ms10.1 29 ((((48 : Int32) * (((12 : Int32) * a1) + a2)) + a3)).toNatClampNeg) / (25 : Int32))) (by decide) rfl dX4_chain_2_64 ?_
        refine rb_imul (z := ((2 : Int32) * ((ms10.1 29 ((((48 : Int32) * (((12 : Int32) * a1) + a2)) + a3)).toNatClampNeg) / (25 : Int32)))) rfl dX4_chain_2_65 ?_
        refine rb_iload rfl dX4_chain_2_66 ?_
        obtain ⟨x13, ms14, d15, h1, h2, Kx13⟩ := (((Kx9).1 c12)).2
        refine mm_call st_X4_246 (rest := [.int ((2 : Int32) * ((ms10.1 29 ((((48 : Int32) * (((12 : Int32) * a1) + a2)) + a3)).toNatClampNeg) / (25 : Int32)))]) h1 rfl rfl mm_rn (Nat.le_of_ble_eq_true rfl) h2 dX4_chain_2_68 ?_
        show rb_Bd κ mX4_chain_2 (0, 0) (mm_H h ms14 M0) 71 [some (.ref h), some (.int a1), some (.int a2), some (.int a3), some (.int (((12 : Int32) * a1) + a2)), some (.int (ms10.1 29 ((((48 : Int32) * (((12 : Int32) * a1) + a2)) + a3)).toNatClampNeg))] [.int x13, .int ((2 : Int32) * ((ms10.1 29 ((((48 : Int32) * (((12 : Int32) * a1) + a2)) + a3)).toNatClampNeg) / (25 : Int32)))]
        refine rb_ifeq 78 (by decide) dX4_chain_2_71 (fun c16 => ?_) (fun c16 => ?_)
        · skip
          refine rb_iconst (v := (1 : Int32)) (by decide) dX4_chain_2_78 ?_
          refine rb_iadd (z := (((2 : Int32) * ((ms10.1 29 ((((48 : Int32) * (((12 : Int32) * a1) + a2)) + a3)).toNatClampNeg) / (25 : Int32))) + (1 : Int32))) rfl dX4_chain_2_79 ?_
          exact rb_iret rfl rfl (Nat.zero_le _) (Nat.zero_le _) dX4_chain_2_80 ((Kx13).1 c16)
        · skip
          refine rb_iconst (v := (0 : Int32)) (by decide) dX4_chain_2_74 ?_
          refine rb_goto 79 (by decide) dX4_chain_2_75 ?_
          refine rb_iadd (z := (((2 : Int32) * ((ms10.1 29 ((((48 : Int32) * (((12 : Int32) * a1) + a2)) + a3)).toNatClampNeg) / (25 : Int32))) + (0 : Int32))) rfl dX4_chain_2_79 ?_
          exact rb_iret rfl rfl (Nat.zero_le _) (Nat.zero_le _) dX4_chain_2_80 ((Kx13).2 c16)
      · skip
        refine rb_bipush (v := (-9 : Int32)) (by decide) dX4_chain_2_42 ?_
        exact rb_iret rfl rfl (Nat.zero_le _) (Nat.zero_le _) dX4_chain_2_44 ((Kx9).2 c12)
    · skip
      refine rb_iconst (v := (-1 : Int32)) (by decide) dX4_chain_2_15 ?_
      exact rb_iret rfl rfl (Nat.zero_le _) (Nat.zero_le _) dX4_chain_2_16 ((Kx5).2 c8)
theorem sgX4_under_0 {κ : rb_K} {M0 : rb_H} {h : Nat} {ms : mm_S} {a1 : Int32} {a2 : Int32} (K : (∃ (x1 : Int32) (ms2 : mm_S) (d3 : Nat), mm_C κ.1 yX4_isRole wX4_isRole d3 h M0 ms [.ref h, .int a1] (some (.int x1)) ms2 ∧ rb_dp κ d3 ∧ ((x1 = 0 → (κ.2.2.1 (.returned (some (.int (-1 : Int32)))) (mm_H h ms2 M0))) ∧ (¬ x1 = 0 → (∃ (x5 : Int32) (ms6 : mm_S) (d7 : Nat), mm_C κ.1 yX4_isRole wX4_isRole d7 h M0 ms2 [.ref h, .int a2] (some (.int x5)) ms6 ∧ rb_dp κ d7 ∧ ((¬ x5 = 0 → (∃ (x9 : Int32) (ms10 : mm_S) (d11 : Nat), mm_C κ.1 yX4_isUnder wX4_isUnder d11 h M0 ms6 [.ref h, .int a1, .int a2] (some (.int x9)) ms10 ∧ rb_dp κ d11 ∧ ((x9 = 0 → (κ.2.2.1 (.returned (some (.int (0 : Int32)))) (mm_H h ms10 M0))) ∧ (¬ x9 = 0 → (κ.2.2.1 (.returned (some (.int (1 : Int32)))) (mm_H h ms10 M0)))))) ∧ (x5 = 0 → (κ.2.2.1 (.returned (some (.int (-1 : Int32)))) (mm_H h ms6 M0))))))))) : rb_Bd κ mX4_under (0, 0) (mm_H h ms M0) 0 [some (.ref h), some (.int a1), some (.int a2)] [] := by
  refine rb_aload_n 0 rfl rfl (rb_isR_ref _) dX4_under_0 ?_
  refine rb_iload_n 1 rfl rfl dX4_under_1 ?_
  obtain ⟨x1, ms2, d3, h1, h2, Kx1⟩ := K
  refine mm_call st_X4_269 (rest := []) h1 rfl rfl mm_rc (Nat.le_of_ble_eq_true rfl) h2 dX4_under_2 ?_
  show rb_Bd κ mX4_under (0, 0) (mm_H h ms2 M0) 5 [some (.ref h), some (.int a1), some (.int a2)] [.int x1]
  refine rb_ifeq 16 (by decide) dX4_under_5 (fun c4 => ?_) (fun c4 => ?_)
  · skip
    refine rb_iconst (v := (-1 : Int32)) (by decide) dX4_under_16 ?_
    refine rb_goto 34 (by decide) dX4_under_17 ?_
    exact rb_iret rfl rfl (Nat.zero_le _) (Nat.zero_le _) dX4_under_34 ((Kx1).1 c4)
  · skip
    refine rb_aload_n 0 rfl rfl (rb_isR_ref _) dX4_under_8 ?_
    refine rb_iload_n 2 rfl rfl dX4_under_9 ?_
    obtain ⟨x5, ms6, d7, h1, h2, Kx5⟩ := ((Kx1).2 c4)
    refine mm_call st_X4_269 (rest := []) h1 rfl rfl mm_rc (Nat.le_of_ble_eq_true rfl) h2 dX4_under_10 ?_
    show rb_Bd κ mX4_under (0, 0) (mm_H h ms6 M0) 13 [some (.ref h), some (.int a1), some (.int a2)] [.int x5]
    refine rb_ifne 20 (by decide) dX4_under_13 (fun c8 => ?_) (fun c8 => ?_)
    · skip
      refine rb_aload_n 0 rfl rfl (rb_isR_ref _) dX4_under_20 ?_
      refine rb_iload_n 1 rfl rfl dX4_under_21 ?_
      refine rb_iload_n 2 rfl rfl dX4_under_22 ?_
      obtain ⟨x9, ms10, d11, h1, h2, Kx9⟩ := ((Kx5).1 c8)
      refine mm_call st_X4_275 (rest := []) h1 rfl rfl mm_rc (Nat.le_of_ble_eq_true rfl) h2 dX4_under_23 ?_
      show rb_Bd κ mX4_under (0, 0) (mm_H h ms10 M0) 26 [some (.ref h), some (.int a1), some (.int a2)] [.int x9]
      refine rb_ifeq 33 (by decide) dX4_under_26 (fun c12 => ?_) (fun c12 => ?_)
      · skip
        refine rb_iconst (v := (0 : Int32)) (by decide) dX4_under_33 ?_
        exact rb_iret rfl rfl (Nat.zero_le _) (Nat.zero_le _) dX4_under_34 ((Kx9).1 c12)
      · skip
        refine rb_iconst (v := (1 : Int32)) (by decide) dX4_under_29 ?_
        refine rb_goto 34 (by decide) dX4_under_30 ?_
        exact rb_iret rfl rfl (Nat.zero_le _) (Nat.zero_le _) dX4_under_34 ((Kx9).2 c12)
    · skip
      refine rb_iconst (v := (-1 : Int32)) (by decide) dX4_under_16 ?_
      refine rb_goto 34 (by decide) dX4_under_17 ?_
      exact rb_iret rfl rfl (Nat.zero_le _) (Nat.zero_le _) dX4_under_34 ((Kx5).2 c8)
theorem sgX4_isUnder_0 {κ : rb_K} {M0 : rb_H} {h : Nat} {ms : mm_S} {a1 : Int32} {a2 : Int32} (K : (vp_in a2 (mm_l 25) ∧ (∃ (x1 : Int32) (ms2 : mm_S) (d3 : Nat), mm_C κ.1 yX4_areAlike wX4_areAlike d3 h M0 ms [.ref h, .int a1, .int a2, .int (ms.1 25 (a2).toNatClampNeg)] (some (.int x1)) ms2 ∧ rb_dp κ d3 ∧ (narrow .boolean (.int x1) = .int x1 ∧ κ.2.2.1 (.returned (some (.int x1))) (mm_H h ms2 M0))))) : rb_Bd κ mX4_isUnder (0, 0) (mm_H h ms M0) 0 [some (.ref h), some (.int a1), some (.int a2)] [] := by
  refine rb_aload_n 0 rfl rfl (rb_isR_ref _) dX4_isUnder_0 ?_
  refine rb_iload_n 1 rfl rfl dX4_isUnder_1 ?_
  refine rb_iload_n 2 rfl rfl dX4_isUnder_2 ?_
  refine rb_aload_n 0 rfl rfl (rb_isR_ref _) dX4_isUnder_3 ?_
  refine mm_getA (t := 2) fl_X4_72 rfl (by decide) dX4_isUnder_4 ?_
  refine rb_iload_n 2 rfl rfl dX4_isUnder_7 ?_
  refine mm_iald (k := 25) (v := (ms.1 25 (a2).toNatClampNeg)) rfl rfl (K).1 dX4_isUnder_8 ?_
  obtain ⟨x1, ms2, d3, h1, h2, Kx1⟩ := (K).2
  refine mm_call st_X4_272 (rest := []) h1 rfl rfl mm_rc (Nat.le_of_ble_eq_true rfl) h2 dX4_isUnder_9 ?_
  show rb_Bd κ mX4_isUnder (0, 0) (mm_H h ms2 M0) 12 [some (.ref h), some (.int a1), some (.int a2)] [.int x1]
  exact rb_iret rfl (Kx1).1 (Nat.zero_le _) (Nat.zero_le _) dX4_isUnder_12 (Kx1).2
theorem sgX4_areAlike_0 {κ : rb_K} {M0 : rb_H} {h : Nat} {ms : mm_S} {a1 : Int32} {a2 : Int32} {a3 : Int32} (K : (vp_in a1 (mm_l 25) ∧ (((ms.1 25 (a1).toNatClampNeg) < a3 → rb_Bd κ mX4_areAlike (0, 0) (mm_H h ms M0) 30 [some (.ref h), some (.int a1), some (.int a2), some (.int a3), some (.int (0 : Int32)), some (.int (0 : Int32))] []) ∧ (a3 ≤ (ms.1 25 (a1).toNatClampNeg) → (vp_in a2 (mm_l 25) ∧ (((ms.1 25 (a2).toNatClampNeg) < a3 → rb_Bd κ mX4_areAlike (0, 0) (mm_H h ms M0) 30 [some (.ref h), some (.int a1), some (.int a2), some (.int a3), some (.int (0 : Int32)), some (.int (0 : Int32))] []) ∧ (a3 ≤ (ms.1 25 (a2).toNatClampNeg) → rb_Bd κ mX4_areAlike (0, 0) (mm_H h ms M0) 30 [some (.ref h), some (.int a1), some (.int a2), some (.int a3), some (.int (1 : Int32)), some (.int (0 : Int32))] []))))))) : rb_Bd κ mX4_areAlike (0, 0) (mm_H h ms M0) 0 [some (.ref h), some (.int a1), some (.int a2), some (.int a3), none, none] [] := by
  refine rb_aload_n 0 rfl rfl (rb_isR_ref _) dX4_areAlike_0 ?_
  refine mm_getA (t := 2) fl_X4_72 rfl (by decide) dX4_areAlike_1 ?_
  refine rb_iload_n 1 rfl rfl dX4_areAlike_4 ?_
  refine mm_iald (k := 25) (v := (ms.1 25 (a1).toNatClampNeg)) rfl rfl (K).1 dX4_areAlike_5 ?_
  refine rb_iload_n 3 rfl rfl dX4_areAlike_6 ?_
  refine rb_iclt 24 (by decide) dX4_areAlike_7 (fun c1 => ?_) (fun c1 => ?_)
  · skip
    refine rb_iconst (v := (0 : Int32)) (by decide) dX4_areAlike_24 ?_
    refine rb_istore (ls' := [some (.ref h), some (.int a1), some (.int a2), some (.int a3), some (.int (0 : Int32)), none]) (by decide) rfl rfl dX4_areAlike_25 ?_
    refine rb_iconst (v := (0 : Int32)) (by decide) dX4_areAlike_27 ?_
    refine rb_istore (ls' := [some (.ref h), some (.int a1), some (.int a2), some (.int a3), some (.int (0 : Int32)), some (.int (0 : Int32))]) (by decide) rfl rfl dX4_areAlike_28 ?_
    exact (((K).2).1 c1)
  · skip
    refine rb_aload_n 0 rfl rfl (rb_isR_ref _) dX4_areAlike_10 ?_
    refine mm_getA (t := 2) fl_X4_72 rfl (by decide) dX4_areAlike_11 ?_
    refine rb_iload_n 2 rfl rfl dX4_areAlike_14 ?_
    refine mm_iald (k := 25) (v := (ms.1 25 (a2).toNatClampNeg)) rfl rfl ((((K).2).2 c1)).1 dX4_areAlike_15 ?_
    refine rb_iload_n 3 rfl rfl dX4_areAlike_16 ?_
    refine rb_iclt 24 (by decide) dX4_areAlike_17 (fun c2 => ?_) (fun c2 => ?_)
    · skip
      refine rb_iconst (v := (0 : Int32)) (by decide) dX4_areAlike_24 ?_
      refine rb_istore (ls' := [some (.ref h), some (.int a1), some (.int a2), some (.int a3), some (.int (0 : Int32)), none]) (by decide) rfl rfl dX4_areAlike_25 ?_
      refine rb_iconst (v := (0 : Int32)) (by decide) dX4_areAlike_27 ?_
      refine rb_istore (ls' := [some (.ref h), some (.int a1), some (.int a2), some (.int a3), some (.int (0 : Int32)), some (.int (0 : Int32))]) (by decide) rfl rfl dX4_areAlike_28 ?_
      exact ((((((K).2).2 c1)).2).1 c2)
    · skip
      refine rb_iconst (v := (1 : Int32)) (by decide) dX4_areAlike_20 ?_
      refine rb_goto 25 (by decide) dX4_areAlike_21 ?_
      refine rb_istore (ls' := [some (.ref h), some (.int a1), some (.int a2), some (.int a3), some (.int (1 : Int32)), none]) (by decide) rfl rfl dX4_areAlike_25 ?_
      refine rb_iconst (v := (0 : Int32)) (by decide) dX4_areAlike_27 ?_
      refine rb_istore (ls' := [some (.ref h), some (.int a1), some (.int a2), some (.int a3), some (.int (1 : Int32)), some (.int (0 : Int32))]) (by decide) rfl rfl dX4_areAlike_28 ?_
      exact ((((((K).2).2 c1)).2).2 c2)
theorem sgX4_areAlike_30 {κ : rb_K} {M0 : rb_H} {h : Nat} {ms : mm_S} {a1 : Int32} {a2 : Int32} {a3 : Int32} {a4 : Int32} {a5 : Int32} (K : ((a3 ≤ a5 → (narrow .boolean (.int a4) = .int a4 ∧ κ.2.2.1 (.returned (some (.int a4))) (mm_H h ms M0))) ∧ (a5 < a3 → ((a4 = 0 → (narrow .boolean (.int a4) = .int a4 ∧ κ.2.2.1 (.returned (some (.int a4))) (mm_H h ms M0))) ∧ (¬ a4 = 0 → (vp_in (((24 : Int32) * a1) + a5) (mm_l 26) ∧ (vp_in (((24 : Int32) * a2) + a5) (mm_l 26) ∧ ((¬ (ms.1 26 ((((24 : Int32) * a1) + a5)).toNatClampNeg) = (ms.1 26 ((((24 : Int32) * a2) + a5)).toNatClampNeg) → rb_Bd κ mX4_areAlike (0, 0) (mm_H h ms M0) 30 [some (.ref h), some (.int a1), some (.int a2), some (.int a3), some (.int (0 : Int32)), some (.int (a5 + (1 : Int32)))] []) ∧ ((ms.1 26 ((((24 : Int32) * a1) + a5)).toNatClampNeg) = (ms.1 26 ((((24 : Int32) * a2) + a5)).toNatClampNeg) → rb_Bd κ mX4_areAlike (0, 0) (mm_H h ms M0) 30 [some (.ref h), some (.int a1), some (.int a2), some (.int a3), some (.int (1 : Int32)), some (.int (a5 + (1 : Int32)))] []))))))))) : rb_Bd κ mX4_areAlike (0, 0) (mm_H h ms M0) 30 [some (.ref h), some (.int a1), some (.int a2), some (.int a3), some (.int a4), some (.int a5)] [] := by
  refine rb_iload rfl dX4_areAlike_30 ?_
  refine rb_iload_n 3 rfl rfl dX4_areAlike_32 ?_
  refine rb_icge 81 (by decide) dX4_areAlike_33 (fun c1 => ?_) (fun c1 => ?_)
  · skip
    refine rb_iload rfl dX4_areAlike_81 ?_
    exact rb_iret rfl (((K).1 c1)).1 (Nat.zero_le _) (Nat.zero_le _) dX4_areAlike_83 (((K).1 c1)).2
  · skip
    refine rb_iload rfl dX4_areAlike_36 ?_
    refine rb_ifeq 81 (by decide) dX4_areAlike_38 (fun c2 => ?_) (fun c2 => ?_)
    · skip
      refine rb_iload rfl dX4_areAlike_81 ?_
      exact rb_iret rfl (((((K).2 c1)).1 c2)).1 (Nat.zero_le _) (Nat.zero_le _) dX4_areAlike_83 (((((K).2 c1)).1 c2)).2
    · skip
      refine rb_aload_n 0 rfl rfl (rb_isR_ref _) dX4_areAlike_41 ?_
      refine mm_getA (t := 2) fl_X4_75 rfl (by decide) dX4_areAlike_42 ?_
      refine rb_bipush (v := (24 : Int32)) (by decide) dX4_areAlike_45 ?_
      refine rb_iload_n 1 rfl rfl dX4_areAlike_47 ?_
      refine rb_imul (z := ((24 : Int32) * a1)) rfl dX4_areAlike_48 ?_
      refine rb_iload rfl dX4_areAlike_49 ?_
      refine rb_iadd (z := (((24 : Int32) * a1) + a5)) rfl dX4_areAlike_51 ?_
      refine mm_iald (k := 26) (v := (ms.1 26 ((((24 : Int32) * a1) + a5)).toNatClampNeg)) rfl rfl (((((K).2 c1)).2 c2)).1 dX4_areAlike_52 ?_
      refine rb_aload_n 0 rfl rfl (rb_isR_ref _) dX4_areAlike_53 ?_
      refine mm_getA (t := 2) fl_X4_75 rfl (by decide) dX4_areAlike_54 ?_
      refine rb_bipush (v := (24 : Int32)) (by decide) dX4_areAlike_57 ?_
      refine rb_iload_n 2 rfl rfl dX4_areAlike_59 ?_
      refine rb_imul (z := ((24 : Int32) * a2)) rfl dX4_areAlike_60 ?_
      refine rb_iload rfl dX4_areAlike_61 ?_
      refine rb_iadd (z := (((24 : Int32) * a2) + a5)) rfl dX4_areAlike_63 ?_
      refine mm_iald (k := 26) (v := (ms.1 26 ((((24 : Int32) * a2) + a5)).toNatClampNeg)) rfl rfl ((((((K).2 c1)).2 c2)).2).1 dX4_areAlike_64 ?_
      refine rb_icne 72 (by decide) dX4_areAlike_65 (fun c3 => ?_) (fun c3 => ?_)
      · skip
        refine rb_iconst (v := (0 : Int32)) (by decide) dX4_areAlike_72 ?_
        refine rb_istore (ls' := [some (.ref h), some (.int a1), some (.int a2), some (.int a3), some (.int (0 : Int32)), some (.int a5)]) (by decide) rfl rfl dX4_areAlike_73 ?_
        refine rb_iinc (ls' := [some (.ref h), some (.int a1), some (.int a2), some (.int a3), some (.int (0 : Int32)), some (.int (a5 + (1 : Int32)))]) (v := (a5 + (1 : Int32))) rfl rfl (by decide) rfl rfl dX4_areAlike_75 ?_
        refine rb_goto 30 (by decide) dX4_areAlike_78 ?_
        exact ((((((((K).2 c1)).2 c2)).2).2).1 c3)
      · skip
        refine rb_iconst (v := (1 : Int32)) (by decide) dX4_areAlike_68 ?_
        refine rb_goto 73 (by decide) dX4_areAlike_69 ?_
        refine rb_istore (ls' := [some (.ref h), some (.int a1), some (.int a2), some (.int a3), some (.int (1 : Int32)), some (.int a5)]) (by decide) rfl rfl dX4_areAlike_73 ?_
        refine rb_iinc (ls' := [some (.ref h), some (.int a1), some (.int a2), some (.int a3), some (.int (1 : Int32)), some (.int (a5 + (1 : Int32)))]) (v := (a5 + (1 : Int32))) rfl rfl (by decide) rfl rfl dX4_areAlike_75 ?_
        refine rb_goto 30 (by decide) dX4_areAlike_78 ?_
        exact ((((((((K).2 c1)).2 c2)).2).2).2 c3)
theorem sgX4_step_0 {κ : rb_K} {M0 : rb_H} {h : Nat} {ms : mm_S} {a1 : Int32} {a2 : Int32} (K : (∃ (x1 : Int32) (ms2 : mm_S) (d3 : Nat), mm_C κ.1 yX4_isRole wX4_isRole d3 h M0 ms [.ref h, .int a1] (some (.int x1)) ms2 ∧ rb_dp κ d3 ∧ ((¬ x1 = 0 → (vp_in a1 (mm_l 25) ∧ (∃ (x5 : Int32) (ms6 : mm_S) (d7 : Nat), mm_C κ.1 yX4_in wX4_in d7 h M0 ms2 [.int a2, .int (0 : Int32), .int ((ms2.1 25 (a1).toNatClampNeg) - (1 : Int32))] (some (.int x5)) ms6 ∧ rb_dp κ d7 ∧ ((x5 = 0 → (κ.2.2.1 (.returned (some (.int (-9 : Int32)))) (mm_H h ms6 M0))) ∧ (¬ x5 = 0 → (∃ (x9 : Int32) (ms10 : mm_S) (d11 : Nat), mm_C κ.1 yX4_stepOf wX4_stepOf d11 h M0 ms6 [.ref h, .int a1, .int a2] (some (.int x9)) ms10 ∧ rb_dp κ d11 ∧ (κ.2.2.1 (.returned (some (.int x9))) (mm_H h ms10 M0)))))))) ∧ (x1 = 0 → (κ.2.2.1 (.returned (some (.int (-1 : Int32)))) (mm_H h ms2 M0)))))) : rb_Bd κ mX4_step (0, 0) (mm_H h ms M0) 0 [some (.ref h), some (.int a1), some (.int a2)] [] := by
  refine rb_aload_n 0 rfl rfl (rb_isR_ref _) dX4_step_0 ?_
  refine rb_iload_n 1 rfl rfl dX4_step_1 ?_
  obtain ⟨x1, ms2, d3, h1, h2, Kx1⟩ := K
  refine mm_call st_X4_269 (rest := []) h1 rfl rfl mm_rc (Nat.le_of_ble_eq_true rfl) h2 dX4_step_2 ?_
  show rb_Bd κ mX4_step (0, 0) (mm_H h ms2 M0) 5 [some (.ref h), some (.int a1), some (.int a2)] [.int x1]
  refine rb_ifne 12 (by decide) dX4_step_5 (fun c4 => ?_) (fun c4 => ?_)
  · skip
    refine rb_iload_n 2 rfl rfl dX4_step_12 ?_
    refine rb_iconst (v := (0 : Int32)) (by decide) dX4_step_13 ?_
    refine rb_aload_n 0 rfl rfl (rb_isR_ref _) dX4_step_14 ?_
    refine mm_getA (t := 2) fl_X4_72 rfl (by decide) dX4_step_15 ?_
    refine rb_iload_n 1 rfl rfl dX4_step_18 ?_
    refine mm_iald (k := 25) (v := (ms2.1 25 (a1).toNatClampNeg)) rfl rfl (((Kx1).1 c4)).1 dX4_step_19 ?_
    refine rb_iconst (v := (1 : Int32)) (by decide) dX4_step_20 ?_
    refine rb_isub (z := ((ms2.1 25 (a1).toNatClampNeg) - (1 : Int32))) rfl dX4_step_21 ?_
    obtain ⟨x5, ms6, d7, h1, h2, Kx5⟩ := (((Kx1).1 c4)).2
    refine mm_call st_X4_188 (rest := []) h1 rfl rfl mm_rn (Nat.le_of_ble_eq_true rfl) h2 dX4_step_22 ?_
    show rb_Bd κ mX4_step (0, 0) (mm_H h ms6 M0) 25 [some (.ref h), some (.int a1), some (.int a2)] [.int x5]
    refine rb_ifeq 37 (by decide) dX4_step_25 (fun c8 => ?_) (fun c8 => ?_)
    · skip
      refine rb_bipush (v := (-9 : Int32)) (by decide) dX4_step_37 ?_
      exact rb_iret rfl rfl (Nat.zero_le _) (Nat.zero_le _) dX4_step_39 ((Kx5).1 c8)
    · skip
      refine rb_aload_n 0 rfl rfl (rb_isR_ref _) dX4_step_28 ?_
      refine rb_iload_n 1 rfl rfl dX4_step_29 ?_
      refine rb_iload_n 2 rfl rfl dX4_step_30 ?_
      obtain ⟨x9, ms10, d11, h1, h2, Kx9⟩ := ((Kx5).2 c8)
      refine mm_call st_X4_278 (rest := []) h1 rfl rfl mm_rc (Nat.le_of_ble_eq_true rfl) h2 dX4_step_31 ?_
      show rb_Bd κ mX4_step (0, 0) (mm_H h ms10 M0) 34 [some (.ref h), some (.int a1), some (.int a2)] [.int x9]
      refine rb_goto 39 (by decide) dX4_step_34 ?_
      exact rb_iret rfl rfl (Nat.zero_le _) (Nat.zero_le _) dX4_step_39 Kx9
  · skip
    refine rb_iconst (v := (-1 : Int32)) (by decide) dX4_step_8 ?_
    refine rb_goto 39 (by decide) dX4_step_9 ?_
    exact rb_iret rfl rfl (Nat.zero_le _) (Nat.zero_le _) dX4_step_39 ((Kx1).2 c4)
theorem sgX4_stepOf_0 {κ : rb_K} {M0 : rb_H} {h : Nat} {ms : mm_S} {a1 : Int32} {a2 : Int32} (K : rb_Bd κ mX4_stepOf (0, 0) (mm_H h ms M0) 2 [some (.ref h), some (.int a1), some (.int a2), some (.int (0 : Int32))] []) : rb_Bd κ mX4_stepOf (0, 0) (mm_H h ms M0) 0 [some (.ref h), some (.int a1), some (.int a2), none] [] := by
  refine rb_iconst (v := (0 : Int32)) (by decide) dX4_stepOf_0 ?_
  refine rb_istore_n 3 rfl (ls' := [some (.ref h), some (.int a1), some (.int a2), some (.int (0 : Int32))]) (by decide) rfl rfl dX4_stepOf_1 ?_
  exact K
theorem sgX4_stepOf_2 {κ : rb_K} {M0 : rb_H} {h : Nat} {ms : mm_S} {a1 : Int32} {a2 : Int32} {a3 : Int32} (K : (∃ (x1 : Int32) (ms2 : mm_S) (d3 : Nat), mm_C κ.1 yX4_areAlike wX4_areAlike d3 h M0 ms [.ref h, .int a1, .int a3, .int (a2 + (1 : Int32))] (some (.int x1)) ms2 ∧ rb_dp κ d3 ∧ ((¬ x1 = 0 → (κ.2.2.1 (.returned (some (.int a3))) (mm_H h ms2 M0))) ∧ (x1 = 0 → rb_Bd κ mX4_stepOf (0, 0) (mm_H h ms2 M0) 2 [some (.ref h), some (.int a1), some (.int a2), some (.int (a3 + (1 : Int32)))] [])))) : rb_Bd κ mX4_stepOf (0, 0) (mm_H h ms M0) 2 [some (.ref h), some (.int a1), some (.int a2), some (.int a3)] [] := by
  refine rb_aload_n 0 rfl rfl (rb_isR_ref _) dX4_stepOf_2 ?_
  refine rb_iload_n 1 rfl rfl dX4_stepOf_3 ?_
  refine rb_iload_n 3 rfl rfl dX4_stepOf_4 ?_
  refine rb_iload_n 2 rfl rfl dX4_stepOf_5 ?_
  refine rb_iconst (v := (1 : Int32)) (by decide) dX4_stepOf_6 ?_
  refine rb_iadd (z := (a2 + (1 : Int32))) rfl dX4_stepOf_7 ?_
  obtain ⟨x1, ms2, d3, h1, h2, Kx1⟩ := K
  refine mm_call st_X4_272 (rest := []) h1 rfl rfl mm_rc (Nat.le_of_ble_eq_true rfl) h2 dX4_stepOf_8 ?_
  show rb_Bd κ mX4_stepOf (0, 0) (mm_H h ms2 M0) 11 [some (.ref h), some (.int a1), some (.int a2), some (.int a3)] [.int x1]
  refine rb_ifne 20 (by decide) dX4_stepOf_11 (fun c4 => ?_) (fun c4 => ?_)
  · skip
    refine rb_iload_n 3 rfl rfl dX4_stepOf_20 ?_
    exact rb_iret rfl rfl (Nat.zero_le _) (Nat.zero_le _) dX4_stepOf_21 ((Kx1).1 c4)
  · skip
    refine rb_iinc (ls' := [some (.ref h), some (.int a1), some (.int a2), some (.int (a3 + (1 : Int32)))]) (v := (a3 + (1 : Int32))) rfl rfl (by decide) rfl rfl dX4_stepOf_14 ?_
    refine rb_goto 2 (by decide) dX4_stepOf_17 ?_
    exact ((Kx1).2 c4)
theorem sgX4_started_0 {κ : rb_K} {M0 : rb_H} {h : Nat} {ms : mm_S} {a1 : Int32} {a2 : Int32} (K : (∃ (x1 : Int32) (ms2 : mm_S) (d3 : Nat), mm_C κ.1 yX4_isRole wX4_isRole d3 h M0 ms [.ref h, .int a1] (some (.int x1)) ms2 ∧ rb_dp κ d3 ∧ ((¬ x1 = 0 → (vp_in a1 (mm_l 25) ∧ (∃ (x5 : Int32) (ms6 : mm_S) (d7 : Nat), mm_C κ.1 yX4_in wX4_in d7 h M0 ms2 [.int a2, .int (0 : Int32), .int ((ms2.1 25 (a1).toNatClampNeg) - (1 : Int32))] (some (.int x5)) ms6 ∧ rb_dp κ d7 ∧ ((x5 = 0 → (κ.2.2.1 (.returned (some (.int (-9 : Int32)))) (mm_H h ms6 M0))) ∧ (¬ x5 = 0 → (∃ (x9 : Int32) (ms10 : mm_S) (d11 : Nat), mm_C κ.1 yX4_startedAt wX4_startedAt d11 h M0 ms6 [.ref h, .int a1, .int a2] (some (.int x9)) ms10 ∧ rb_dp κ d11 ∧ (κ.2.2.1 (.returned (some (.int x9))) (mm_H h ms10 M0)))))))) ∧ (x1 = 0 → (κ.2.2.1 (.returned (some (.int (-1 : Int32)))) (mm_H h ms2 M0)))))) : rb_Bd κ mX4_started (0, 0) (mm_H h ms M0) 0 [some (.ref h), some (.int a1), some (.int a2)] [] := by
  refine rb_aload_n 0 rfl rfl (rb_isR_ref _) dX4_started_0 ?_
  refine rb_iload_n 1 rfl rfl dX4_started_1 ?_
  obtain ⟨x1, ms2, d3, h1, h2, Kx1⟩ := K
  refine mm_call st_X4_269 (rest := []) h1 rfl rfl mm_rc (Nat.le_of_ble_eq_true rfl) h2 dX4_started_2 ?_
  show rb_Bd κ mX4_started (0, 0) (mm_H h ms2 M0) 5 [some (.ref h), some (.int a1), some (.int a2)] [.int x1]
  refine rb_ifne 12 (by decide) dX4_started_5 (fun c4 => ?_) (fun c4 => ?_)
  · skip
    refine rb_iload_n 2 rfl rfl dX4_started_12 ?_
    refine rb_iconst (v := (0 : Int32)) (by decide) dX4_started_13 ?_
    refine rb_aload_n 0 rfl rfl (rb_isR_ref _) dX4_started_14 ?_
    refine mm_getA (t := 2) fl_X4_72 rfl (by decide) dX4_started_15 ?_
    refine rb_iload_n 1 rfl rfl dX4_started_18 ?_
    refine mm_iald (k := 25) (v := (ms2.1 25 (a1).toNatClampNeg)) rfl rfl (((Kx1).1 c4)).1 dX4_started_19 ?_
    refine rb_iconst (v := (1 : Int32)) (by decide) dX4_started_20 ?_
    refine rb_isub (z := ((ms2.1 25 (a1).toNatClampNeg) - (1 : Int32))) rfl dX4_started_21 ?_
    obtain ⟨x5, ms6, d7, h1, h2, Kx5⟩ := (((Kx1).1 c4)).2
    refine mm_call st_X4_188 (rest := []) h1 rfl rfl mm_rn (Nat.le_of_ble_eq_true rfl) h2 dX4_started_22 ?_
    show rb_Bd κ mX4_started (0, 0) (mm_H h ms6 M0) 25 [some (.ref h), some (.int a1), some (.int a2)] [.int x5]
    refine rb_ifeq 37 (by decide) dX4_started_25 (fun c8 => ?_) (fun c8 => ?_)
    · skip
      refine rb_bipush (v := (-9 : Int32)) (by decide) dX4_started_37 ?_
      exact rb_iret rfl rfl (Nat.zero_le _) (Nat.zero_le _) dX4_started_39 ((Kx5).1 c8)
    · skip
      refine rb_aload_n 0 rfl rfl (rb_isR_ref _) dX4_started_28 ?_
      refine rb_iload_n 1 rfl rfl dX4_started_29 ?_
      refine rb_iload_n 2 rfl rfl dX4_started_30 ?_
      obtain ⟨x9, ms10, d11, h1, h2, Kx9⟩ := ((Kx5).2 c8)
      refine mm_call st_X4_282 (rest := []) h1 rfl rfl mm_rc (Nat.le_of_ble_eq_true rfl) h2 dX4_started_31 ?_
      show rb_Bd κ mX4_started (0, 0) (mm_H h ms10 M0) 34 [some (.ref h), some (.int a1), some (.int a2)] [.int x9]
      refine rb_goto 39 (by decide) dX4_started_34 ?_
      exact rb_iret rfl rfl (Nat.zero_le _) (Nat.zero_le _) dX4_started_39 Kx9
  · skip
    refine rb_iconst (v := (-1 : Int32)) (by decide) dX4_started_8 ?_
    refine rb_goto 39 (by decide) dX4_started_9 ?_
    exact rb_iret rfl rfl (Nat.zero_le _) (Nat.zero_le _) dX4_started_39 ((Kx1).2 c4)
