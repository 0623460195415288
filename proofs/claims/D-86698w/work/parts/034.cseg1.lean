set_option maxRecDepth 100000
theorem sgX0_layChains_0 {κ : rb_K} {n : Nat × Nat} {M : rb_H} {a0 : Nat} {a1 : Value} (ha1 : rb_isR a1) (K : rb_Bd κ mX0_layChains n M 2 [some (.ref a0), some a1, some (.int (0 : Int32)), none, none, none] []) : rb_Bd κ mX0_layChains n M 0 [some (.ref a0), some a1, none, none, none, none] [] := by
  refine rb_iconst (v := (0 : Int32)) (by decide) dX0_layChains_0 ?_
  refine rb_istore_n 2 rfl (ls' := [some (.ref a0), some a1, some (.int (0 : Int32)), none, none, none]) (by decide) (by simp [rb_o1, rb_isR_cat ha1]) rfl dX0_layChains_1 ?_
  exact K
theorem sgX0_layChains_2 {κ : rb_K} {n : Nat × Nat} {M : rb_H} {a0 : Nat} {a1 : Value} {a2 : Int32} (ha1 : rb_isR a1) (K : (((12 : Int32) ≤ a2 → (rb_fin κ n ∧ κ.2.2.1 (.returned none) M)) ∧ (a2 < (12 : Int32) → (rb_rom κ (n.1 + 1, n.2 + 3) ∧ (∃ (ci7 : Nat) (d2 : Nat) (n3 : Nat × Nat) (Q4 : Outcome → rb_H → Prop), rb_Ct κ.1 yJ4_init wJ4_init d2 n3 [.ref M.1] (rb_nw M (rb_O 7 [.int 0, .null, .int 0])) Q4 ∧ rb_dp κ d2 ∧ rb_rom κ (n.1 + 1 + n3.1, n.2 + 3 + n3.2) ∧ rb_ob (rb_nw M (rb_O 7 [.int 0, .null, .int 0])) M.1 ci7 ∧ ∀ (o : Outcome) (M6 : rb_H), Q4 o M6 → (o = .returned none ∧ rb_Bd κ mX0_layChains (n.1 + 1 + n3.1, n.2 + 3 + n3.2) M6 19 [some (.ref a0), some a1, some (.int a2), some (.ref M.1), some (.int (0 : Int32)), none] [])))))) : rb_Bd κ mX0_layChains n M 2 [some (.ref a0), some a1, some (.int a2), none, none, none] [] := by
  refine rb_iload_n 2 rfl rfl dX0_layChains_2 ?_
  refine rb_bipush (v := (12 : Int32)) (by decide) dX0_layChains_3 ?_
  refine rb_icge 123 (by decide) dX0_layChains_5 (fun c1 => ?_) (fun c1 => ?_)
  · skip
    exact rb_vret rfl (((K).1 c1)).1.1 (((K).1 c1)).1.2 dX0_layChains_123 (((K).1 c1)).2
  · skip
    refine rb_new nw_X0_122 (fs := [.int 0, .null, .int 0]) rfl (((K).2 c1)).1.1 (((K).2 c1)).1.2 dX0_layChains_8 ?_
    show rb_Bd κ mX0_layChains (n.1 + 1, n.2 + 3) (rb_nw M (rb_O 7 [.int 0, .null, .int 0])) 11 [some (.ref a0), some a1, some (.int a2), none, none, none] [.ref M.1]
    refine rb_dup rfl dX0_layChains_11 ?_
    obtain ⟨ci7, d2, n3, Q4, h1v5, hdv5, hnv5, hov5, Kv5⟩ := (((K).2 c1)).2
    refine rb_call (st_X0_124 ci7) (rest := [.ref M.1]) h1v5 rfl rfl (rc_rc rfl hov5) (Nat.le_of_ble_eq_true rfl) hdv5.1 hdv5.2 hnv5.1 hnv5.2 dX0_layChains_12 (fun o M6 hpv5 => ?_)
    obtain ⟨eo, KKv5⟩ := Kv5 o M6 hpv5
    subst eo
    show rb_Bd κ mX0_layChains (n.1 + 1 + n3.1, n.2 + 3 + n3.2) M6 15 [some (.ref a0), some a1, some (.int a2), none, none, none] [.ref M.1]
    refine rb_astore_n 3 rfl (ls' := [some (.ref a0), some a1, some (.int a2), some (.ref M.1), none, none]) (by decide) rfl rfl (rb_isR_ref _) dX0_layChains_15 ?_
    refine rb_iconst (v := (0 : Int32)) (by decide) dX0_layChains_16 ?_
    refine rb_istore (ls' := [some (.ref a0), some a1, some (.int a2), some (.ref M.1), some (.int (0 : Int32)), none]) (by decide) rfl rfl dX0_layChains_17 ?_
    exact KKv5
theorem sgX0_layChains_19 {κ : rb_K} {n : Nat × Nat} {M : rb_H} {a0 : Nat} {a1 : Value} {a2 : Int32} {a3 : Value} {a4 : Int32} (ha1 : rb_isR a1) (ha3 : rb_isR a3) (K : (∃ q1, a1 = .ref q1 ∧ (∃ (v2 : Value), rb_rd M q1 27 1 (v2) ∧ rb_isR v2 ∧ (∃ q3, v2 = .ref q3 ∧ (∃ (d4 : Nat) (n5 : Nat × Nat) (Q6 : Outcome → rb_H → Prop), rb_Ct κ.1 yJ4_size wJ4_size d4 n5 [.ref q3] M Q6 ∧ rb_dp κ d4 ∧ rb_rom κ (n.1 + n5.1, n.2 + n5.2) ∧ rb_ob M q3 7 ∧ ∀ (o : Outcome) (M8 : rb_H), Q6 o M8 → (∃ (x7 : Int32), o = .returned (some (.int x7)) ∧ ((x7 ≤ a4 → (∃ (v10 : Value), rb_rd M8 q1 27 2 (v10) ∧ rb_isR v10 ∧ (∃ q11, v10 = .ref q11 ∧ (∃ (d12 : Nat) (n13 : Nat × Nat) (Q14 : Outcome → rb_H → Prop), rb_Ct κ.1 yJ4_add wJ4_add d12 n13 [.ref q11, a3] M8 Q14 ∧ rb_dp κ d12 ∧ rb_rom κ (n.1 + n5.1 + n13.1, n.2 + n5.2 + n13.2) ∧ rb_ob M8 q11 7 ∧ ∀ (o : Outcome) (M16 : rb_H), Q14 o M16 → (∃ (x15 : Int32), o = .returned (some (.int x15)) ∧ rb_Bd κ mX0_layChains (n.1 + n5.1 + n13.1, n.2 + n5.2 + n13.2) M16 2 [some (.ref a0), some (.ref q1), some (.int (a2 + (1 : Int32))), some a3, some (.int a4), none] []))))) ∧ (a4 < x7 → (∃ (v17 : Value), rb_rd M8 q1 27 1 (v17) ∧ rb_isR v17 ∧ (∃ q18, v17 = .ref q18 ∧ (∃ (d19 : Nat) (n20 : Nat × Nat) (Q21 : Outcome → rb_H → Prop), rb_Ct κ.1 yJ4_get wJ4_get d19 n20 [.ref q18, .int a4] M8 Q21 ∧ rb_dp κ d19 ∧ rb_rom κ (n.1 + n5.1 + n20.1, n.2 + n5.2 + n20.2) ∧ rb_ob M8 q18 7 ∧ ∀ (o : Outcome) (M23 : rb_H), Q21 o M23 → (∃ (v22 : Value), o = .returned (some v22) ∧ rb_isR v22 ∧ (∃ q24, v22 = .ref q24 ∧ (∃ ci25, rb_ob M23 q24 ci25 ∧ rb_CC ci25 "RoleLoom$Part" ∧ (∃ (v26 : Value), rb_rd M23 q24 5 5 (v26) ∧ rb_isR v26 ∧ (∃ q27, v26 = .ref q27 ∧ (∃ (t31 N28 : Nat) (f29 : Nat → Option Nat) (v30 : Value), M23.2 q27 = some (rb_R t31 N28 f29) ∧ (3 ≤ t31 ∧ t31 ≤ 6) ∧ vp_in a2 N28 ∧ va_rf (f29 (a2).toNatClampNeg) = v30 ∧ ((v30 = .null → (∃ (v33 : Value), rb_rd M23 q24 5 6 (v33) ∧ rb_isR v33 ∧ (∃ q34, v33 = .ref q34 ∧ (∃ (t38 N35 : Nat) (f36 : Nat → Option Nat) (v37 : Value), M23.2 q34 = some (rb_R t38 N35 f36) ∧ (3 ≤ t38 ∧ t38 ≤ 6) ∧ vp_in a2 N35 ∧ va_rf (f36 (a2).toNatClampNeg) = v37 ∧ ((v37 = .null → rb_Bd κ mX0_layChains (n.1 + n5.1 + n20.1, n.2 + n5.2 + n20.2) M23 19 [some (.ref a0), some (.ref q1), some (.int a2), some a3, some (.int (a4 + (1 : Int32))), some (.ref q24)] []) ∧ (∀ q39, v37 = .ref q39 → (∃ (v40 : Value), rb_rd M23 q24 5 6 (v40) ∧ rb_isR v40 ∧ (∃ q41, v40 = .ref q41 ∧ (∃ (t45 N42 : Nat) (f43 : Nat → Option Nat) (v44 : Value), M23.2 q41 = some (rb_R t45 N42 f43) ∧ (3 ≤ t45 ∧ t45 ≤ 6) ∧ vp_in a2 N42 ∧ va_rf (f43 (a2).toNatClampNeg) = v44 ∧ (∃ q46, a3 = .ref q46 ∧ (∃ (d47 : Nat) (n48 : Nat × Nat) (Q49 : Outcome → rb_H → Prop), rb_Ct κ.1 yJ4_add wJ4_add d47 n48 [.ref q46, v44] M23 Q49 ∧ rb_dp κ d47 ∧ rb_rom κ (n.1 + n5.1 + n20.1 + n48.1, n.2 + n5.2 + n20.2 + n48.2) ∧ rb_ob M23 q46 7 ∧ ∀ (o : Outcome) (M51 : rb_H), Q49 o M51 → (∃ (x50 : Int32), o = .returned (some (.int x50)) ∧ rb_Bd κ mX0_layChains (n.1 + n5.1 + n20.1 + n48.1, n.2 + n5.2 + n20.2 + n48.2) M51 19 [some (.ref a0), some (.ref q1), some (.int a2), some (.ref q46), some (.int (a4 + (1 : Int32))), some (.ref q24)] [])))))))))))) ∧ (∀ q32, v30 = .ref q32 → (∃ (x52 : Int32), rb_rd M23 q24 5 0 (.int x52) ∧ (∃ (d53 : Nat) (n54 : Nat × Nat) (Q55 : Outcome → rb_H → Prop), rb_Ct κ.1 yX0_isExcluded wX0_isExcluded d53 n54 [.ref a0, .int x52, .int a2] M23 Q55 ∧ rb_dp κ d53 ∧ rb_rom κ (n.1 + n5.1 + n20.1 + n54.1, n.2 + n5.2 + n20.2 + n54.2) ∧ rb_ob M23 a0 0 ∧ ∀ (o : Outcome) (M57 : rb_H), Q55 o M57 → (∃ (x56 : Int32), o = .returned (some (.int x56)) ∧ ((¬ x56 = 0 → (∃ (v59 : Value), rb_rd M57 q24 5 6 (v59) ∧ rb_isR v59 ∧ (∃ q60, v59 = .ref q60 ∧ (∃ (t64 N61 : Nat) (f62 : Nat → Option Nat) (v63 : Value), M57.2 q60 = some (rb_R t64 N61 f62) ∧ (3 ≤ t64 ∧ t64 ≤ 6) ∧ vp_in a2 N61 ∧ va_rf (f62 (a2).toNatClampNeg) = v63 ∧ ((v63 = .null → rb_Bd κ mX0_layChains (n.1 + n5.1 + n20.1 + n54.1, n.2 + n5.2 + n20.2 + n54.2) M57 19 [some (.ref a0), some (.ref q1), some (.int a2), some a3, some (.int (a4 + (1 : Int32))), some (.ref q24)] []) ∧ (∀ q65, v63 = .ref q65 → (∃ (v66 : Value), rb_rd M57 q24 5 6 (v66) ∧ rb_isR v66 ∧ (∃ q67, v66 = .ref q67 ∧ (∃ (t71 N68 : Nat) (f69 : Nat → Option Nat) (v70 : Value), M57.2 q67 = some (rb_R t71 N68 f69) ∧ (3 ≤ t71 ∧ t71 ≤ 6) ∧ vp_in a2 N68 ∧ va_rf (f69 (a2).toNatClampNeg) = v70 ∧ (∃ q72, a3 = .ref q72 ∧ (∃ (d73 : Nat) (n74 : Nat × Nat) (Q75 : Outcome → rb_H → Prop), rb_Ct κ.1 yJ4_add wJ4_add d73 n74 [.ref q72, v70] M57 Q75 ∧ rb_dp κ d73 ∧ rb_rom κ (n.1 + n5.1 + n20.1 + n54.1 + n74.1, n.2 + n5.2 + n20.2 + n54.2 + n74.2) ∧ rb_ob M57 q72 7 ∧ ∀ (o : Outcome) (M77 : rb_H), Q75 o M77 → (∃ (x76 : Int32), o = .returned (some (.int x76)) ∧ rb_Bd κ mX0_layChains (n.1 + n5.1 + n20.1 + n54.1 + n74.1, n.2 + n5.2 + n20.2 + n54.2 + n74.2) M77 19 [some (.ref a0), some (.ref q1), some (.int a2), some (.ref q72), some (.int (a4 + (1 : Int32))), some (.ref q24)] [])))))))))))) ∧ (x56 = 0 → (∃ (v78 : Value), rb_rd M57 q24 5 5 (v78) ∧ rb_isR v78 ∧ (∃ q79, v78 = .ref q79 ∧ (∃ (t83 N80 : Nat) (f81 : Nat → Option Nat) (v82 : Value), M57.2 q79 = some (rb_R t83 N80 f81) ∧ (3 ≤ t83 ∧ t83 ≤ 6) ∧ vp_in a2 N80 ∧ va_rf (f81 (a2).toNatClampNeg) = v82 ∧ (∃ q84, a3 = .ref q84 ∧ (∃ (d85 : Nat) (n86 : Nat × Nat) (Q87 : Outcome → rb_H → Prop), rb_Ct κ.1 yJ4_add wJ4_add d85 n86 [.ref q84, v82] M57 Q87 ∧ rb_dp κ d85 ∧ rb_rom κ (n.1 + n5.1 + n20.1 + n54.1 + n86.1, n.2 + n5.2 + n20.2 + n54.2 + n86.2) ∧ rb_ob M57 q84 7 ∧ ∀ (o : Outcome) (M89 : rb_H), Q87 o M89 → (∃ (x88 : Int32), o = .returned (some (.int x88)) ∧ (∃ (v90 : Value), rb_rd M89 q24 5 6 (v90) ∧ rb_isR v90 ∧ (∃ q91, v90 = .ref q91 ∧ (∃ (t95 N92 : Nat) (f93 : Nat → Option Nat) (v94 : Value), M89.2 q91 = some (rb_R t95 N92 f93) ∧ (3 ≤ t95 ∧ t95 ≤ 6) ∧ vp_in a2 N92 ∧ va_rf (f93 (a2).toNatClampNeg) = v94 ∧ ((v94 = .null → rb_Bd κ mX0_layChains (n.1 + n5.1 + n20.1 + n54.1 + n86.1, n.2 + n5.2 + n20.2 + n54.2 + n86.2) M89 19 [some (.ref a0), some (.ref q1), some (.int a2), some (.ref q84), some (.int (a4 + (1 : Int32))), some (.ref q24)] []) ∧ (∀ q96, v94 = .ref q96 → (∃ (v97 : Value), rb_rd M89 q24 5 6 (v97) ∧ rb_isR v97 ∧ (∃ q98, v97 = .ref q98 ∧ (∃ (t102 N99 : Nat) (f100 : Nat → Option Nat) (v101 : Value), M89.2 q98 = some (rb_R t102 N99 f100) ∧ (3 ≤ t102 ∧ t102 ≤ 6) ∧ vp_in a2 N99 ∧ va_rf (f100 (a2).toNatClampNeg) = v101 ∧ (∃ (d103 : Nat) (n104 : Nat × Nat) (Q105 : Outcome → rb_H → Prop), rb_Ct κ.1 yJ4_add wJ4_add d103 n104 [.ref q84, v101] M89 Q105 ∧ rb_dp κ d103 ∧ rb_rom κ (n.1 + n5.1 + n20.1 + n54.1 + n86.1 + n104.1, n.2 + n5.2 + n20.2 + n54.2 + n86.2 + n104.2) ∧ rb_ob M89 q84 7 ∧ ∀ (o : Outcome) (M107 : rb_H), Q105 o M107 → (∃ (x106 : Int32), o = .returned (some (.int x106)) ∧ rb_Bd κ mX0_layChains (n.1 + n5.1 + n20.1 + n54.1 + n86.1 + n104.1, n.2 + n5.2 + n20.2 + n54.2 + n86.2 + n104.2) M107 19 [some (.ref a0), some (.ref q1), some (.int a2), some (.ref q84), some (.int (a4 + (1 : Int32))), some (.ref q24)] [])))))))))))))))))))))))))))))))))))))))) : rb_Bd κ mX0_layChains n M 19 [some (.ref a0), some a1, some (.int a2), some a3, some (.int a4), none] [] := by
  refine rb_iload rfl dX0_layChains_19 ?_
  refine rb_aload_n 1 rfl rfl ha1 dX0_layChains_21 ?_
  obtain ⟨q1, eq1, Kq1⟩ := K
  subst eq1
  obtain ⟨v2, hrv2, hv2, Kv2⟩ := Kq1
  refine rc_get fl_X0_291_27 hrv2 dX0_layChains_22 ?_
  obtain ⟨q3, eq3, Kq3⟩ := Kv2
  subst eq3
  obtain ⟨d4, n5, Q6, h1x7, hdx7, hnx7, hox7, Kx7⟩ := Kq3
  refine rb_call st_X0_201_7 (rest := [.int a4]) h1x7 rfl rfl (rc_rc rfl hox7) (Nat.le_of_ble_eq_true rfl) hdx7.1 hdx7.2 hnx7.1 hnx7.2 dX0_layChains_25 (fun o M8 hpx7 => ?_)
  obtain ⟨x7, eo, KKx7⟩ := Kx7 o M8 hpx7
  subst eo
  show rb_Bd κ mX0_layChains (n.1 + n5.1, n.2 + n5.2) M8 28 [some (.ref a0), some (.ref q1), some (.int a2), some a3, some (.int a4), none] [.int x7, .int a4]
  refine rb_icge 108 (by decide) dX0_layChains_28 (fun c9 => ?_) (fun c9 => ?_)
  · skip
    refine rb_aload_n 1 rfl rfl (rb_isR_ref _) dX0_layChains_108 ?_
    obtain ⟨v10, hrv10, hv10, Kv10⟩ := ((KKx7).1 c9)
    refine rc_get fl_X0_300_27 hrv10 dX0_layChains_109 ?_
    refine rb_aload_n 3 rfl rfl ha3 dX0_layChains_112 ?_
    obtain ⟨q11, eq11, Kq11⟩ := Kv10
    subst eq11
    obtain ⟨d12, n13, Q14, h1x15, hdx15, hnx15, hox15, Kx15⟩ := Kq11
    refine rb_call st_X0_210_7 (rest := []) h1x15 rfl rfl (rc_rc rfl hox15) (Nat.le_of_ble_eq_true rfl) hdx15.1 hdx15.2 hnx15.1 hnx15.2 dX0_layChains_113 (fun o M16 hpx15 => ?_)
    obtain ⟨x15, eo, KKx15⟩ := Kx15 o M16 hpx15
    subst eo
    show rb_Bd κ mX0_layChains (n.1 + n5.1 + n13.1, n.2 + n5.2 + n13.2) M16 116 [some (.ref a0), some (.ref q1), some (.int a2), some a3, some (.int a4), none] [.int x15]
    refine rb_pop rfl dX0_layChains_116 ?_
    refine rb_iinc (ls' := [some (.ref a0), some (.ref q1), some (.int (a2 + (1 : Int32))), some a3, some (.int a4), none]) (v := (a2 + (1 : Int32))) rfl rfl (by decide) rfl rfl dX0_layChains_117 ?_
    refine rb_goto 2 (by decide) dX0_layChains_120 ?_
    exact KKx15
  · skip
    refine rb_aload_n 1 rfl rfl (rb_isR_ref _) dX0_layChains_31 ?_
    obtain ⟨v17, hrv17, hv17, Kv17⟩ := ((KKx7).2 c9)
    refine rc_get fl_X0_291_27 hrv17 dX0_layChains_32 ?_
    refine rb_iload rfl dX0_layChains_35 ?_
    obtain ⟨q18, eq18, Kq18⟩ := Kv17
    subst eq18
    obtain ⟨d19, n20, Q21, h1v22, hdv22, hnv22, hov22, Kv22⟩ := Kq18
    refine rb_call st_X0_218_7 (rest := []) h1v22 rfl rfl (rc_rc rfl hov22) (Nat.le_of_ble_eq_true rfl) hdv22.1 hdv22.2 hnv22.1 hnv22.2 dX0_layChains_37 (fun o M23 hpv22 => ?_)
    obtain ⟨v22, eo, hv22, KKv22⟩ := Kv22 o M23 hpv22
    subst eo
    show rb_Bd κ mX0_layChains (n.1 + n5.1 + n20.1, n.2 + n5.2 + n20.2) M23 40 [some (.ref a0), some (.ref q1), some (.int a2), some a3, some (.int a4), none] [v22]
    obtain ⟨q24, eq24, Kq24⟩ := KKv22
    subst eq24
    obtain ⟨ci25, ⟨fsci25, hoci25⟩, hcci25, Kci25⟩ := Kq24
    refine rb_cast q416 hoci25 hcci25 dX0_layChains_40 ?_
    refine rb_astore (ls' := [some (.ref a0), some (.ref q1), some (.int a2), some a3, some (.int a4), some (.ref q24)]) (by decide) rfl rfl (rb_isR_ref _) dX0_layChains_43 ?_
    refine rb_aload rfl (rb_isR_ref _) dX0_layChains_45 ?_
    obtain ⟨v26, hrv26, hv26, Kv26⟩ := Kci25
    refine rc_get fl_X0_241_5 hrv26 dX0_layChains_47 ?_
    refine rb_iload_n 2 rfl rfl dX0_layChains_50 ?_
    obtain ⟨q27, eq27, Kq27⟩ := Kv26
    subst eq27
    obtain ⟨t31, N28, f29, v30, hMv30, htv30, hiv30, hxv30, Kv30⟩ := Kq27
    have hv30 := rc_isRf hxv30
    refine rc_aald hMv30 htv30 hiv30 hxv30 dX0_layChains_51 ?_
    refine rb_ifnull hv30 80 (by decide) dX0_layChains_52 (fun e => ?_) (fun q32 e => ?_)
    · subst e
      refine rb_aload rfl (rb_isR_ref _) dX0_layChains_80 ?_
      obtain ⟨v33, hrv33, hv33, Kv33⟩ := ((Kv30).1 rfl)
      refine rc_get fl_X0_244_5 hrv33 dX0_layChains_82 ?_
      refine rb_iload_n 2 rfl rfl dX0_layChains_85 ?_
      obtain ⟨q34, eq34, Kq34⟩ := Kv33
      subst eq34
      obtain ⟨t38, N35, f36, v37, hMv37, htv37, hiv37, hxv37, Kv37⟩ := Kq34
      have hv37 := rc_isRf hxv37
      refine rc_aald hMv37 htv37 hiv37 hxv37 dX0_layChains_86 ?_
      refine rb_ifnull hv37 102 (by decide) dX0_layChains_87 (fun e => ?_) (fun q39 e => ?_)
      · subst e
        refine rb_iinc (ls' := [some (.ref a0), some (.ref q1), some (.int a2), some a3, some (.int (a4 + (1 : Int32))), some (.ref q24)]) (v := (a4 + (1 : Int32))) rfl rfl (by decide) (by simp [rb_o1, rb_isR_cat ha3]) rfl dX0_layChains_102 ?_
        refine rb_goto 19 (by decide) dX0_layChains_105 ?_
        exact ((Kv37).1 rfl)
      · subst e
        refine rb_aload_n 3 rfl rfl ha3 dX0_layChains_90 ?_
        refine rb_aload rfl (rb_isR_ref _) dX0_layChains_91 ?_
        obtain ⟨v40, hrv40, hv40, Kv40⟩ := ((Kv37).2 q39 rfl)
        refine rc_get fl_X0_244_5 hrv40 dX0_layChains_93 ?_
        refine rb_iload_n 2 rfl rfl dX0_layChains_96 ?_
        obtain ⟨q41, eq41, Kq41⟩ := Kv40
        subst eq41
        obtain ⟨t45, N42, f43, v44, hMv44, htv44, hiv44, hxv44, Kv44⟩ := Kq41
        have hv44 := rc_isRf hxv44
        refine rc_aald hMv44 htv44 hiv44 hxv44 dX0_layChains_97 ?_
        obtain ⟨q46, eq46, Kq46⟩ := Kv44
        subst eq46
        obtain ⟨d47, n48, Q49, h1x50, hdx50, hnx50, hox50, Kx50⟩ := Kq46
        refine rb_call st_X0_210_7 (rest := []) h1x50 rfl rfl (rc_rc rfl hox50) (Nat.le_of_ble_eq_true rfl) hdx50.1 hdx50.2 hnx50.1 hnx50.2 dX0_layChains_98 (fun o M51 hpx50 => ?_)
        obtain ⟨x50, eo, KKx50⟩ := Kx50 o M51 hpx50
        subst eo
        show rb_Bd κ mX0_layChains (n.1 + n5.1 + n20.1 + n48.1, n.2 + n5.2 + n20.2 + n48.2) M51 101 [some (.ref a0), some (.ref q1), some (.int a2), some (.ref q46), some (.int a4), some (.ref q24)] [.int x50]
        refine rb_pop rfl dX0_layChains_101 ?_
        refine rb_iinc (ls' := [some (.ref a0), some (.ref q1), some (.int a2), some (.ref q46), some (.int (a4 + (1 : Int32))), some (.ref q24)]) (v := (a4 + (1 : Int32))) rfl rfl (by decide) rfl rfl dX0_layChains_102 ?_
        refine rb_goto 19 (by decide) dX0_layChains_105 ?_
        exact KKx50
    · subst e
      refine rb_aload_n 0 rfl rfl (rb_isR_ref _) dX0_layChains_55 ?_
      refine rb_aload rfl (rb_isR_ref _) dX0_layChains_56 ?_
      obtain ⟨x52, hrx52, Kx52⟩ := ((Kv30).2 q32 rfl)
      refine rc_get fl_X0_272_5 hrx52 dX0_layChains_58 ?_
      refine rb_iload_n 2 rfl rfl dX0_layChains_61 ?_
      obtain ⟨d53, n54, Q55, h1x56, hdx56, hnx56, hox56, Kx56⟩ := Kx52
      refine rb_call st_X0_296_0 (rest := []) h1x56 rfl rfl (rc_rc rfl hox56) (Nat.le_of_ble_eq_true rfl) hdx56.1 hdx56.2 hnx56.1 hnx56.2 dX0_layChains_62 (fun o M57 hpx56 => ?_)
      obtain ⟨x56, eo, KKx56⟩ := Kx56 o M57 hpx56
      subst eo
      show rb_Bd κ mX0_layChains (n.1 + n5.1 + n20.1 + n54.1, n.2 + n5.2 + n20.2 + n54.2) M57 65 [some (.ref a0), some (.ref q1), some (.int a2), some a3, some (.int a4), some (.ref q24)] [.int x56]
      refine rb_ifne 80 (by decide) dX0_layChains_65 (fun c58 => ?_) (fun c58 => ?_)
      · skip
        refine rb_aload rfl (rb_isR_ref _) dX0_layChains_80 ?_
        obtain ⟨v59, hrv59, hv59, Kv59⟩ := ((KKx56).1 c58)
        refine rc_get fl_X0_244_5 hrv59 dX0_layChains_82 ?_
        refine rb_iload_n 2 rfl rfl dX0_layChains_85 ?_
        obtain ⟨q60, eq60, Kq60⟩ := Kv59
        subst eq60
        obtain ⟨t64, N61, f62, v63, hMv63, htv63, hiv63, hxv63, Kv63⟩ := Kq60
        have hv63 := rc_isRf hxv63
        refine rc_aald hMv63 htv63 hiv63 hxv63 dX0_layChains_86 ?_
        refine rb_ifnull hv63 102 (by decide) dX0_layChains_87 (fun e => ?_) (fun q65 e => ?_)
        · subst e
          refine rb_iinc (ls' := [some (.ref a0), some (.ref q1), some (.int a2), some a3, some (.int (a4 + (1 : Int32))), some (.ref q24)]) (v := (a4 + (1 : Int32))) rfl rfl (by decide) (by simp [rb_o1, rb_isR_cat ha3]) rfl dX0_layChains_102 ?_
          refine rb_goto 19 (by decide) dX0_layChains_105 ?_
          exact ((Kv63).1 rfl)
        · subst e
          refine rb_aload_n 3 rfl rfl ha3 dX0_layChains_90 ?_
          refine rb_aload rfl (rb_isR_ref _) dX0_layChains_91 ?_
          obtain ⟨v66, hrv66, hv66, Kv66⟩ := ((Kv63).2 q65 rfl)
          refine rc_get fl_X0_244_5 hrv66 dX0_layChains_93 ?_
          refine rb_iload_n 2 rfl rfl dX0_layChains_96 ?_
          obtain ⟨q67, eq67, Kq67⟩ := Kv66
          subst eq67
          obtain ⟨t71, N68, f69, v70, hMv70, htv70, hiv70, hxv70, Kv70⟩ := Kq67
          have hv70 := rc_isRf hxv70
          refine rc_aald hMv70 htv70 hiv70 hxv70 dX0_layChains_97 ?_
          obtain ⟨q72, eq72, Kq72⟩ := Kv70
          subst eq72
          obtain ⟨d73, n74, Q75, h1x76, hdx76, hnx76, hox76, Kx76⟩ := Kq72
          refine rb_call st_X0_210_7 (rest := []) h1x76 rfl rfl (rc_rc rfl hox76) (Nat.le_of_ble_eq_true rfl) hdx76.1 hdx76.2 hnx76.1 hnx76.2 dX0_layChains_98 (fun o M77 hpx76 => ?_)
          obtain ⟨x76, eo, KKx76⟩ := Kx76 o M77 hpx76
          subst eo
          show rb_Bd κ mX0_layChains (n.1 + n5.1 + n20.1 + n54.1 + n74.1, n.2 + n5.2 + n20.2 + n54.2 + n74.2) M77 101 [some (.ref a0), some (.ref q1), some (.int a2), some (.ref q72), some (.int a4), some (.ref q24)] [.int x76]
          refine rb_pop rfl dX0_layChains_101 ?_
          refine rb_iinc (ls' := [some (.ref a0), some (.ref q1), some (.int a2), some (.ref q72), some (.int (a4 + (1 : Int32))), some (.ref q24)]) (v := (a4 + (1 : Int32))) rfl rfl (by decide) rfl rfl dX0_layChains_102 ?_
          refine rb_goto 19 (by decide) dX0_layChains_105 ?_
          exact KKx76
      · skip
        refine rb_aload_n 3 rfl rfl ha3 dX0_layChains_68 ?_
        refine rb_aload rfl (rb_isR_ref _) dX0_layChains_69 ?_
        obtain ⟨v78, hrv78, hv78, Kv78⟩ := ((KKx56).2 c58)
        refine rc_get fl_X0_241_5 hrv78 dX0_layChains_71 ?_
        refine rb_iload_n 2 rfl rfl dX0_layChains_74 ?_
        obtain ⟨q79, eq79, Kq79⟩ := Kv78
        subst eq79
        obtain ⟨t83, N80, f81, v82, hMv82, htv82, hiv82, hxv82, Kv82⟩ := Kq79
        have hv82 := rc_isRf hxv82
        refine rc_aald hMv82 htv82 hiv82 hxv82 dX0_layChains_75 ?_
        obtain ⟨q84, eq84, Kq84⟩ := Kv82
        subst eq84
        obtain ⟨d85, n86, Q87, h1x88, hdx88, hnx88, hox88, Kx88⟩ := Kq84
        refine rb_call st_X0_210_7 (rest := []) h1x88 rfl rfl (rc_rc rfl hox88) (Nat.le_of_ble_eq_true rfl) hdx88.1 hdx88.2 hnx88.1 hnx88.2 dX0_layChains_76 (fun o M89 hpx88 => ?_)
        obtain ⟨x88, eo, KKx88⟩ := Kx88 o M89 hpx88
        subst eo
        show rb_Bd κ mX0_layChains (n.1 + n5.1 + n20.1 + n54.1 + n86.1, n.2 + n5.2 + n20.2 + n54.2 + n86.2) M89 79 [some (.ref a0), some (.ref q1), some (.int a2), some (.ref q84), some (.int a4), some (.ref q24)] [.int x88]
        refine rb_pop rfl dX0_layChains_79 ?_
        refine rb_aload rfl (rb_isR_ref _) dX0_layChains_80 ?_
        obtain ⟨v90, hrv90, hv90, Kv90⟩ := KKx88
        refine rc_get fl_X0_244_5 hrv90 dX0_layChains_82 ?_
        refine rb_iload_n 2 rfl rfl dX0_layChains_85 ?_
        obtain ⟨q91, eq91, Kq91⟩ := Kv90
        subst eq91
        obtain ⟨t95, N92, f93, v94, hMv94, htv94, hiv94, hxv94, Kv94⟩ := Kq91
        have hv94 := rc_isRf hxv94
        refine rc_aald hMv94 htv94 hiv94 hxv94 dX0_layChains_86 ?_
        refine rb_ifnull hv94 102 (by decide) dX0_layChains_87 (fun e => ?_) (fun q96 e => ?_)
        · subst e
          refine rb_iinc (ls' := [some (.ref a0), some (.ref q1), some (.int a2), some (.ref q84), some (.int (a4 + (1 : Int32))), some (.ref q24)]) (v := (a4 + (1 : Int32))) rfl rfl (by decide) rfl rfl dX0_layChains_102 ?_
          refine rb_goto 19 (by decide) dX0_layChains_105 ?_
          exact ((Kv94).1 rfl)
        · subst e
          refine rb_aload_n 3 rfl rfl (rb_isR_ref _) dX0_layChains_90 ?_
          refine rb_aload rfl (rb_isR_ref _) dX0_layChains_91 ?_
          obtain ⟨v97, hrv97, hv97, Kv97⟩ := ((Kv94).2 q96 rfl)
          refine rc_get fl_X0_244_5 hrv97 dX0_layChains_93 ?_
          refine rb_iload_n 2 rfl rfl dX0_layChains_96 ?_
          obtain ⟨q98, eq98, Kq98⟩ := Kv97
          subst eq98
          obtain ⟨t102, N99, f100, v101, hMv101, htv101, hiv101, hxv101, Kv101⟩ := Kq98
          have hv101 := rc_isRf hxv101
          refine rc_aald hMv101 htv101 hiv101 hxv101 dX0_layChains_97 ?_
          obtain ⟨d103, n104, Q105, h1x106, hdx106, hnx106, hox106, Kx106⟩ := Kv101
          refine rb_call st_X0_210_7 (rest := []) h1x106 rfl rfl (rc_rc rfl hox106) (Nat.le_of_ble_eq_true rfl) hdx106.1 hdx106.2 hnx106.1 hnx106.2 dX0_layChains_98 (fun o M107 hpx106 => ?_)
          obtain ⟨x106, eo, KKx106⟩ := Kx106 o M107 hpx106
          subst eo
          show rb_Bd κ mX0_layChains (n.1 + n5.1 + n20.1 + n54.1 + n86.1 + n104.1, n.2 + n5.2 + n20.2 + n54.2 + n86.2 + n104.2) M107 101 [some (.ref a0), some (.ref q1), some (.int a2), some (.ref q84), some (.int a4), some (.ref q24)] [.int x106]
          refine rb_pop rfl dX0_layChains_101 ?_
          refine rb_iinc (ls' := [some (.ref a0), some (.ref q1), some (.int a2), some (.ref q84), some (.int (a4 + (1 : Int32))), some (.ref q24)]) (v := (a4 + (1 : Int32))) rfl rfl (by decide) rfl rfl dX0_layChains_102 ?_
          refine rb_goto 19 (by decide) dX0_layChains_105 ?_
          exact KKx106
theorem sgX0_isExcluded_0 {κ : rb_K} {n : Nat × Nat} {M : rb_H} {a0 : Nat} {a1 : Int32} {a2 : Int32} (K : rb_Bd κ mX0_isExcluded n M 5 [some (.ref a0), some (.int a1), some (.int a2), some (.int (0 : Int32)), some (.int (0 : Int32))] []) : rb_Bd κ mX0_isExcluded n M 0 [some (.ref a0), some (.int a1), some (.int a2), none, none] [] := by
  refine rb_iconst (v := (0 : Int32)) (by decide) dX0_isExcluded_0 ?_
  refine rb_istore_n 3 rfl (ls' := [some (.ref a0), some (.int a1), some (.int a2), some (.int (0 : Int32)), none]) (by decide) rfl rfl dX0_isExcluded_1 ?_
  refine rb_iconst (v := (0 : Int32)) (by decide) dX0_isExcluded_2 ?_
  refine rb_istore (ls' := [some (.ref a0), some (.int a1), some (.int a2), some (.int (0 : Int32)), some (.int (0 : Int32))]) (by decide) rfl rfl dX0_isExcluded_3 ?_
  exact K
theorem sgX0_isExcluded_5 {κ : rb_K} {n : Nat × Nat} {M : rb_H} {a0 : Nat} {a1 : Int32} {a2 : Int32} {a3 : Int32} {a4 : Int32} (K : (∃ (x1 : Int32), rb_rd M a0 0 13 (.int x1) ∧ ((x1 ≤ a4 → (narrow .boolean (.int a3) = .int a3 ∧ rb_fin κ n ∧ κ.2.2.1 (.returned (some (.int a3))) M)) ∧ (a4 < x1 → (∃ (v3 : Value), rb_rd M a0 0 11 (v3) ∧ rb_isR v3 ∧ (∃ q4, v3 = .ref q4 ∧ (∃ (N5 : Nat) (f6 : Nat → Int32) (x7 : Int32), M.2 q4 = some (rb_I N5 f6) ∧ vp_in a4 N5 ∧ f6 (a4).toNatClampNeg = x7 ∧ ((¬ x7 = a1 → rb_Bd κ mX0_isExcluded n M 5 [some (.ref a0), some (.int a1), some (.int a2), some (.int (a3 ||| (0 : Int32))), some (.int (a4 + (1 : Int32)))] []) ∧ (x7 = a1 → (∃ (v9 : Value), rb_rd M a0 0 12 (v9) ∧ rb_isR v9 ∧ (∃ q10, v9 = .ref q10 ∧ (∃ (N11 : Nat) (f12 : Nat → Int32) (x13 : Int32), M.2 q10 = some (rb_I N11 f12) ∧ vp_in a4 N11 ∧ f12 (a4).toNatClampNeg = x13 ∧ ((¬ x13 = a2 → rb_Bd κ mX0_isExcluded n M 5 [some (.ref a0), some (.int a1), some (.int a2), some (.int (a3 ||| (0 : Int32))), some (.int (a4 + (1 : Int32)))] []) ∧ (x13 = a2 → rb_Bd κ mX0_isExcluded n M 5 [some (.ref a0), some (.int a1), some (.int a2), some (.int (a3 ||| (1 : Int32))), some (.int (a4 + (1 : Int32)))] [])))))))))))))) : rb_Bd κ mX0_isExcluded n M 5 [some (.ref a0), some (.int a1), some (.int a2), some (.int a3), some (.int a4)] [] := by
  refine rb_iload rfl dX0_isExcluded_5 ?_
  refine rb_aload_n 0 rfl rfl (rb_isR_ref _) dX0_isExcluded_7 ?_
  obtain ⟨x1, hrx1, Kx1⟩ := K
  refine rc_get fl_X0_266_0 hrx1 dX0_isExcluded_8 ?_
  refine rb_icge 50 (by decide) dX0_isExcluded_11 (fun c2 => ?_) (fun c2 => ?_)
  · skip
    refine rb_iload_n 3 rfl rfl dX0_isExcluded_50 ?_
    exact rb_iret rfl (((Kx1).1 c2)).1 (((Kx1).1 c2)).2.1.1 (((Kx1).1 c2)).2.1.2 dX0_isExcluded_51 (((Kx1).1 c2)).2.2
  · skip
    refine rb_iload_n 3 rfl rfl dX0_isExcluded_14 ?_
    refine rb_aload_n 0 rfl rfl (rb_isR_ref _) dX0_isExcluded_15 ?_
    obtain ⟨v3, hrv3, hv3, Kv3⟩ := ((Kx1).2 c2)
    refine rc_get fl_X0_149_0 hrv3 dX0_isExcluded_16 ?_
    refine rb_iload rfl dX0_isExcluded_19 ?_
    obtain ⟨q4, eq4, Kq4⟩ := Kv3
    subst eq4
    obtain ⟨N5, f6, x7, hMx7, hix7, hxx7, Kx7⟩ := Kq4
    refine rc_iald hMx7 hix7 hxx7 dX0_isExcluded_21 ?_
    refine rb_iload_n 1 rfl rfl dX0_isExcluded_22 ?_
    refine rb_icne 41 (by decide) dX0_isExcluded_23 (fun c8 => ?_) (fun c8 => ?_)
    · skip
      refine rb_iconst (v := (0 : Int32)) (by decide) dX0_isExcluded_41 ?_
      refine rb_ior (z := (a3 ||| (0 : Int32))) rfl dX0_isExcluded_42 ?_
      refine rb_istore_n 3 rfl (ls' := [some (.ref a0), some (.int a1), some (.int a2), some (.int (a3 ||| (0 : Int32))), some (.int a4)]) (by decide) rfl rfl dX0_isExcluded_43 ?_
      refine rb_iinc (ls' := [some (.ref a0), some (.int a1), some (.int a2), some (.int (a3 ||| (0 : Int32))), some (.int (a4 + (1 : Int32)))]) (v := (a4 + (1 : Int32))) rfl rfl (by decide) rfl rfl dX0_isExcluded_44 ?_
      refine rb_goto 5 (by decide) dX0_isExcluded_47 ?_
      exact ((Kx7).1 c8)
    · skip
      refine rb_aload_n 0 rfl rfl (rb_isR_ref _) dX0_isExcluded_26 ?_
      obtain ⟨v9, hrv9, hv9, Kv9⟩ := ((Kx7).2 c8)
      refine rc_get fl_X0_152_0 hrv9 dX0_isExcluded_27 ?_
      refine rb_iload rfl dX0_isExcluded_30 ?_
      obtain ⟨q10, eq10, Kq10⟩ := Kv9
      subst eq10
      obtain ⟨N11, f12, x13, hMx13, hix13, hxx13, Kx13⟩ := Kq10
      refine rc_iald hMx13 hix13 hxx13 dX0_isExcluded_32 ?_
      refine rb_iload_n 2 rfl rfl dX0_isExcluded_33 ?_
      refine rb_icne 41 (by decide) dX0_isExcluded_34 (fun c14 => ?_) (fun c14 => ?_)
      · skip
        refine rb_iconst (v := (0 : Int32)) (by decide) dX0_isExcluded_41 ?_
        refine rb_ior (z := (a3 ||| (0 : Int32))) rfl dX0_isExcluded_42 ?_
        refine rb_istore_n 3 rfl (ls' := [some (.ref a0), some (.int a1), some (.int a2), some (.int (a3 ||| (0 : Int32))), some (.int a4)]) (by decide) rfl rfl dX0_isExcluded_43 ?_
        refine rb_iinc (ls' := [some (.ref a0), some (.int a1), some (.int a2), some (.int (a3 ||| (0 : Int32))), some (.int (a4 + (1 : Int32)))]) (v := (a4 + (1 : Int32))) rfl rfl (by decide) rfl rfl dX0_isExcluded_44 ?_
        refine rb_goto 5 (by decide) dX0_isExcluded_47 ?_
        exact ((Kx13).1 c14)
      · skip
        refine rb_iconst (v := (1 : Int32)) (by decide) dX0_isExcluded_37 ?_
        refine rb_goto 42 (by decide) dX0_isExcluded_38 ?_
        refine rb_ior (z := (a3 ||| (1 : Int32))) rfl dX0_isExcluded_42 ?_
        refine rb_istore_n 3 rfl (ls' := [some (.ref a0), some (.int a1), some (.int a2), some (.int (a3 ||| (1 : Int32))), some (.int a4)]) (by decide) rfl rfl dX0_isExcluded_43 ?_
        refine rb_iinc (ls' := [some (.ref a0), some (.int a1), some (.int a2), some (.int (a3 ||| (1 : Int32))), some (.int (a4 + (1 : Int32)))]) (v := (a4 + (1 : Int32))) rfl rfl (by decide) rfl rfl dX0_isExcluded_44 ?_
        refine rb_goto 5 (by decide) dX0_isExcluded_47 ?_
        exact ((Kx13).2 c14)
theorem sgX0_isWhole_0 {κ : rb_K} {n : Nat × Nat} {M : rb_H} {a0 : Nat} {a1 : Value} (ha1 : rb_isR a1) (K : rb_Bd κ mX0_isWhole n M 2 [some (.ref a0), some a1, some (.int (0 : Int32)), none] []) : rb_Bd κ mX0_isWhole n M 0 [some (.ref a0), some a1, none, none] [] := by
  refine rb_iconst (v := (0 : Int32)) (by decide) dX0_isWhole_0 ?_
  refine rb_istore_n 2 rfl (ls' := [some (.ref a0), some a1, some (.int (0 : Int32)), none]) (by decide) (by simp [rb_o1, rb_isR_cat ha1]) rfl dX0_isWhole_1 ?_
  exact K
theorem sgX0_isWhole_2 {κ : rb_K} {n : Nat × Nat} {M : rb_H} {a0 : Nat} {a1 : Value} {a2 : Int32} (ha1 : rb_isR a1) (K : (∃ q1, a1 = .ref q1 ∧ (∃ (v2 : Value), rb_rd M q1 27 1 (v2) ∧ rb_isR v2 ∧ (∃ q3, v2 = .ref q3 ∧ (∃ (d4 : Nat) (n5 : Nat × Nat) (Q6 : Outcome → rb_H → Prop), rb_Ct κ.1 yJ4_size wJ4_size d4 n5 [.ref q3] M Q6 ∧ rb_dp κ d4 ∧ rb_rom κ (n.1 + n5.1, n.2 + n5.2) ∧ rb_ob M q3 7 ∧ ∀ (o : Outcome) (M8 : rb_H), Q6 o M8 → (∃ (x7 : Int32), o = .returned (some (.int x7)) ∧ ((x7 ≤ a2 → rb_Bd κ mX0_isWhole (n.1 + n5.1, n.2 + n5.2) M8 91 [some (.ref a0), some (.ref q1), some (.int (0 : Int32)), none] []) ∧ (a2 < x7 → rb_Bd κ mX0_isWhole (n.1 + n5.1, n.2 + n5.2) M8 15 [some (.ref a0), some (.ref q1), some (.int a2), some (.int (0 : Int32))] [])))))))) : rb_Bd κ mX0_isWhole n M 2 [some (.ref a0), some a1, some (.int a2), none] [] := by
  refine rb_iload_n 2 rfl rfl dX0_isWhole_2 ?_
  refine rb_aload_n 1 rfl rfl ha1 dX0_isWhole_3 ?_
  obtain ⟨q1, eq1, Kq1⟩ := K
  subst eq1
  obtain ⟨v2, hrv2, hv2, Kv2⟩ := Kq1
  refine rc_get fl_X0_291_27 hrv2 dX0_isWhole_4 ?_
  obtain ⟨q3, eq3, Kq3⟩ := Kv2
  subst eq3
  obtain ⟨d4, n5, Q6, h1x7, hdx7, hnx7, hox7, Kx7⟩ := Kq3
  refine rb_call st_X0_201_7 (rest := [.int a2]) h1x7 rfl rfl (rc_rc rfl hox7) (Nat.le_of_ble_eq_true rfl) hdx7.1 hdx7.2 hnx7.1 hnx7.2 dX0_isWhole_7 (fun o M8 hpx7 => ?_)
  obtain ⟨x7, eo, KKx7⟩ := Kx7 o M8 hpx7
  subst eo
  show rb_Bd κ mX0_isWhole (n.1 + n5.1, n.2 + n5.2) M8 10 [some (.ref a0), some (.ref q1), some (.int a2), none] [.int x7, .int a2]
  refine rb_icge 89 (by decide) dX0_isWhole_10 (fun c9 => ?_) (fun c9 => ?_)
  · skip
    refine rb_iconst (v := (0 : Int32)) (by decide) dX0_isWhole_89 ?_
    refine rb_istore_n 2 rfl (ls' := [some (.ref a0), some (.ref q1), some (.int (0 : Int32)), none]) (by decide) rfl rfl dX0_isWhole_90 ?_
    exact ((KKx7).1 c9)
  · skip
    refine rb_iconst (v := (0 : Int32)) (by decide) dX0_isWhole_13 ?_
    refine rb_istore_n 3 rfl (ls' := [some (.ref a0), some (.ref q1), some (.int a2), some (.int (0 : Int32))]) (by decide) rfl rfl dX0_isWhole_14 ?_
    exact ((KKx7).2 c9)
theorem sgX0_isWhole_15 {κ : rb_K} {n : Nat × Nat} {M : rb_H} {a0 : Nat} {a1 : Value} {a2 : Int32} {a3 : Int32} (ha1 : rb_isR a1) (K : (((12 : Int32) ≤ a3 → rb_Bd κ mX0_isWhole n M 2 [some (.ref a0), some a1, some (.int (a2 + (1 : Int32))), some (.int a3)] []) ∧ (a3 < (12 : Int32) → (∃ q2, a1 = .ref q2 ∧ (∃ (v3 : Value), rb_rd M q2 27 1 (v3) ∧ rb_isR v3 ∧ (∃ q4, v3 = .ref q4 ∧ (∃ (d5 : Nat) (n6 : Nat × Nat) (Q7 : Outcome → rb_H → Prop), rb_Ct κ.1 yJ4_get wJ4_get d5 n6 [.ref q4, .int a2] M Q7 ∧ rb_dp κ d5 ∧ rb_rom κ (n.1 + n6.1, n.2 + n6.2) ∧ rb_ob M q4 7 ∧ ∀ (o : Outcome) (M9 : rb_H), Q7 o M9 → (∃ (v8 : Value), o = .returned (some v8) ∧ rb_isR v8 ∧ (∃ q10, v8 = .ref q10 ∧ (∃ ci11, rb_ob M9 q10 ci11 ∧ rb_CC ci11 "RoleLoom$Part" ∧ (∃ (v12 : Value), rb_rd M9 q10 5 8 (v12) ∧ rb_isR v12 ∧ (∃ q13, v12 = .ref q13 ∧ (∃ (N14 : Nat) (f15 : Nat → Int32) (x16 : Int32), M9.2 q13 = some (rb_Z N14 f15) ∧ vp_in a3 N14 ∧ f15 (a3).toNatClampNeg = x16 ∧ ((x16 = 0 → rb_Bd κ mX0_isWhole (n.1 + n6.1, n.2 + n6.2) M9 15 [some (.ref a0), some (.ref q2), some (.int a2), some (.int (a3 + (1 : Int32)))] []) ∧ (¬ x16 = 0 → (∃ (v18 : Value), rb_rd M9 q2 27 2 (v18) ∧ rb_isR v18 ∧ (∃ q19, v18 = .ref q19 ∧ (∃ (d20 : Nat) (n21 : Nat × Nat) (Q22 : Outcome → rb_H → Prop), rb_Ct κ.1 yJ4_get wJ4_get d20 n21 [.ref q19, .int a3] M9 Q22 ∧ rb_dp κ d20 ∧ rb_rom κ (n.1 + n6.1 + n21.1, n.2 + n6.2 + n21.2) ∧ rb_ob M9 q19 7 ∧ ∀ (o : Outcome) (M24 : rb_H), Q22 o M24 → (∃ (v23 : Value), o = .returned (some v23) ∧ rb_isR v23 ∧ (∃ q25, v23 = .ref q25 ∧ (∃ ci26, rb_ob M24 q25 ci26 ∧ rb_CC ci26 "java/util/ArrayList" ∧ (∃ (d27 : Nat) (n28 : Nat × Nat) (Q29 : Outcome → rb_H → Prop), rb_Ct κ.1 yX0_hasGiver wX0_hasGiver d27 n28 [.ref q25] M24 Q29 ∧ rb_dp κ d27 ∧ rb_rom κ (n.1 + n6.1 + n21.1 + n28.1, n.2 + n6.2 + n21.2 + n28.2) ∧ ∀ (o : Outcome) (M31 : rb_H), Q29 o M31 → (∃ (x30 : Int32), o = .returned (some (.int x30)) ∧ ((¬ x30 = 0 → rb_Bd κ mX0_isWhole (n.1 + n6.1 + n21.1 + n28.1, n.2 + n6.2 + n21.2 + n28.2) M31 15 [some (.ref a0), some (.ref q2), some (.int a2), some (.int (a3 + (1 : Int32)))] []) ∧ (x30 = 0 → (∃ (v33 : Value), rb_rd M31 q2 27 1 (v33) ∧ rb_isR v33 ∧ (∃ q34, v33 = .ref q34 ∧ (∃ (d35 : Nat) (n36 : Nat × Nat) (Q37 : Outcome → rb_H → Prop), rb_Ct κ.1 yJ4_get wJ4_get d35 n36 [.ref q34, .int a2] M31 Q37 ∧ rb_dp κ d35 ∧ rb_rom κ (n.1 + n6.1 + n21.1 + n28.1 + n36.1, n.2 + n6.2 + n21.2 + n28.2 + n36.2) ∧ rb_ob M31 q34 7 ∧ ∀ (o : Outcome) (M39 : rb_H), Q37 o M39 → (∃ (v38 : Value), o = .returned (some v38) ∧ rb_isR v38 ∧ (∃ q40, v38 = .ref q40 ∧ (∃ ci41, rb_ob M39 q40 ci41 ∧ rb_CC ci41 "RoleLoom$Part" ∧ (∃ (x42 : Int32), rb_rd M39 q40 5 0 (.int x42) ∧ (∃ (d43 : Nat) (n44 : Nat × Nat) (Q45 : Outcome → rb_H → Prop), rb_Ct κ.1 yX0_lacks wX0_lacks d43 n44 [.ref a0, .int x42, .int a3] M39 Q45 ∧ rb_dp κ d43 ∧ rb_rom κ (n.1 + n6.1 + n21.1 + n28.1 + n36.1 + n44.1, n.2 + n6.2 + n21.2 + n28.2 + n36.2 + n44.2) ∧ rb_ob M39 a0 0 ∧ ∀ (o : Outcome) (M47 : rb_H), Q45 o M47 → (∃ (x46 : Int32), o = .returned (some (.int x46)) ∧ (narrow .boolean (.int x46) = .int x46 ∧ rb_fin κ (n.1 + n6.1 + n21.1 + n28.1 + n36.1 + n44.1, n.2 + n6.2 + n21.2 + n28.2 + n36.2 + n44.2) ∧ κ.2.2.1 (.returned (some (.int x46))) M47))))))))))))))))))))))))))))))))))) : rb_Bd κ mX0_isWhole n M 15 [some (.ref a0), some a1, some (.int a2), some (.int a3)] [] := by
  refine rb_iload_n 3 rfl rfl dX0_isWhole_15 ?_
  refine rb_bipush (v := (12 : Int32)) (by decide) dX0_isWhole_16 ?_
  refine rb_icge 83 (by decide) dX0_isWhole_18 (fun c1 => ?_) (fun c1 => ?_)
  · skip
    refine rb_iinc (ls' := [some (.ref a0), some a1, some (.int (a2 + (1 : Int32))), some (.int a3)]) (v := (a2 + (1 : Int32))) rfl rfl (by decide) (by simp [rb_o1, rb_isR_cat ha1]) rfl dX0_isWhole_83 ?_
    refine rb_goto 2 (by decide) dX0_isWhole_86 ?_
    exact ((K).1 c1)
  · skip
    refine rb_aload_n 1 rfl rfl ha1 dX0_isWhole_21 ?_
    obtain ⟨q2, eq2, Kq2⟩ := ((K).2 c1)
    subst eq2
    obtain ⟨v3, hrv3, hv3, Kv3⟩ := Kq2
    refine rc_get fl_X0_291_27 hrv3 dX0_isWhole_22 ?_
    refine rb_iload_n 2 rfl rfl dX0_isWhole_25 ?_
    obtain ⟨q4, eq4, Kq4⟩ := Kv3
    subst eq4
    obtain ⟨d5, n6, Q7, h1v8, hdv8, hnv8, hov8, Kv8⟩ := Kq4
    refine rb_call st_X0_218_7 (rest := []) h1v8 rfl rfl (rc_rc rfl hov8) (Nat.le_of_ble_eq_true rfl) hdv8.1 hdv8.2 hnv8.1 hnv8.2 dX0_isWhole_26 (fun o M9 hpv8 => ?_)
    obtain ⟨v8, eo, hv8, KKv8⟩ := Kv8 o M9 hpv8
    subst eo
    show rb_Bd κ mX0_isWhole (n.1 + n6.1, n.2 + n6.2) M9 29 [some (.ref a0), some (.ref q2), some (.int a2), some (.int a3)] [v8]
    obtain ⟨q10, eq10, Kq10⟩ := KKv8
    subst eq10
    obtain ⟨ci11, ⟨fsci11, hoci11⟩, hcci11, Kci11⟩ := Kq10
    refine rb_cast q416 hoci11 hcci11 dX0_isWhole_29 ?_
    obtain ⟨v12, hrv12, hv12, Kv12⟩ := Kci11
    refine rc_get fl_X0_263_5 hrv12 dX0_isWhole_32 ?_
    refine rb_iload_n 3 rfl rfl dX0_isWhole_35 ?_
    obtain ⟨q13, eq13, Kq13⟩ := Kv12
    subst eq13
    obtain ⟨N14, f15, x16, hMx16, hix16, hxx16, Kx16⟩ := Kq13
    refine rc_zald hMx16 hix16 hxx16 dX0_isWhole_36 ?_
    refine rb_ifeq 77 (by decide) dX0_isWhole_37 (fun c17 => ?_) (fun c17 => ?_)
    · skip
      refine rb_iinc (ls' := [some (.ref a0), some (.ref q2), some (.int a2), some (.int (a3 + (1 : Int32)))]) (v := (a3 + (1 : Int32))) rfl rfl (by decide) rfl rfl dX0_isWhole_77 ?_
      refine rb_goto 15 (by decide) dX0_isWhole_80 ?_
      exact ((Kx16).1 c17)
    · skip
      refine rb_aload_n 1 rfl rfl (rb_isR_ref _) dX0_isWhole_40 ?_
      obtain ⟨v18, hrv18, hv18, Kv18⟩ := ((Kx16).2 c17)
      refine rc_get fl_X0_300_27 hrv18 dX0_isWhole_41 ?_
      refine rb_iload_n 3 rfl rfl dX0_isWhole_44 ?_
      obtain ⟨q19, eq19, Kq19⟩ := Kv18
      subst eq19
      obtain ⟨d20, n21, Q22, h1v23, hdv23, hnv23, hov23, Kv23⟩ := Kq19
      refine rb_call st_X0_218_7 (rest := []) h1v23 rfl rfl (rc_rc rfl hov23) (Nat.le_of_ble_eq_true rfl) hdv23.1 hdv23.2 hnv23.1 hnv23.2 dX0_isWhole_45 (fun o M24 hpv23 => ?_)
      obtain ⟨v23, eo, hv23, KKv23⟩ := Kv23 o M24 hpv23
      subst eo
      show rb_Bd κ mX0_isWhole (n.1 + n6.1 + n21.1, n.2 + n6.2 + n21.2) M24 48 [some (.ref a0), some (.ref q2), some (.int a2), some (.int a3)] [v23]
      obtain ⟨q25, eq25, Kq25⟩ := KKv23
      subst eq25
      obtain ⟨ci26, ⟨fsci26, hoci26⟩, hcci26, Kci26⟩ := Kq25
      refine rb_cast q212 hoci26 hcci26 dX0_isWhole_48 ?_
      obtain ⟨d27, n28, Q29, h1x30, hdx30, hnx30, Kx30⟩ := Kci26
      refine rb_call st_X0_306 (rest := []) h1x30 rfl rfl mm_rn (Nat.le_of_ble_eq_true rfl) hdx30.1 hdx30.2 hnx30.1 hnx30.2 dX0_isWhole_51 (fun o M31 hpx30 => ?_)
      obtain ⟨x30, eo, KKx30⟩ := Kx30 o M31 hpx30
      subst eo
      show rb_Bd κ mX0_isWhole (n.1 + n6.1 + n21.1 + n28.1, n.2 + n6.2 + n21.2 + n28.2) M31 54 [some (.ref a0), some (.ref q2), some (.int a2), some (.int a3)] [.int x30]
      refine rb_ifne 77 (by decide) dX0_isWhole_54 (fun c32 => ?_) (fun c32 => ?_)
      · skip
        refine rb_iinc (ls' := [some (.ref a0), some (.ref q2), some (.int a2), some (.int (a3 + (1 : Int32)))]) (v := (a3 + (1 : Int32))) rfl rfl (by decide) rfl rfl dX0_isWhole_77 ?_
        refine rb_goto 15 (by decide) dX0_isWhole_80 ?_
        exact ((KKx30).1 c32)
      · skip
        refine rb_aload_n 0 rfl rfl (rb_isR_ref _) dX0_isWhole_57 ?_
        refine rb_aload_n 1 rfl rfl (rb_isR_ref _) dX0_isWhole_58 ?_
        obtain ⟨v33, hrv33, hv33, Kv33⟩ := ((KKx30).2 c32)
        refine rc_get fl_X0_291_27 hrv33 dX0_isWhole_59 ?_
        refine rb_iload_n 2 rfl rfl dX0_isWhole_62 ?_
        obtain ⟨q34, eq34, Kq34⟩ := Kv33
        subst eq34
        obtain ⟨d35, n36, Q37, h1v38, hdv38, hnv38, hov38, Kv38⟩ := Kq34
        refine rb_call st_X0_218_7 (rest := [.ref a0]) h1v38 rfl rfl (rc_rc rfl hov38) (Nat.le_of_ble_eq_true rfl) hdv38.1 hdv38.2 hnv38.1 hnv38.2 dX0_isWhole_63 (fun o M39 hpv38 => ?_)
        obtain ⟨v38, eo, hv38, KKv38⟩ := Kv38 o M39 hpv38
        subst eo
        show rb_Bd κ mX0_isWhole (n.1 + n6.1 + n21.1 + n28.1 + n36.1, n.2 + n6.2 + n21.2 + n28.2 + n36.2) M39 66 [some (.ref a0), some (.ref q2), some (.int a2), some (.int a3)] [v38, .ref a0]
        obtain ⟨q40, eq40, Kq40⟩ := KKv38
        subst eq40
        obtain ⟨ci41, ⟨fsci41, hoci41⟩, hcci41, Kci41⟩ := Kq40
        refine rb_cast q416 hoci41 hcci41 dX0_isWhole_66 ?_
        obtain ⟨x42, hrx42, Kx42⟩ := Kci41
        refine rc_get fl_X0_272_5 hrx42 dX0_isWhole_69 ?_
        refine rb_iload_n 3 rfl rfl dX0_isWhole_72 ?_
        obtain ⟨d43, n44, Q45, h1x46, hdx46, hnx46, hox46, Kx46⟩ := Kx42
        refine rb_call st_X0_310_0 (rest := []) h1x46 rfl rfl (rc_rc rfl hox46) (Nat.le_of_ble_eq_true rfl) hdx46.1 hdx46.2 hnx46.1 hnx46.2 dX0_isWhole_73 (fun o M47 hpx46 => ?_)
        obtain ⟨x46, eo, KKx46⟩ := Kx46 o M47 hpx46
        subst eo
        show rb_Bd κ mX0_isWhole (n.1 + n6.1 + n21.1 + n28.1 + n36.1 + n44.1, n.2 + n6.2 + n21.2 + n28.2 + n36.2 + n44.2) M47 76 [some (.ref a0), some (.ref q2), some (.int a2), some (.int a3)] [.int x46]
        exact rb_iret rfl (KKx46).1 (KKx46).2.1.1 (KKx46).2.1.2 dX0_isWhole_76 (KKx46).2.2
theorem sgX0_isWhole_91 {κ : rb_K} {n : Nat × Nat} {M : rb_H} {a0 : Nat} {a1 : Value} {a2 : Int32} (ha1 : rb_isR a1) (K : (((4 : Int32) ≤ a2 → (rb_fin κ n ∧ κ.2.2.1 (.returned (some (.int (1 : Int32)))) M)) ∧ (a2 < (4 : Int32) → (∃ (v2 : Value), rb_rd M a0 0 14 (v2) ∧ rb_isR v2 ∧ (∃ q3, v2 = .ref q3 ∧ (∃ (N4 : Nat) (f5 : Nat → Int32) (x6 : Int32), M.2 q3 = some (rb_I N4 f5) ∧ vp_in a2 N4 ∧ f5 (a2).toNatClampNeg = x6 ∧ ((x6 = (-9 : Int32) → rb_Bd κ mX0_isWhole n M 91 [some (.ref a0), some a1, some (.int (a2 + (1 : Int32))), none] []) ∧ (¬ x6 = (-9 : Int32) → (∃ (v8 : Value), rb_rd M a0 0 2 (v8) ∧ rb_isR v8 ∧ (∃ (v9 : Value), rb_rd M a0 0 14 (v9) ∧ rb_isR v9 ∧ (∃ q10, v9 = .ref q10 ∧ (∃ (N11 : Nat) (f12 : Nat → Int32) (x13 : Int32), M.2 q10 = some (rb_I N11 f12) ∧ vp_in a2 N11 ∧ f12 (a2).toNatClampNeg = x13 ∧ (∃ q14, v8 = .ref q14 ∧ (∃ (d15 : Nat) (n16 : Nat × Nat) (Q17 : Outcome → rb_H → Prop), rb_Ct κ.1 yJ4_get wJ4_get d15 n16 [.ref q14, .int x13] M Q17 ∧ rb_dp κ d15 ∧ rb_rom κ (n.1 + n16.1, n.2 + n16.2) ∧ rb_ob M q14 7 ∧ ∀ (o : Outcome) (M19 : rb_H), Q17 o M19 → (∃ (v18 : Value), o = .returned (some v18) ∧ rb_isR v18 ∧ (∃ q20, v18 = .ref q20 ∧ (∃ ci21, rb_ob M19 q20 ci21 ∧ rb_CC ci21 "RoleLoom$Part" ∧ (∃ (v22 : Value), rb_rd M19 q20 5 5 (v22) ∧ rb_isR v22 ∧ (∃ (v23 : Value), rb_rd M19 a0 0 15 (v23) ∧ rb_isR v23 ∧ (∃ q24, v23 = .ref q24 ∧ (∃ (N25 : Nat) (f26 : Nat → Int32) (x27 : Int32), M19.2 q24 = some (rb_I N25 f26) ∧ vp_in a2 N25 ∧ f26 (a2).toNatClampNeg = x27 ∧ (∃ q28, v22 = .ref q28 ∧ (∃ (t32 N29 : Nat) (f30 : Nat → Option Nat) (v31 : Value), M19.2 q28 = some (rb_R t32 N29 f30) ∧ (3 ≤ t32 ∧ t32 ≤ 6) ∧ vp_in x27 N29 ∧ va_rf (f30 (x27).toNatClampNeg) = v31 ∧ ((v31 = .null → (∃ (v34 : Value), rb_rd M19 a0 0 14 (v34) ∧ rb_isR v34 ∧ (∃ q35, v34 = .ref q35 ∧ (∃ (N36 : Nat) (f37 : Nat → Int32) (x38 : Int32), M19.2 q35 = some (rb_I N36 f37) ∧ vp_in a2 N36 ∧ f37 (a2).toNatClampNeg = x38 ∧ (∃ (v39 : Value), rb_rd M19 a0 0 15 (v39) ∧ rb_isR v39 ∧ (∃ q40, v39 = .ref q40 ∧ (∃ (N41 : Nat) (f42 : Nat → Int32) (x43 : Int32), M19.2 q40 = some (rb_I N41 f42) ∧ vp_in a2 N41 ∧ f42 (a2).toNatClampNeg = x43 ∧ (∃ (d44 : Nat) (n45 : Nat × Nat) (Q46 : Outcome → rb_H → Prop), rb_Ct κ.1 yX0_lacks wX0_lacks d44 n45 [.ref a0, .int x38, .int x43] M19 Q46 ∧ rb_dp κ d44 ∧ rb_rom κ (n.1 + n16.1 + n45.1, n.2 + n16.2 + n45.2) ∧ rb_ob M19 a0 0 ∧ ∀ (o : Outcome) (M48 : rb_H), Q46 o M48 → (∃ (x47 : Int32), o = .returned (some (.int x47)) ∧ (narrow .boolean (.int x47) = .int x47 ∧ rb_fin κ (n.1 + n16.1 + n45.1, n.2 + n16.2 + n45.2) ∧ κ.2.2.1 (.returned (some (.int x47))) M48)))))))))) ∧ (∀ q33, v31 = .ref q33 → (∃ q49, a1 = .ref q49 ∧ (∃ (v50 : Value), rb_rd M19 q49 27 2 (v50) ∧ rb_isR v50 ∧ (∃ (v51 : Value), rb_rd M19 a0 0 15 (v51) ∧ rb_isR v51 ∧ (∃ q52, v51 = .ref q52 ∧ (∃ (N53 : Nat) (f54 : Nat → Int32) (x55 : Int32), M19.2 q52 = some (rb_I N53 f54) ∧ vp_in a2 N53 ∧ f54 (a2).toNatClampNeg = x55 ∧ (∃ q56, v50 = .ref q56 ∧ (∃ (d57 : Nat) (n58 : Nat × Nat) (Q59 : Outcome → rb_H → Prop), rb_Ct κ.1 yJ4_get wJ4_get d57 n58 [.ref q56, .int x55] M19 Q59 ∧ rb_dp κ d57 ∧ rb_rom κ (n.1 + n16.1 + n58.1, n.2 + n16.2 + n58.2) ∧ rb_ob M19 q56 7 ∧ ∀ (o : Outcome) (M61 : rb_H), Q59 o M61 → (∃ (v60 : Value), o = .returned (some v60) ∧ rb_isR v60 ∧ (∃ q62, v60 = .ref q62 ∧ (∃ ci63, rb_ob M61 q62 ci63 ∧ rb_CC ci63 "java/util/ArrayList" ∧ (∃ (d64 : Nat) (n65 : Nat × Nat) (Q66 : Outcome → rb_H → Prop), rb_Ct κ.1 yJ4_contains wJ4_contains d64 n65 [.ref q62, .ref q33] M61 Q66 ∧ rb_dp κ d64 ∧ rb_rom κ (n.1 + n16.1 + n58.1 + n65.1, n.2 + n16.2 + n58.2 + n65.2) ∧ rb_ob M61 q62 7 ∧ ∀ (o : Outcome) (M68 : rb_H), Q66 o M68 → (∃ (x67 : Int32), o = .returned (some (.int x67)) ∧ ((¬ x67 = 0 → (∃ (v70 : Value), rb_rd M68 q49 27 3 (v70) ∧ rb_isR v70 ∧ (∃ q71, v70 = .ref q71 ∧ (∃ (t72 N73 ci75 : Nat) (f74 : Nat → Option Nat), M68.2 q71 = some (rb_R t72 N73 f74) ∧ (3 ≤ t72 ∧ t72 ≤ 6) ∧ vp_in a2 N73 ∧ rb_ob M68 q33 ci75 ∧ rb_AS ci75 t72 ∧ rb_Bd κ mX0_isWhole (n.1 + n16.1 + n58.1 + n65.1, n.2 + n16.2 + n58.2 + n65.2) (rb_up M68 q71 (rb_R t72 N73 (va_up f74 (a2).toNatClampNeg (some q33)))) 91 [some (.ref a0), some (.ref q49), some (.int (a2 + (1 : Int32))), some (.ref q33)] [])))) ∧ (x67 = 0 → (∃ (v76 : Value), rb_rd M68 a0 0 14 (v76) ∧ rb_isR v76 ∧ (∃ q77, v76 = .ref q77 ∧ (∃ (N78 : Nat) (f79 : Nat → Int32) (x80 : Int32), M68.2 q77 = some (rb_I N78 f79) ∧ vp_in a2 N78 ∧ f79 (a2).toNatClampNeg = x80 ∧ (∃ (v81 : Value), rb_rd M68 a0 0 15 (v81) ∧ rb_isR v81 ∧ (∃ q82, v81 = .ref q82 ∧ (∃ (N83 : Nat) (f84 : Nat → Int32) (x85 : Int32), M68.2 q82 = some (rb_I N83 f84) ∧ vp_in a2 N83 ∧ f84 (a2).toNatClampNeg = x85 ∧ (∃ (d86 : Nat) (n87 : Nat × Nat) (Q88 : Outcome → rb_H → Prop), rb_Ct κ.1 yX0_lacks wX0_lacks d86 n87 [.ref a0, .int x80, .int x85] M68 Q88 ∧ rb_dp κ d86 ∧ rb_rom κ (n.1 + n16.1 + n58.1 + n65.1 + n87.1, n.2 + n16.2 + n58.2 + n65.2 + n87.2) ∧ rb_ob M68 a0 0 ∧ ∀ (o : Outcome) (M90 : rb_H), Q88 o M90 → (∃ (x89 : Int32), o = .returned (some (.int x89)) ∧ (narrow .boolean (.int x89) = .int x89 ∧ rb_fin κ (n.1 + n16.1 + n58.1 + n65.1 + n87.1, n.2 + n16.2 + n58.2 + n65.2 + n87.2) ∧ κ.2.2.1 (.returned (some (.int x89))) M90)))))))))))))))))))))))))))))))))))))))))))))))) : rb_Bd κ mX0_isWhole n M 91 [some (.ref a0), some a1, some (.int a2), none] [] := by
  refine rb_iload_n 2 rfl rfl dX0_isWhole_91 ?_
  refine rb_iconst (v := (4 : Int32)) (by decide) dX0_isWhole_92 ?_
  refine rb_icge 191 (by decide) dX0_isWhole_93 (fun c1 => ?_) (fun c1 => ?_)
  · skip
    refine rb_iconst (v := (1 : Int32)) (by decide) dX0_isWhole_191 ?_
    exact rb_iret rfl (by decide) (((K).1 c1)).1.1 (((K).1 c1)).1.2 dX0_isWhole_192 (((K).1 c1)).2
  · skip
    refine rb_aload_n 0 rfl rfl (rb_isR_ref _) dX0_isWhole_96 ?_
    obtain ⟨v2, hrv2, hv2, Kv2⟩ := ((K).2 c1)
    refine rc_get fl_X0_155_0 hrv2 dX0_isWhole_97 ?_
    refine rb_iload_n 2 rfl rfl dX0_isWhole_100 ?_
    obtain ⟨q3, eq3, Kq3⟩ := Kv2
    subst eq3
    obtain ⟨N4, f5, x6, hMx6, hix6, hxx6, Kx6⟩ := Kq3
    refine rc_iald hMx6 hix6 hxx6 dX0_isWhole_101 ?_
    refine rb_bipush (v := (-9 : Int32)) (by decide) dX0_isWhole_102 ?_
    refine rb_iceq 185 (by decide) dX0_isWhole_104 (fun c7 => ?_) (fun c7 => ?_)
    · skip
      refine rb_iinc (ls' := [some (.ref a0), some a1, some (.int (a2 + (1 : Int32))), none]) (v := (a2 + (1 : Int32))) rfl rfl (by decide) (by simp [rb_o1, rb_isR_cat ha1]) rfl dX0_isWhole_185 ?_
      refine rb_goto 91 (by decide) dX0_isWhole_188 ?_
      exact ((Kx6).1 c7)
    · skip
      refine rb_aload_n 0 rfl rfl (rb_isR_ref _) dX0_isWhole_107 ?_
      obtain ⟨v8, hrv8, hv8, Kv8⟩ := ((Kx6).2 c7)
      refine rc_get fl_X0_125_0 hrv8 dX0_isWhole_108 ?_
      refine rb_aload_n 0 rfl rfl (rb_isR_ref _) dX0_isWhole_111 ?_
      obtain ⟨v9, hrv9, hv9, Kv9⟩ := Kv8
      refine rc_get fl_X0_155_0 hrv9 dX0_isWhole_112 ?_
      refine rb_iload_n 2 rfl rfl dX0_isWhole_115 ?_
      obtain ⟨q10, eq10, Kq10⟩ := Kv9
      subst eq10
      obtain ⟨N11, f12, x13, hMx13, hix13, hxx13, Kx13⟩ := Kq10
      refine rc_iald hMx13 hix13 hxx13 dX0_isWhole_116 ?_
      obtain ⟨q14, eq14, Kq14⟩ := Kx13
      subst eq14
      obtain ⟨d15, n16, Q17, h1v18, hdv18, hnv18, hov18, Kv18⟩ := Kq14
      refine rb_call st_X0_218_7 (rest := []) h1v18 rfl rfl (rc_rc rfl hov18) (Nat.le_of_ble_eq_true rfl) hdv18.1 hdv18.2 hnv18.1 hnv18.2 dX0_isWhole_117 (fun o M19 hpv18 => ?_)
      obtain ⟨v18, eo, hv18, KKv18⟩ := Kv18 o M19 hpv18
      subst eo
      show rb_Bd κ mX0_isWhole (n.1 + n16.1, n.2 + n16.2) M19 120 [some (.ref a0), some a1, some (.int a2), none] [v18]
      obtain ⟨q20, eq20, Kq20⟩ := KKv18
      subst eq20
      obtain ⟨ci21, ⟨fsci21, hoci21⟩, hcci21, Kci21⟩ := Kq20
      refine rb_cast q416 hoci21 hcci21 dX0_isWhole_120 ?_
      obtain ⟨v22, hrv22, hv22, Kv22⟩ := Kci21
      refine rc_get fl_X0_241_5 hrv22 dX0_isWhole_123 ?_
      refine rb_aload_n 0 rfl rfl (rb_isR_ref _) dX0_isWhole_126 ?_
      obtain ⟨v23, hrv23, hv23, Kv23⟩ := Kv22
      refine rc_get fl_X0_158_0 hrv23 dX0_isWhole_127 ?_
      refine rb_iload_n 2 rfl rfl dX0_isWhole_130 ?_
      obtain ⟨q24, eq24, Kq24⟩ := Kv23
      subst eq24
      obtain ⟨N25, f26, x27, hMx27, hix27, hxx27, Kx27⟩ := Kq24
      refine rc_iald hMx27 hix27 hxx27 dX0_isWhole_131 ?_
      obtain ⟨q28, eq28, Kq28⟩ := Kx27
      subst eq28
      obtain ⟨t32, N29, f30, v31, hMv31, htv31, hiv31, hxv31, Kv31⟩ := Kq28
      have hv31 := rc_isRf hxv31
      refine rc_aald hMv31 htv31 hiv31 hxv31 dX0_isWhole_132 ?_
      refine rb_astore_n 3 rfl (ls' := [some (.ref a0), some a1, some (.int a2), some v31]) (by decide) rfl rfl hv31 dX0_isWhole_133 ?_
      refine rb_aload_n 3 rfl rfl hv31 dX0_isWhole_134 ?_
      refine rb_ifnull hv31 161 (by decide) dX0_isWhole_135 (fun e => ?_) (fun q33 e => ?_)
      · subst e
        refine rb_aload_n 0 rfl rfl (rb_isR_ref _) dX0_isWhole_161 ?_
        refine rb_aload_n 0 rfl rfl (rb_isR_ref _) dX0_isWhole_162 ?_
        obtain ⟨v34, hrv34, hv34, Kv34⟩ := ((Kv31).1 rfl)
        refine rc_get fl_X0_155_0 hrv34 dX0_isWhole_163 ?_
        refine rb_iload_n 2 rfl rfl dX0_isWhole_166 ?_
        obtain ⟨q35, eq35, Kq35⟩ := Kv34
        subst eq35
        obtain ⟨N36, f37, x38, hMx38, hix38, hxx38, Kx38⟩ := Kq35
        refine rc_iald hMx38 hix38 hxx38 dX0_isWhole_167 ?_
        refine rb_aload_n 0 rfl rfl (rb_isR_ref _) dX0_isWhole_168 ?_
        obtain ⟨v39, hrv39, hv39, Kv39⟩ := Kx38
        refine rc_get fl_X0_158_0 hrv39 dX0_isWhole_169 ?_
        refine rb_iload_n 2 rfl rfl dX0_isWhole_172 ?_
        obtain ⟨q40, eq40, Kq40⟩ := Kv39
        subst eq40
        obtain ⟨N41, f42, x43, hMx43, hix43, hxx43, Kx43⟩ := Kq40
        refine rc_iald hMx43 hix43 hxx43 dX0_isWhole_173 ?_
        obtain ⟨d44, n45, Q46, h1x47, hdx47, hnx47, hox47, Kx47⟩ := Kx43
        refine rb_call st_X0_310_0 (rest := []) h1x47 rfl rfl (rc_rc rfl hox47) (Nat.le_of_ble_eq_true rfl) hdx47.1 hdx47.2 hnx47.1 hnx47.2 dX0_isWhole_174 (fun o M48 hpx47 => ?_)
        obtain ⟨x47, eo, KKx47⟩ := Kx47 o M48 hpx47
        subst eo
        show rb_Bd κ mX0_isWhole (n.1 + n16.1 + n45.1, n.2 + n16.2 + n45.2) M48 177 [some (.ref a0), some a1, some (.int a2), some (.null)] [.int x47]
        exact rb_iret rfl (KKx47).1 (KKx47).2.1.1 (KKx47).2.1.2 dX0_isWhole_177 (KKx47).2.2
      · subst e
        refine rb_aload_n 1 rfl rfl ha1 dX0_isWhole_138 ?_
        obtain ⟨q49, eq49, Kq49⟩ := ((Kv31).2 q33 rfl)
        subst eq49
        obtain ⟨v50, hrv50, hv50, Kv50⟩ := Kq49
        refine rc_get fl_X0_300_27 hrv50 dX0_isWhole_139 ?_
        refine rb_aload_n 0 rfl rfl (rb_isR_ref _) dX0_isWhole_142 ?_
        obtain ⟨v51, hrv51, hv51, Kv51⟩ := Kv50
        refine rc_get fl_X0_158_0 hrv51 dX0_isWhole_143 ?_
        refine rb_iload_n 2 rfl rfl dX0_isWhole_146 ?_
        obtain ⟨q52, eq52, Kq52⟩ := Kv51
        subst eq52
        obtain ⟨N53, f54, x55, hMx55, hix55, hxx55, Kx55⟩ := Kq52
        refine rc_iald hMx55 hix55 hxx55 dX0_isWhole_147 ?_
        obtain ⟨q56, eq56, Kq56⟩ := Kx55
        subst eq56
        obtain ⟨d57, n58, Q59, h1v60, hdv60, hnv60, hov60, Kv60⟩ := Kq56
        refine rb_call st_X0_218_7 (rest := []) h1v60 rfl rfl (rc_rc rfl hov60) (Nat.le_of_ble_eq_true rfl) hdv60.1 hdv60.2 hnv60.1 hnv60.2 dX0_isWhole_148 (fun o M61 hpv60 => ?_)
        obtain ⟨v60, eo, hv60, KKv60⟩ := Kv60 o M61 hpv60
        subst eo
        show rb_Bd κ mX0_isWhole (n.1 + n16.1 + n58.1, n.2 + n16.2 + n58.2) M61 151 [some (.ref a0), some (.ref q49), some (.int a2), some (.ref q33)] [v60]
        obtain ⟨q62, eq62, Kq62⟩ := KKv60
        subst eq62
        obtain ⟨ci63, ⟨fsci63, hoci63⟩, hcci63, Kci63⟩ := Kq62
        refine rb_cast q212 hoci63 hcci63 dX0_isWhole_151 ?_
        refine rb_aload_n 3 rfl rfl (rb_isR_ref _) dX0_isWhole_154 ?_
        obtain ⟨d64, n65, Q66, h1x67, hdx67, hnx67, hox67, Kx67⟩ := Kci63
        refine rb_call st_X0_225_7 (rest := []) h1x67 rfl rfl (rc_rc rfl hox67) (Nat.le_of_ble_eq_true rfl) hdx67.1 hdx67.2 hnx67.1 hnx67.2 dX0_isWhole_155 (fun o M68 hpx67 => ?_)
        obtain ⟨x67, eo, KKx67⟩ := Kx67 o M68 hpx67
        subst eo
        show rb_Bd κ mX0_isWhole (n.1 + n16.1 + n58.1 + n65.1, n.2 + n16.2 + n58.2 + n65.2) M68 158 [some (.ref a0), some (.ref q49), some (.int a2), some (.ref q33)] [.int x67]
        refine rb_ifne 178 (by decide) dX0_isWhole_158 (fun c69 => ?_) (fun c69 => ?_)
        · skip
          refine rb_aload_n 1 rfl rfl (rb_isR_ref _) dX0_isWhole_178 ?_
          obtain ⟨v70, hrv70, hv70, Kv70⟩ := ((KKx67).1 c69)
          refine rc_get fl_X0_313_27 hrv70 dX0_isWhole_179 ?_
          refine rb_iload_n 2 rfl rfl dX0_isWhole_182 ?_
          refine rb_aload_n 3 rfl rfl (rb_isR_ref _) dX0_isWhole_183 ?_
          obtain ⟨q71, eq71, Kq71⟩ := Kv70
          subst eq71
          obtain ⟨t72, N73, ci75, f74, hMf74, htf74, hif74, ⟨fsf74, hof74⟩, haf74, Kf74⟩ := Kq71
          refine rb_aast hMf74 htf74.1 htf74.2 hof74 haf74 hif74 dX0_isWhole_184 ?_
          refine rb_iinc (ls' := [some (.ref a0), some (.ref q49), some (.int (a2 + (1 : Int32))), some (.ref q33)]) (v := (a2 + (1 : Int32))) rfl rfl (by decide) rfl rfl dX0_isWhole_185 ?_
          refine rb_goto 91 (by decide) dX0_isWhole_188 ?_
          exact Kf74
        · skip
          refine rb_aload_n 0 rfl rfl (rb_isR_ref _) dX0_isWhole_161 ?_
          refine rb_aload_n 0 rfl rfl (rb_isR_ref _) dX0_isWhole_162 ?_
          obtain ⟨v76, hrv76, hv76, Kv76⟩ := ((KKx67).2 c69)
          refine rc_get fl_X0_155_0 hrv76 dX0_isWhole_163 ?_
          refine rb_iload_n 2 rfl rfl dX0_isWhole_166 ?_
          obtain ⟨q77, eq77, Kq77⟩ := Kv76
          subst eq77
          obtain ⟨N78, f79, x80, hMx80, hix80, hxx80, Kx80⟩ := Kq77
          refine rc_iald hMx80 hix80 hxx80 dX0_isWhole_167 ?_
          refine rb_aload_n 0 rfl rfl (rb_isR_ref _) dX0_isWhole_168 ?_
          obtain ⟨v81, hrv81, hv81, Kv81⟩ := Kx80
          refine rc_get fl_X0_158_0 hrv81 dX0_isWhole_169 ?_
          refine rb_iload_n 2 rfl rfl dX0_isWhole_172 ?_
          obtain ⟨q82, eq82, Kq82⟩ := Kv81
          subst eq82
          obtain ⟨N83, f84, x85, hMx85, hix85, hxx85, Kx85⟩ := Kq82
          refine rc_iald hMx85 hix85 hxx85 dX0_isWhole_173 ?_
          obtain ⟨d86, n87, Q88, h1x89, hdx89, hnx89, hox89, Kx89⟩ := Kx85
          refine rb_call st_X0_310_0 (rest := []) h1x89 rfl rfl (rc_rc rfl hox89) (Nat.le_of_ble_eq_true rfl) hdx89.1 hdx89.2 hnx89.1 hnx89.2 dX0_isWhole_174 (fun o M90 hpx89 => ?_)
          obtain ⟨x89, eo, KKx89⟩ := Kx89 o M90 hpx89
          subst eo
          show rb_Bd κ mX0_isWhole (n.1 + n16.1 + n58.1 + n65.1 + n87.1, n.2 + n16.2 + n58.2 + n65.2 + n87.2) M90 177 [some (.ref a0), some (.ref q49), some (.int a2), some (.ref q33)] [.int x89]
          exact rb_iret rfl (KKx89).1 (KKx89).2.1.1 (KKx89).2.1.2 dX0_isWhole_177 (KKx89).2.2
theorem sgX0_hasGiver_0 {κ : rb_K} {n : Nat × Nat} {M : rb_H} {a0 : Value} (ha0 : rb_isR a0) (K : rb_Bd κ mX0_hasGiver n M 4 [some a0, some (.int (0 : Int32)), some (.int (0 : Int32))] []) : rb_Bd κ mX0_hasGiver n M 0 [some a0, none, none] [] := by
  refine rb_iconst (v := (0 : Int32)) (by decide) dX0_hasGiver_0 ?_
  refine rb_istore_n 1 rfl (ls' := [some a0, some (.int (0 : Int32)), none]) (by decide) (by simp [rb_o1, rb_isR_cat ha0]) rfl dX0_hasGiver_1 ?_
  refine rb_iconst (v := (0 : Int32)) (by decide) dX0_hasGiver_2 ?_
  refine rb_istore_n 2 rfl (ls' := [some a0, some (.int (0 : Int32)), some (.int (0 : Int32))]) (by decide) rfl rfl dX0_hasGiver_3 ?_
  exact K
theorem sgX0_hasGiver_4 {κ : rb_K} {n : Nat × Nat} {M : rb_H} {a0 : Value} {a1 : Int32} {a2 : Int32} (ha0 : rb_isR a0) (K : (∃ q1, a0 = .ref q1 ∧ (∃ (d2 : Nat) (n3 : Nat × Nat) (Q4 : Outcome → rb_H → Prop), rb_Ct κ.1 yJ4_size wJ4_size d2 n3 [.ref q1] M Q4 ∧ rb_dp κ d2 ∧ rb_rom κ (n.1 + n3.1, n.2 + n3.2) ∧ rb_ob M q1 7 ∧ ∀ (o : Outcome) (M6 : rb_H), Q4 o M6 → (∃ (x5 : Int32), o = .returned (some (.int x5)) ∧ ((x5 ≤ a2 → (narrow .boolean (.int a1) = .int a1 ∧ rb_fin κ (n.1 + n3.1, n.2 + n3.2) ∧ κ.2.2.1 (.returned (some (.int a1))) M6)) ∧ (a2 < x5 → (∃ (d8 : Nat) (n9 : Nat × Nat) (Q10 : Outcome → rb_H → Prop), rb_Ct κ.1 yJ4_get wJ4_get d8 n9 [.ref q1, .int a2] M6 Q10 ∧ rb_dp κ d8 ∧ rb_rom κ (n.1 + n3.1 + n9.1, n.2 + n3.2 + n9.2) ∧ rb_ob M6 q1 7 ∧ ∀ (o : Outcome) (M12 : rb_H), Q10 o M12 → (∃ (v11 : Value), o = .returned (some v11) ∧ rb_isR v11 ∧ (∃ q13, v11 = .ref q13 ∧ (∃ ci14, rb_ob M12 q13 ci14 ∧ rb_CC ci14 "RoleLoom$Body" ∧ (∃ (x15 : Int32), rb_rd M12 q13 6 1 (.int x15) ∧ ((¬ x15 = 0 → rb_Bd κ mX0_hasGiver (n.1 + n3.1 + n9.1, n.2 + n3.2 + n9.2) M12 4 [some (.ref q1), some (.int (a1 ||| (0 : Int32))), some (.int (a2 + (1 : Int32)))] []) ∧ (x15 = 0 → rb_Bd κ mX0_hasGiver (n.1 + n3.1 + n9.1, n.2 + n3.2 + n9.2) M12 4 [some (.ref q1), some (.int (a1 ||| (1 : Int32))), some (.int (a2 + (1 : Int32)))] []))))))))))))) : rb_Bd κ mX0_hasGiver n M 4 [some a0, some (.int a1), some (.int a2)] [] := by
  refine rb_iload_n 2 rfl rfl dX0_hasGiver_4 ?_
  refine rb_aload_n 0 rfl rfl ha0 dX0_hasGiver_5 ?_
  obtain ⟨q1, eq1, Kq1⟩ := K
  subst eq1
  obtain ⟨d2, n3, Q4, h1x5, hdx5, hnx5, hox5, Kx5⟩ := Kq1
  refine rb_call st_X0_201_7 (rest := [.int a2]) h1x5 rfl rfl (rc_rc rfl hox5) (Nat.le_of_ble_eq_true rfl) hdx5.1 hdx5.2 hnx5.1 hnx5.2 dX0_hasGiver_6 (fun o M6 hpx5 => ?_)
  obtain ⟨x5, eo, KKx5⟩ := Kx5 o M6 hpx5
  subst eo
  show rb_Bd κ mX0_hasGiver (n.1 + n3.1, n.2 + n3.2) M6 9 [some (.ref q1), some (.int a1), some (.int a2)] [.int x5, .int a2]
  refine rb_icge 40 (by decide) dX0_hasGiver_9 (fun c7 => ?_) (fun c7 => ?_)
  · skip
    refine rb_iload_n 1 rfl rfl dX0_hasGiver_40 ?_
    exact rb_iret rfl (((KKx5).1 c7)).1 (((KKx5).1 c7)).2.1.1 (((KKx5).1 c7)).2.1.2 dX0_hasGiver_41 (((KKx5).1 c7)).2.2
  · skip
    refine rb_iload_n 1 rfl rfl dX0_hasGiver_12 ?_
    refine rb_aload_n 0 rfl rfl (rb_isR_ref _) dX0_hasGiver_13 ?_
    refine rb_iload_n 2 rfl rfl dX0_hasGiver_14 ?_
    obtain ⟨d8, n9, Q10, h1v11, hdv11, hnv11, hov11, Kv11⟩ := ((KKx5).2 c7)
    refine rb_call st_X0_218_7 (rest := [.int a1]) h1v11 rfl rfl (rc_rc rfl hov11) (Nat.le_of_ble_eq_true rfl) hdv11.1 hdv11.2 hnv11.1 hnv11.2 dX0_hasGiver_15 (fun o M12 hpv11 => ?_)
    obtain ⟨v11, eo, hv11, KKv11⟩ := Kv11 o M12 hpv11
    subst eo
    show rb_Bd κ mX0_hasGiver (n.1 + n3.1 + n9.1, n.2 + n3.2 + n9.2) M12 18 [some (.ref q1), some (.int a1), some (.int a2)] [v11, .int a1]
    obtain ⟨q13, eq13, Kq13⟩ := KKv11
    subst eq13
    obtain ⟨ci14, ⟨fsci14, hoci14⟩, hcci14, Kci14⟩ := Kq13
    refine rb_cast q240 hoci14 hcci14 dX0_hasGiver_18 ?_
    obtain ⟨x15, hrx15, Kx15⟩ := Kci14
    refine rc_get fl_X0_303_6 hrx15 dX0_hasGiver_21 ?_
    refine rb_ifne 31 (by decide) dX0_hasGiver_24 (fun c16 => ?_) (fun c16 => ?_)
    · skip
      refine rb_iconst (v := (0 : Int32)) (by decide) dX0_hasGiver_31 ?_
      refine rb_ior (z := (a1 ||| (0 : Int32))) rfl dX0_hasGiver_32 ?_
      refine rb_istore_n 1 rfl (ls' := [some (.ref q1), some (.int (a1 ||| (0 : Int32))), some (.int a2)]) (by decide) rfl rfl dX0_hasGiver_33 ?_
      refine rb_iinc (ls' := [some (.ref q1), some (.int (a1 ||| (0 : Int32))), some (.int (a2 + (1 : Int32)))]) (v := (a2 + (1 : Int32))) rfl rfl (by decide) rfl rfl dX0_hasGiver_34 ?_
      refine rb_goto 4 (by decide) dX0_hasGiver_37 ?_
      exact ((Kx15).1 c16)
    · skip
      refine rb_iconst (v := (1 : Int32)) (by decide) dX0_hasGiver_27 ?_
      refine rb_goto 32 (by decide) dX0_hasGiver_28 ?_
      refine rb_ior (z := (a1 ||| (1 : Int32))) rfl dX0_hasGiver_32 ?_
      refine rb_istore_n 1 rfl (ls' := [some (.ref q1), some (.int (a1 ||| (1 : Int32))), some (.int a2)]) (by decide) rfl rfl dX0_hasGiver_33 ?_
      refine rb_iinc (ls' := [some (.ref q1), some (.int (a1 ||| (1 : Int32))), some (.int (a2 + (1 : Int32)))]) (v := (a2 + (1 : Int32))) rfl rfl (by decide) rfl rfl dX0_hasGiver_34 ?_
      refine rb_goto 4 (by decide) dX0_hasGiver_37 ?_
      exact ((Kx15).2 c16)
theorem sgX0_lacks_0 {κ : rb_K} {n : Nat × Nat} {M : rb_H} {a0 : Nat} {a1 : Int32} {a2 : Int32} (K : (∃ fs1, M.2 a0 = some (rb_O 0 fs1) ∧ 20 < fs1.length ∧ (∃ fs2, (rb_up M a0 (rb_O 0 (fs1.set 20 (.int a1)))).2 a0 = some (rb_O 0 fs2) ∧ 21 < fs2.length ∧ (rb_fin κ n ∧ κ.2.2.1 (.returned (some (.int (0 : Int32)))) (rb_up (rb_up M a0 (rb_O 0 (fs1.set 20 (.int a1)))) a0 (rb_O 0 (fs2.set 21 (.int a2)))))))) : rb_Bd κ mX0_lacks n M 0 [some (.ref a0), some (.int a1), some (.int a2)] [] := by
  refine rb_aload_n 0 rfl rfl (rb_isR_ref _) dX0_lacks_0 ?_
  refine rb_iload_n 1 rfl rfl dX0_lacks_1 ?_
  obtain ⟨fs1, hMfs1, hlfs1, Kfs1⟩ := K
  refine rb_put fl_X0_171_0 (fun q hq => by cases hq; exact Or.inl rfl) rfl rfl hMfs1 hlfs1 dX0_lacks_2 ?_
  refine rb_aload_n 0 rfl rfl (rb_isR_ref _) dX0_lacks_5 ?_
  refine rb_iload_n 2 rfl rfl dX0_lacks_6 ?_
  obtain ⟨fs2, hMfs2, hlfs2, Kfs2⟩ := Kfs1
  refine rb_put fl_X0_174_0 (fun q hq => by cases hq; exact Or.inl rfl) rfl rfl hMfs2 hlfs2 dX0_lacks_7 ?_
  refine rb_iconst (v := (0 : Int32)) (by decide) dX0_lacks_10 ?_
  exact rb_iret rfl (by decide) (Kfs2).1.1 (Kfs2).1.2 dX0_lacks_11 (Kfs2).2
theorem sgX0_emptyDraft_0 {κ : rb_K} {n : Nat × Nat} {M : rb_H} {a0 : Nat} (K : (∃ (v1 : Value), rb_rd M a0 0 10 (v1) ∧ rb_isR v1 ∧ (∃ q2, v1 = .ref q2 ∧ (∃ (d3 : Nat) (n4 : Nat × Nat) (Q5 : Outcome → rb_H → Prop), rb_Ct κ.1 yJ4_clear wJ4_clear d3 n4 [.ref q2] M Q5 ∧ rb_dp κ d3 ∧ rb_rom κ (n.1 + n4.1, n.2 + n4.2) ∧ rb_ob M q2 7 ∧ ∀ (o : Outcome) (M7 : rb_H), Q5 o M7 → (o = .returned none ∧ (∃ fs8, M7.2 a0 = some (rb_O 0 fs8) ∧ 13 < fs8.length ∧ rb_Bd κ mX0_emptyDraft (n.1 + n4.1, n.2 + n4.2) (rb_up M7 a0 (rb_O 0 (fs8.set 13 (.int (0 : Int32))))) 14 [some (.ref a0), some (.int (0 : Int32))] [])))))) : rb_Bd κ mX0_emptyDraft n M 0 [some (.ref a0), none] [] := by
  refine rb_aload_n 0 rfl rfl (rb_isR_ref _) dX0_emptyDraft_0 ?_
  obtain ⟨v1, hrv1, hv1, Kv1⟩ := K
  refine rc_get fl_X0_146_0 hrv1 dX0_emptyDraft_1 ?_
  obtain ⟨q2, eq2, Kq2⟩ := Kv1
  subst eq2
  obtain ⟨d3, n4, Q5, h1v6, hdv6, hnv6, hov6, Kv6⟩ := Kq2
  refine rb_call st_X0_269_7 (rest := []) h1v6 rfl rfl (rc_rc rfl hov6) (Nat.le_of_ble_eq_true rfl) hdv6.1 hdv6.2 hnv6.1 hnv6.2 dX0_emptyDraft_4 (fun o M7 hpv6 => ?_)
  obtain ⟨eo, KKv6⟩ := Kv6 o M7 hpv6
  subst eo
  show rb_Bd κ mX0_emptyDraft (n.1 + n4.1, n.2 + n4.2) M7 7 [some (.ref a0), none] []
  refine rb_aload_n 0 rfl rfl (rb_isR_ref _) dX0_emptyDraft_7 ?_
  refine rb_iconst (v := (0 : Int32)) (by decide) dX0_emptyDraft_8 ?_
  obtain ⟨fs8, hMfs8, hlfs8, Kfs8⟩ := KKv6
  refine rb_put fl_X0_266_0 (fun q hq => by cases hq; exact Or.inl rfl) rfl rfl hMfs8 hlfs8 dX0_emptyDraft_9 ?_
  refine rb_iconst (v := (0 : Int32)) (by decide) dX0_emptyDraft_12 ?_
  refine rb_istore_n 1 rfl (ls' := [some (.ref a0), some (.int (0 : Int32))]) (by decide) rfl rfl dX0_emptyDraft_13 ?_
  exact Kfs8
theorem sgX0_emptyDraft_14 {κ : rb_K} {n : Nat × Nat} {M : rb_H} {a0 : Nat} {a1 : Int32} (K : (((4 : Int32) ≤ a1 → (rb_fin κ n ∧ κ.2.2.1 (.returned none) M)) ∧ (a1 < (4 : Int32) → (∃ (v2 : Value), rb_rd M a0 0 14 (v2) ∧ rb_isR v2 ∧ (∃ q3, v2 = .ref q3 ∧ (∃ (N4 : Nat) (f5 : Nat → Int32), M.2 q3 = some (rb_I N4 f5) ∧ vp_in a1 N4 ∧ rb_Bd κ mX0_emptyDraft n (rb_up M q3 (rb_I N4 (va_up f5 (a1).toNatClampNeg (-9 : Int32)))) 14 [some (.ref a0), some (.int (a1 + (1 : Int32)))] [])))))) : rb_Bd κ mX0_emptyDraft n M 14 [some (.ref a0), some (.int a1)] [] := by
  refine rb_iload_n 1 rfl rfl dX0_emptyDraft_14 ?_
  refine rb_iconst (v := (4 : Int32)) (by decide) dX0_emptyDraft_15 ?_
  refine rb_icge 33 (by decide) dX0_emptyDraft_16 (fun c1 => ?_) (fun c1 => ?_)
  · skip
    exact rb_vret rfl (((K).1 c1)).1.1 (((K).1 c1)).1.2 dX0_emptyDraft_33 (((K).1 c1)).2
  · skip
    refine rb_aload_n 0 rfl rfl (rb_isR_ref _) dX0_emptyDraft_19 ?_
    obtain ⟨v2, hrv2, hv2, Kv2⟩ := ((K).2 c1)
    refine rc_get fl_X0_155_0 hrv2 dX0_emptyDraft_20 ?_
    refine rb_iload_n 1 rfl rfl dX0_emptyDraft_23 ?_
    refine rb_bipush (v := (-9 : Int32)) (by decide) dX0_emptyDraft_24 ?_
    obtain ⟨q3, eq3, Kq3⟩ := Kv2
    subst eq3
    obtain ⟨N4, f5, hMf5, hif5, Kf5⟩ := Kq3
    refine rb_iast hMf5 hif5 dX0_emptyDraft_26 ?_
    refine rb_iinc (ls' := [some (.ref a0), some (.int (a1 + (1 : Int32)))]) (v := (a1 + (1 : Int32))) rfl rfl (by decide) rfl rfl dX0_emptyDraft_27 ?_
    refine rb_goto 14 (by decide) dX0_emptyDraft_30 ?_
    exact Kf5
theorem sgX0_ring_0 {κ : rb_K} {n : Nat × Nat} {M : rb_H} {a0 : Nat} {a1 : Int32} (K : (∃ (x1 : Int32), rb_rd M a0 0 19 (.int x1) ∧ (∃ (d2 : Nat) (n3 : Nat × Nat) (Q4 : Outcome → rb_H → Prop), rb_Ct κ.1 yX0_in wX0_in d2 n3 [.int a1, .int (0 : Int32), .int (x1 - (1 : Int32))] M Q4 ∧ rb_dp κ d2 ∧ rb_rom κ (n.1 + n3.1, n.2 + n3.2) ∧ ∀ (o : Outcome) (M6 : rb_H), Q4 o M6 → (∃ (x5 : Int32), o = .returned (some (.int x5)) ∧ ((x5 = 0 → (rb_fin κ (n.1 + n3.1, n.2 + n3.2) ∧ κ.2.2.1 (.returned (some (.int (-9 : Int32)))) M6)) ∧ (¬ x5 = 0 → (∃ (v8 : Value), rb_rd M6 a0 0 18 (v8) ∧ rb_isR v8 ∧ (∃ q9, v8 = .ref q9 ∧ (∃ (N10 : Nat) (f11 : Nat → Int32) (x12 : Int32), M6.2 q9 = some (rb_I N10 f11) ∧ vp_in a1 N10 ∧ f11 (a1).toNatClampNeg = x12 ∧ (rb_fin κ (n.1 + n3.1, n.2 + n3.2) ∧ κ.2.2.1 (.returned (some (.int x12))) M6)))))))))) : rb_Bd κ mX0_ring n M 0 [some (.ref a0), some (.int a1)] [] := by
  refine rb_iload_n 1 rfl rfl dX0_ring_0 ?_
  refine rb_iconst (v := (0 : Int32)) (by decide) dX0_ring_1 ?_
  refine rb_aload_n 0 rfl rfl (rb_isR_ref _) dX0_ring_2 ?_
  obtain ⟨x1, hrx1, Kx1⟩ := K
  refine rc_get fl_X0_285_0 hrx1 dX0_ring_3 ?_
  refine rb_iconst (v := (1 : Int32)) (by decide) dX0_ring_6 ?_
  refine rb_isub (z := (x1 - (1 : Int32))) rfl dX0_ring_7 ?_
  obtain ⟨d2, n3, Q4, h1x5, hdx5, hnx5, Kx5⟩ := Kx1
  refine rb_call st_X0_45 (rest := []) h1x5 rfl rfl mm_rn (Nat.le_of_ble_eq_true rfl) hdx5.1 hdx5.2 hnx5.1 hnx5.2 dX0_ring_8 (fun o M6 hpx5 => ?_)
  obtain ⟨x5, eo, KKx5⟩ := Kx5 o M6 hpx5
  subst eo
  show rb_Bd κ mX0_ring (n.1 + n3.1, n.2 + n3.2) M6 11 [some (.ref a0), some (.int a1)] [.int x5]
  refine rb_ifeq 23 (by decide) dX0_ring_11 (fun c7 => ?_) (fun c7 => ?_)
  · skip
    refine rb_bipush (v := (-9 : Int32)) (by decide) dX0_ring_23 ?_
    exact rb_iret rfl rfl (((KKx5).1 c7)).1.1 (((KKx5).1 c7)).1.2 dX0_ring_25 (((KKx5).1 c7)).2
  · skip
    refine rb_aload_n 0 rfl rfl (rb_isR_ref _) dX0_ring_14 ?_
    obtain ⟨v8, hrv8, hv8, Kv8⟩ := ((KKx5).2 c7)
    refine rc_get fl_X0_168_0 hrv8 dX0_ring_15 ?_
    refine rb_iload_n 1 rfl rfl dX0_ring_18 ?_
    obtain ⟨q9, eq9, Kq9⟩ := Kv8
    subst eq9
    obtain ⟨N10, f11, x12, hMx12, hix12, hxx12, Kx12⟩ := Kq9
    refine rc_iald hMx12 hix12 hxx12 dX0_ring_19 ?_
    refine rb_goto 25 (by decide) dX0_ring_20 ?_
    exact rb_iret rfl rfl (Kx12).1.1 (Kx12).1.2 dX0_ring_25 (Kx12).2
theorem sgX0_lacks_2_0 {κ : rb_K} {n : Nat × Nat} {M : rb_H} {a0 : Nat} {a1 : Int32} (K : ((¬ a1 = 0 → ((¬ a1 = (1 : Int32) → (rb_fin κ n ∧ κ.2.2.1 (.returned (some (.int (-1 : Int32)))) M)) ∧ (a1 = (1 : Int32) → (∃ (x3 : Int32), rb_rd M a0 0 21 (.int x3) ∧ (rb_fin κ n ∧ κ.2.2.1 (.returned (some (.int x3))) M))))) ∧ (a1 = 0 → (∃ (x4 : Int32), rb_rd M a0 0 20 (.int x4) ∧ (rb_fin κ n ∧ κ.2.2.1 (.returned (some (.int x4))) M))))) : rb_Bd κ mX0_lacks_2 n M 0 [some (.ref a0), some (.int a1)] [] := by
  refine rb_iload_n 1 rfl rfl dX0_lacks_2_0 ?_
  refine rb_ifne 11 (by decide) dX0_lacks_2_1 (fun c1 => ?_) (fun c1 => ?_)
  · skip
    refine rb_iload_n 1 rfl rfl dX0_lacks_2_11 ?_
    refine rb_iconst (v := (1 : Int32)) (by decide) dX0_lacks_2_12 ?_
    refine rb_icne 23 (by decide) dX0_lacks_2_13 (fun c2 => ?_) (fun c2 => ?_)
    · skip
      refine rb_iconst (v := (-1 : Int32)) (by decide) dX0_lacks_2_23 ?_
      exact rb_iret rfl rfl (((((K).1 c1)).1 c2)).1.1 (((((K).1 c1)).1 c2)).1.2 dX0_lacks_2_24 (((((K).1 c1)).1 c2)).2
    · skip
      refine rb_aload_n 0 rfl rfl (rb_isR_ref _) dX0_lacks_2_16 ?_
      obtain ⟨x3, hrx3, Kx3⟩ := ((((K).1 c1)).2 c2)
      refine rc_get fl_X0_174_0 hrx3 dX0_lacks_2_17 ?_
      refine rb_goto 24 (by decide) dX0_lacks_2_20 ?_
      exact rb_iret rfl rfl (Kx3).1.1 (Kx3).1.2 dX0_lacks_2_24 (Kx3).2
  · skip
    refine rb_aload_n 0 rfl rfl (rb_isR_ref _) dX0_lacks_2_4 ?_
    obtain ⟨x4, hrx4, Kx4⟩ := ((K).2 c1)
    refine rc_get fl_X0_171_0 hrx4 dX0_lacks_2_5 ?_
    refine rb_goto 24 (by decide) dX0_lacks_2_8 ?_
    exact rb_iret rfl rfl (Kx4).1.1 (Kx4).1.2 dX0_lacks_2_24 (Kx4).2
theorem sgX0_line_0 {κ : rb_K} {n : Nat × Nat} {M : rb_H} {a0 : Nat} {a1 : Int32} {a2 : Int32} (K : (∃ (d1 : Nat) (n2 : Nat × Nat) (Q3 : Outcome → rb_H → Prop), rb_Ct κ.1 yX0_isRole wX0_isRole d1 n2 [.ref a0, .int a1] M Q3 ∧ rb_dp κ d1 ∧ rb_rom κ (n.1 + n2.1, n.2 + n2.2) ∧ rb_ob M a0 0 ∧ ∀ (o : Outcome) (M5 : rb_H), Q3 o M5 → (∃ (x4 : Int32), o = .returned (some (.int x4)) ∧ ((¬ x4 = 0 → (∃ (v7 : Value), rb_rd M5 a0 0 7 (v7) ∧ rb_isR v7 ∧ (∃ q8, v7 = .ref q8 ∧ (∃ (d9 : Nat) (n10 : Nat × Nat) (Q11 : Outcome → rb_H → Prop), rb_Ct κ.1 yJ4_get wJ4_get d9 n10 [.ref q8, .int a1] M5 Q11 ∧ rb_dp κ d9 ∧ rb_rom κ (n.1 + n2.1 + n10.1, n.2 + n2.2 + n10.2) ∧ rb_ob M5 q8 7 ∧ ∀ (o : Outcome) (M13 : rb_H), Q11 o M13 → (∃ (v12 : Value), o = .returned (some v12) ∧ rb_isR v12 ∧ (∃ q14, v12 = .ref q14 ∧ (∃ ci15, rb_ob M13 q14 ci15 ∧ rb_CC ci15 "RoleLoom$Role" ∧ (∃ (v16 : Value), rb_rd M13 q14 27 1 (v16) ∧ rb_isR v16 ∧ (∃ q17, v16 = .ref q17 ∧ (∃ (d18 : Nat) (n19 : Nat × Nat) (Q20 : Outcome → rb_H → Prop), rb_Ct κ.1 yJ4_size wJ4_size d18 n19 [.ref q17] M13 Q20 ∧ rb_dp κ d18 ∧ rb_rom κ (n.1 + n2.1 + n10.1 + n19.1, n.2 + n2.2 + n10.2 + n19.2) ∧ rb_ob M13 q17 7 ∧ ∀ (o : Outcome) (M22 : rb_H), Q20 o M22 → (∃ (x21 : Int32), o = .returned (some (.int x21)) ∧ (∃ (d23 : Nat) (n24 : Nat × Nat) (Q25 : Outcome → rb_H → Prop), rb_Ct κ.1 yX0_in wX0_in d23 n24 [.int a2, .int (0 : Int32), .int (x21 - (1 : Int32))] M22 Q25 ∧ rb_dp κ d23 ∧ rb_rom κ (n.1 + n2.1 + n10.1 + n19.1 + n24.1, n.2 + n2.2 + n10.2 + n19.2 + n24.2) ∧ ∀ (o : Outcome) (M27 : rb_H), Q25 o M27 → (∃ (x26 : Int32), o = .returned (some (.int x26)) ∧ ((x26 = 0 → (rb_fin κ (n.1 + n2.1 + n10.1 + n19.1 + n24.1, n.2 + n2.2 + n10.2 + n19.2 + n24.2) ∧ κ.2.2.1 (.returned (some (.int (-9 : Int32)))) M27)) ∧ (¬ x26 = 0 → (∃ (v29 : Value), rb_rd M27 q14 27 1 (v29) ∧ rb_isR v29 ∧ (∃ q30, v29 = .ref q30 ∧ (∃ (d31 : Nat) (n32 : Nat × Nat) (Q33 : Outcome → rb_H → Prop), rb_Ct κ.1 yJ4_get wJ4_get d31 n32 [.ref q30, .int a2] M27 Q33 ∧ rb_dp κ d31 ∧ rb_rom κ (n.1 + n2.1 + n10.1 + n19.1 + n24.1 + n32.1, n.2 + n2.2 + n10.2 + n19.2 + n24.2 + n32.2) ∧ rb_ob M27 q30 7 ∧ ∀ (o : Outcome) (M35 : rb_H), Q33 o M35 → (∃ (v34 : Value), o = .returned (some v34) ∧ rb_isR v34 ∧ (∃ q36, v34 = .ref q36 ∧ (∃ ci37, rb_ob M35 q36 ci37 ∧ rb_CC ci37 "RoleLoom$Part" ∧ (∃ (x38 : Int32), rb_rd M35 q36 5 0 (.int x38) ∧ (rb_fin κ (n.1 + n2.1 + n10.1 + n19.1 + n24.1 + n32.1, n.2 + n2.2 + n10.2 + n19.2 + n24.2 + n32.2) ∧ κ.2.2.1 (.returned (some (.int x38))) M35))))))))))))))))))))))) ∧ (x4 = 0 → (rb_fin κ (n.1 + n2.1, n.2 + n2.2) ∧ κ.2.2.1 (.returned (some (.int (-1 : Int32)))) M5)))))) : rb_Bd κ mX0_line n M 0 [some (.ref a0), some (.int a1), some (.int a2), none] [] := by
  refine rb_aload_n 0 rfl rfl (rb_isR_ref _) dX0_line_0 ?_
  refine rb_iload_n 1 rfl rfl dX0_line_1 ?_
  obtain ⟨d1, n2, Q3, h1x4, hdx4, hnx4, hox4, Kx4⟩ := K
  refine rb_call st_X0_346_0 (rest := []) h1x4 rfl rfl (rc_rc rfl hox4) (Nat.le_of_ble_eq_true rfl) hdx4.1 hdx4.2 hnx4.1 hnx4.2 dX0_line_2 (fun o M5 hpx4 => ?_)
  obtain ⟨x4, eo, KKx4⟩ := Kx4 o M5 hpx4
  subst eo
  show rb_Bd κ mX0_line (n.1 + n2.1, n.2 + n2.2) M5 5 [some (.ref a0), some (.int a1), some (.int a2), none] [.int x4]
  refine rb_ifne 10 (by decide) dX0_line_5 (fun c6 => ?_) (fun c6 => ?_)
  · skip
    refine rb_aload_n 0 rfl rfl (rb_isR_ref _) dX0_line_10 ?_
    obtain ⟨v7, hrv7, hv7, Kv7⟩ := ((KKx4).1 c6)
    refine rc_get fl_X0_136_0 hrv7 dX0_line_11 ?_
    refine rb_iload_n 1 rfl rfl dX0_line_14 ?_
    obtain ⟨q8, eq8, Kq8⟩ := Kv7
    subst eq8
    obtain ⟨d9, n10, Q11, h1v12, hdv12, hnv12, hov12, Kv12⟩ := Kq8
    refine rb_call st_X0_218_7 (rest := []) h1v12 rfl rfl (rc_rc rfl hov12) (Nat.le_of_ble_eq_true rfl) hdv12.1 hdv12.2 hnv12.1 hnv12.2 dX0_line_15 (fun o M13 hpv12 => ?_)
    obtain ⟨v12, eo, hv12, KKv12⟩ := Kv12 o M13 hpv12
    subst eo
    show rb_Bd κ mX0_line (n.1 + n2.1 + n10.1, n.2 + n2.2 + n10.2) M13 18 [some (.ref a0), some (.int a1), some (.int a2), none] [v12]
    obtain ⟨q14, eq14, Kq14⟩ := KKv12
    subst eq14
    obtain ⟨ci15, ⟨fsci15, hoci15⟩, hcci15, Kci15⟩ := Kq14
    refine rb_cast q1111 hoci15 hcci15 dX0_line_18 ?_
    refine rb_astore_n 3 rfl (ls' := [some (.ref a0), some (.int a1), some (.int a2), some (.ref q14)]) (by decide) rfl rfl (rb_isR_ref _) dX0_line_21 ?_
    refine rb_iload_n 2 rfl rfl dX0_line_22 ?_
    refine rb_iconst (v := (0 : Int32)) (by decide) dX0_line_23 ?_
    refine rb_aload_n 3 rfl rfl (rb_isR_ref _) dX0_line_24 ?_
    obtain ⟨v16, hrv16, hv16, Kv16⟩ := Kci15
    refine rc_get fl_X0_291_27 hrv16 dX0_line_25 ?_
    obtain ⟨q17, eq17, Kq17⟩ := Kv16
    subst eq17
    obtain ⟨d18, n19, Q20, h1x21, hdx21, hnx21, hox21, Kx21⟩ := Kq17
    refine rb_call st_X0_201_7 (rest := [.int (0 : Int32), .int a2]) h1x21 rfl rfl (rc_rc rfl hox21) (Nat.le_of_ble_eq_true rfl) hdx21.1 hdx21.2 hnx21.1 hnx21.2 dX0_line_28 (fun o M22 hpx21 => ?_)
    obtain ⟨x21, eo, KKx21⟩ := Kx21 o M22 hpx21
    subst eo
    show rb_Bd κ mX0_line (n.1 + n2.1 + n10.1 + n19.1, n.2 + n2.2 + n10.2 + n19.2) M22 31 [some (.ref a0), some (.int a1), some (.int a2), some (.ref q14)] [.int x21, .int (0 : Int32), .int a2]
    refine rb_iconst (v := (1 : Int32)) (by decide) dX0_line_31 ?_
    refine rb_isub (z := (x21 - (1 : Int32))) rfl dX0_line_32 ?_
    obtain ⟨d23, n24, Q25, h1x26, hdx26, hnx26, Kx26⟩ := KKx21
    refine rb_call st_X0_45 (rest := []) h1x26 rfl rfl mm_rn (Nat.le_of_ble_eq_true rfl) hdx26.1 hdx26.2 hnx26.1 hnx26.2 dX0_line_33 (fun o M27 hpx26 => ?_)
    obtain ⟨x26, eo, KKx26⟩ := Kx26 o M27 hpx26
    subst eo
    show rb_Bd κ mX0_line (n.1 + n2.1 + n10.1 + n19.1 + n24.1, n.2 + n2.2 + n10.2 + n19.2 + n24.2) M27 36 [some (.ref a0), some (.int a1), some (.int a2), some (.ref q14)] [.int x26]
    refine rb_ifeq 56 (by decide) dX0_line_36 (fun c28 => ?_) (fun c28 => ?_)
    · skip
      refine rb_bipush (v := (-9 : Int32)) (by decide) dX0_line_56 ?_
      exact rb_iret rfl rfl (((KKx26).1 c28)).1.1 (((KKx26).1 c28)).1.2 dX0_line_58 (((KKx26).1 c28)).2
    · skip
      refine rb_aload_n 3 rfl rfl (rb_isR_ref _) dX0_line_39 ?_
      obtain ⟨v29, hrv29, hv29, Kv29⟩ := ((KKx26).2 c28)
      refine rc_get fl_X0_291_27 hrv29 dX0_line_40 ?_
      refine rb_iload_n 2 rfl rfl dX0_line_43 ?_
      obtain ⟨q30, eq30, Kq30⟩ := Kv29
      subst eq30
      obtain ⟨d31, n32, Q33, h1v34, hdv34, hnv34, hov34, Kv34⟩ := Kq30
      refine rb_call st_X0_218_7 (rest := []) h1v34 rfl rfl (rc_rc rfl hov34) (Nat.le_of_ble_eq_true rfl) hdv34.1 hdv34.2 hnv34.1 hnv34.2 dX0_line_44 (fun o M35 hpv34 => ?_)
      obtain ⟨v34, eo, hv34, KKv34⟩ := Kv34 o M35 hpv34
      subst eo
      show rb_Bd κ mX0_line (n.1 + n2.1 + n10.1 + n19.1 + n24.1 + n32.1, n.2 + n2.2 + n10.2 + n19.2 + n24.2 + n32.2) M35 47 [some (.ref a0), some (.int a1), some (.int a2), some (.ref q14)] [v34]
      obtain ⟨q36, eq36, Kq36⟩ := KKv34
      subst eq36
      obtain ⟨ci37, ⟨fsci37, hoci37⟩, hcci37, Kci37⟩ := Kq36
      refine rb_cast q416 hoci37 hcci37 dX0_line_47 ?_
      obtain ⟨x38, hrx38, Kx38⟩ := Kci37
      refine rc_get fl_X0_272_5 hrx38 dX0_line_50 ?_
      refine rb_goto 58 (by decide) dX0_line_53 ?_
      exact rb_iret rfl rfl (Kx38).1.1 (Kx38).1.2 dX0_line_58 (Kx38).2
  · skip
    refine rb_iconst (v := (-1 : Int32)) (by decide) dX0_line_8 ?_
    exact rb_iret rfl rfl (((KKx4).2 c6)).1.1 (((KKx4).2 c6)).1.2 dX0_line_9 (((KKx4).2 c6)).2
theorem sgX0_isRole_0 {κ : rb_K} {n : Nat × Nat} {M : rb_H} {a0 : Nat} {a1 : Int32} (K : (∃ (v1 : Value), rb_rd M a0 0 7 (v1) ∧ rb_isR v1 ∧ (∃ q2, v1 = .ref q2 ∧ (∃ (d3 : Nat) (n4 : Nat × Nat) (Q5 : Outcome → rb_H → Prop), rb_Ct κ.1 yJ4_size wJ4_size d3 n4 [.ref q2] M Q5 ∧ rb_dp κ d3 ∧ rb_rom κ (n.1 + n4.1, n.2 + n4.2) ∧ rb_ob M q2 7 ∧ ∀ (o : Outcome) (M7 : rb_H), Q5 o M7 → (∃ (x6 : Int32), o = .returned (some (.int x6)) ∧ (∃ (d8 : Nat) (n9 : Nat × Nat) (Q10 : Outcome → rb_H → Prop), rb_Ct κ.1 yX0_in wX0_in d8 n9 [.int a1, .int (0 : Int32), .int (x6 - (1 : Int32))] M7 Q10 ∧ rb_dp κ d8 ∧ rb_rom κ (n.1 + n4.1 + n9.1, n.2 + n4.2 + n9.2) ∧ ∀ (o : Outcome) (M12 : rb_H), Q10 o M12 → (∃ (x11 : Int32), o = .returned (some (.int x11)) ∧ (narrow .boolean (.int x11) = .int x11 ∧ rb_fin κ (n.1 + n4.1 + n9.1, n.2 + n4.2 + n9.2) ∧ κ.2.2.1 (.returned (some (.int x11))) M12)))))))) : rb_Bd κ mX0_isRole n M 0 [some (.ref a0), some (.int a1)] [] := by
  refine rb_iload_n 1 rfl rfl dX0_isRole_0 ?_
  refine rb_iconst (v := (0 : Int32)) (by decide) dX0_isRole_1 ?_
  refine rb_aload_n 0 rfl rfl (rb_isR_ref _) dX0_isRole_2 ?_
  obtain ⟨v1, hrv1, hv1, Kv1⟩ := K
  refine rc_get fl_X0_136_0 hrv1 dX0_isRole_3 ?_
  obtain ⟨q2, eq2, Kq2⟩ := Kv1
  subst eq2
  obtain ⟨d3, n4, Q5, h1x6, hdx6, hnx6, hox6, Kx6⟩ := Kq2
  refine rb_call st_X0_201_7 (rest := [.int (0 : Int32), .int a1]) h1x6 rfl rfl (rc_rc rfl hox6) (Nat.le_of_ble_eq_true rfl) hdx6.1 hdx6.2 hnx6.1 hnx6.2 dX0_isRole_6 (fun o M7 hpx6 => ?_)
  obtain ⟨x6, eo, KKx6⟩ := Kx6 o M7 hpx6
  subst eo
  show rb_Bd κ mX0_isRole (n.1 + n4.1, n.2 + n4.2) M7 9 [some (.ref a0), some (.int a1)] [.int x6, .int (0 : Int32), .int a1]
  refine rb_iconst (v := (1 : Int32)) (by decide) dX0_isRole_9 ?_
  refine rb_isub (z := (x6 - (1 : Int32))) rfl dX0_isRole_10 ?_
  obtain ⟨d8, n9, Q10, h1x11, hdx11, hnx11, Kx11⟩ := KKx6
  refine rb_call st_X0_45 (rest := []) h1x11 rfl rfl mm_rn (Nat.le_of_ble_eq_true rfl) hdx11.1 hdx11.2 hnx11.1 hnx11.2 dX0_isRole_11 (fun o M12 hpx11 => ?_)
  obtain ⟨x11, eo, KKx11⟩ := Kx11 o M12 hpx11
  subst eo
  show rb_Bd κ mX0_isRole (n.1 + n4.1 + n9.1, n.2 + n4.2 + n9.2) M12 14 [some (.ref a0), some (.int a1)] [.int x11]
  exact rb_iret rfl (KKx11).1 (KKx11).2.1.1 (KKx11).2.1.2 dX0_isRole_14 (KKx11).2.2
theorem sgX0_chain_0 {κ : rb_K} {n : Nat × Nat} {M : rb_H} {a0 : Nat} {a1 : Int32} {a2 : Int32} {a3 : Int32} (K : (∃ (d1 : Nat) (n2 : Nat × Nat) (Q3 : Outcome → rb_H → Prop), rb_Ct κ.1 yX0_isRole wX0_isRole d1 n2 [.ref a0, .int a1] M Q3 ∧ rb_dp κ d1 ∧ rb_rom κ (n.1 + n2.1, n.2 + n2.2) ∧ rb_ob M a0 0 ∧ ∀ (o : Outcome) (M5 : rb_H), Q3 o M5 → (∃ (x4 : Int32), o = .returned (some (.int x4)) ∧ ((x4 = 0 → (rb_fin κ (n.1 + n2.1, n.2 + n2.2) ∧ κ.2.2.1 (.returned (some (.int (-1 : Int32)))) M5)) ∧ (¬ x4 = 0 → (∃ (d7 : Nat) (n8 : Nat × Nat) (Q9 : Outcome → rb_H → Prop), rb_Ct κ.1 yX0_in wX0_in d7 n8 [.int a2, .int (0 : Int32), .int (11 : Int32)] M5 Q9 ∧ rb_dp κ d7 ∧ rb_rom κ (n.1 + n2.1 + n8.1, n.2 + n2.2 + n8.2) ∧ ∀ (o : Outcome) (M11 : rb_H), Q9 o M11 → (∃ (x10 : Int32), o = .returned (some (.int x10)) ∧ ((¬ x10 = 0 → (∃ (v13 : Value), rb_rd M11 a0 0 7 (v13) ∧ rb_isR v13 ∧ (∃ q14, v13 = .ref q14 ∧ (∃ (d15 : Nat) (n16 : Nat × Nat) (Q17 : Outcome → rb_H → Prop), rb_Ct κ.1 yJ4_get wJ4_get d15 n16 [.ref q14, .int a1] M11 Q17 ∧ rb_dp κ d15 ∧ rb_rom κ (n.1 + n2.1 + n8.1 + n16.1, n.2 + n2.2 + n8.2 + n16.2) ∧ rb_ob M11 q14 7 ∧ ∀ (o : Outcome) (M19 : rb_H), Q17 o M19 → (∃ (v18 : Value), o = .returned (some v18) ∧ rb_isR v18 ∧ (∃ q20, v18 = .ref q20 ∧ (∃ ci21, rb_ob M19 q20 ci21 ∧ rb_CC ci21 "RoleLoom$Role" ∧ (∃ (v22 : Value), rb_rd M19 q20 27 2 (v22) ∧ rb_isR v22 ∧ (∃ q23, v22 = .ref q23 ∧ (∃ (d24 : Nat) (n25 : Nat × Nat) (Q26 : Outcome → rb_H → Prop), rb_Ct κ.1 yJ4_get wJ4_get d24 n25 [.ref q23, .int a2] M19 Q26 ∧ rb_dp κ d24 ∧ rb_rom κ (n.1 + n2.1 + n8.1 + n16.1 + n25.1, n.2 + n2.2 + n8.2 + n16.2 + n25.2) ∧ rb_ob M19 q23 7 ∧ ∀ (o : Outcome) (M28 : rb_H), Q26 o M28 → (∃ (v27 : Value), o = .returned (some v27) ∧ rb_isR v27 ∧ (∃ q29, v27 = .ref q29 ∧ (∃ ci30, rb_ob M28 q29 ci30 ∧ rb_CC ci30 "java/util/ArrayList" ∧ (∃ (d31 : Nat) (n32 : Nat × Nat) (Q33 : Outcome → rb_H → Prop), rb_Ct κ.1 yJ4_size wJ4_size d31 n32 [.ref q29] M28 Q33 ∧ rb_dp κ d31 ∧ rb_rom κ (n.1 + n2.1 + n8.1 + n16.1 + n25.1 + n32.1, n.2 + n2.2 + n8.2 + n16.2 + n25.2 + n32.2) ∧ rb_ob M28 q29 7 ∧ ∀ (o : Outcome) (M35 : rb_H), Q33 o M35 → (∃ (x34 : Int32), o = .returned (some (.int x34)) ∧ (∃ (d36 : Nat) (n37 : Nat × Nat) (Q38 : Outcome → rb_H → Prop), rb_Ct κ.1 yX0_in wX0_in d36 n37 [.int a3, .int (0 : Int32), .int (x34 - (1 : Int32))] M35 Q38 ∧ rb_dp κ d36 ∧ rb_rom κ (n.1 + n2.1 + n8.1 + n16.1 + n25.1 + n32.1 + n37.1, n.2 + n2.2 + n8.2 + n16.2 + n25.2 + n32.2 + n37.2) ∧ ∀ (o : Outcome) (M40 : rb_H), Q38 o M40 → (∃ (x39 : Int32), o = .returned (some (.int x39)) ∧ ((x39 = 0 → (rb_fin κ (n.1 + n2.1 + n8.1 + n16.1 + n25.1 + n32.1 + n37.1, n.2 + n2.2 + n8.2 + n16.2 + n25.2 + n32.2 + n37.2) ∧ κ.2.2.1 (.returned (some (.int (-9 : Int32)))) M40)) ∧ (¬ x39 = 0 → (∃ (d42 : Nat) (n43 : Nat × Nat) (Q44 : Outcome → rb_H → Prop), rb_Ct κ.1 yJ4_get wJ4_get d42 n43 [.ref q29, .int a3] M40 Q44 ∧ rb_dp κ d42 ∧ rb_rom κ (n.1 + n2.1 + n8.1 + n16.1 + n25.1 + n32.1 + n37.1 + n43.1, n.2 + n2.2 + n8.2 + n16.2 + n25.2 + n32.2 + n37.2 + n43.2) ∧ rb_ob M40 q29 7 ∧ ∀ (o : Outcome) (M46 : rb_H), Q44 o M46 → (∃ (v45 : Value), o = .returned (some v45) ∧ rb_isR v45 ∧ (∃ q47, v45 = .ref q47 ∧ (∃ ci48, rb_ob M46 q47 ci48 ∧ rb_CC ci48 "RoleLoom$Body" ∧ (∃ (v49 : Value), rb_rd M46 q47 6 0 (v49) ∧ rb_isR v49 ∧ (∃ q50, v49 = .ref q50 ∧ (∃ (x51 : Int32), rb_rd M46 q50 5 0 (.int x51) ∧ (∃ (d52 : Nat) (n53 : Nat × Nat) (Q54 : Outcome → rb_H → Prop), rb_Ct κ.1 yJ4_get wJ4_get d52 n53 [.ref q29, .int a3] M46 Q54 ∧ rb_dp κ d52 ∧ rb_rom κ (n.1 + n2.1 + n8.1 + n16.1 + n25.1 + n32.1 + n37.1 + n43.1 + n53.1, n.2 + n2.2 + n8.2 + n16.2 + n25.2 + n32.2 + n37.2 + n43.2 + n53.2) ∧ rb_ob M46 q29 7 ∧ ∀ (o : Outcome) (M56 : rb_H), Q54 o M56 → (∃ (v55 : Value), o = .returned (some v55) ∧ rb_isR v55 ∧ (∃ q57, v55 = .ref q57 ∧ (∃ ci58, rb_ob M56 q57 ci58 ∧ rb_CC ci58 "RoleLoom$Body" ∧ (∃ (x59 : Int32), rb_rd M56 q57 6 1 (.int x59) ∧ (rb_fin κ (n.1 + n2.1 + n8.1 + n16.1 + n25.1 + n32.1 + n37.1 + n43.1 + n53.1, n.2 + n2.2 + n8.2 + n16.2 + n25.2 + n32.2 + n37.2 + n43.2 + n53.2) ∧ κ.2.2.1 (.returned (some (.int (((2 : Int32) * x51) + x59)))) M56)))))))))))))))))))))))))))))))) ∧ (x10 = 0 → (rb_fin κ (n.1 + n2.1 + n8.1, n.2 + n2.2 + n8.2) ∧ κ.2.2.1 (.returned (some (.int (-1 : Int32)))) M11)))))))))) : rb_Bd κ mX0_chain n M 0 [some (.ref a0), some (.int a1), some (.int a2), some (.int a3), none] [] := by
  refine rb_aload_n 0 rfl rfl (rb_isR_ref _) dX0_chain_0 ?_
  refine rb_iload_n 1 rfl rfl dX0_chain_1 ?_
  obtain ⟨d1, n2, Q3, h1x4, hdx4, hnx4, hox4, Kx4⟩ := K
  refine rb_call st_X0_346_0 (rest := []) h1x4 rfl rfl (rc_rc rfl hox4) (Nat.le_of_ble_eq_true rfl) hdx4.1 hdx4.2 hnx4.1 hnx4.2 dX0_chain_2 (fun o M5 hpx4 => ?_)
  obtain ⟨x4, eo, KKx4⟩ := Kx4 o M5 hpx4
  subst eo
  show rb_Bd κ mX0_chain (n.1 + n2.1, n.2 + n2.2) M5 5 [some (.ref a0), some (.int a1), some (.int a2), some (.int a3), none] [.int x4]
  refine rb_ifeq 18 (by decide) dX0_chain_5 (fun c6 => ?_) (fun c6 => ?_)
  · skip
    refine rb_iconst (v := (-1 : Int32)) (by decide) dX0_chain_18 ?_
    exact rb_iret rfl rfl (((KKx4).1 c6)).1.1 (((KKx4).1 c6)).1.2 dX0_chain_19 (((KKx4).1 c6)).2
  · skip
    refine rb_iload_n 2 rfl rfl dX0_chain_8 ?_
    refine rb_iconst (v := (0 : Int32)) (by decide) dX0_chain_9 ?_
    refine rb_bipush (v := (11 : Int32)) (by decide) dX0_chain_10 ?_
    obtain ⟨d7, n8, Q9, h1x10, hdx10, hnx10, Kx10⟩ := ((KKx4).2 c6)
    refine rb_call st_X0_45 (rest := []) h1x10 rfl rfl mm_rn (Nat.le_of_ble_eq_true rfl) hdx10.1 hdx10.2 hnx10.1 hnx10.2 dX0_chain_12 (fun o M11 hpx10 => ?_)
    obtain ⟨x10, eo, KKx10⟩ := Kx10 o M11 hpx10
    subst eo
    show rb_Bd κ mX0_chain (n.1 + n2.1 + n8.1, n.2 + n2.2 + n8.2) M11 15 [some (.ref a0), some (.int a1), some (.int a2), some (.int a3), none] [.int x10]
    refine rb_ifne 20 (by decide) dX0_chain_15 (fun c12 => ?_) (fun c12 => ?_)
    · skip
      refine rb_aload_n 0 rfl rfl (rb_isR_ref _) dX0_chain_20 ?_
      obtain ⟨v13, hrv13, hv13, Kv13⟩ := ((KKx10).1 c12)
      refine rc_get fl_X0_136_0 hrv13 dX0_chain_21 ?_
      refine rb_iload_n 1 rfl rfl dX0_chain_24 ?_
      obtain ⟨q14, eq14, Kq14⟩ := Kv13
      subst eq14
      obtain ⟨d15, n16, Q17, h1v18, hdv18, hnv18, hov18, Kv18⟩ := Kq14
      refine rb_call st_X0_218_7 (rest := []) h1v18 rfl rfl (rc_rc rfl hov18) (Nat.le_of_ble_eq_true rfl) hdv18.1 hdv18.2 hnv18.1 hnv18.2 dX0_chain_25 (fun o M19 hpv18 => ?_)
      obtain ⟨v18, eo, hv18, KKv18⟩ := Kv18 o M19 hpv18
      subst eo
      show rb_Bd κ mX0_chain (n.1 + n2.1 + n8.1 + n16.1, n.2 + n2.2 + n8.2 + n16.2) M19 28 [some (.ref a0), some (.int a1), some (.int a2), some (.int a3), none] [v18]
      obtain ⟨q20, eq20, Kq20⟩ := KKv18
      subst eq20
      obtain ⟨ci21, ⟨fsci21, hoci21⟩, hcci21, Kci21⟩ := Kq20
      refine rb_cast q1111 hoci21 hcci21 dX0_chain_28 ?_
      obtain ⟨v22, hrv22, hv22, Kv22⟩ := Kci21
      refine rc_get fl_X0_300_27 hrv22 dX0_chain_31 ?_
      refine rb_iload_n 2 rfl rfl dX0_chain_34 ?_
      obtain ⟨q23, eq23, Kq23⟩ := Kv22
      subst eq23
      obtain ⟨d24, n25, Q26, h1v27, hdv27, hnv27, hov27, Kv27⟩ := Kq23
      refine rb_call st_X0_218_7 (rest := []) h1v27 rfl rfl (rc_rc rfl hov27) (Nat.le_of_ble_eq_true rfl) hdv27.1 hdv27.2 hnv27.1 hnv27.2 dX0_chain_35 (fun o M28 hpv27 => ?_)
      obtain ⟨v27, eo, hv27, KKv27⟩ := Kv27 o M28 hpv27
      subst eo
      show rb_Bd κ mX0_chain (n.1 + n2.1 + n8.1 + n16.1 + n25.1, n.2 + n2.2 + n8.2 + n16.2 + n25.2) M28 38 [some (.ref a0), some (.int a1), some (.int a2), some (.int a3), none] [v27]
      obtain ⟨q29, eq29, Kq29⟩ := KKv27
      subst eq29
      obtain ⟨ci30, ⟨fsci30, hoci30⟩, hcci30, Kci30⟩ := Kq29
      refine rb_cast q212 hoci30 hcci30 dX0_chain_38 ?_
      refine rb_astore (ls' := [some (.ref a0), some (.int a1), some (.int a2), some (.int a3), some (.ref q29)]) (by decide) rfl rfl (rb_isR_ref _) dX0_chain_41 ?_
      refine rb_iload_n 3 rfl rfl dX0_chain_43 ?_
      refine rb_iconst (v := (0 : Int32)) (by decide) dX0_chain_44 ?_
      refine rb_aload rfl (rb_isR_ref _) dX0_chain_45 ?_
      obtain ⟨d31, n32, Q33, h1x34, hdx34, hnx34, hox34, Kx34⟩ := Kci30
      refine rb_call st_X0_201_7 (rest := [.int (0 : Int32), .int a3]) h1x34 rfl rfl (rc_rc rfl hox34) (Nat.le_of_ble_eq_true rfl) hdx34.1 hdx34.2 hnx34.1 hnx34.2 dX0_chain_47 (fun o M35 hpx34 => ?_)
      obtain ⟨x34, eo, KKx34⟩ := Kx34 o M35 hpx34
      subst eo
      show rb_Bd κ mX0_chain (n.1 + n2.1 + n8.1 + n16.1 + n25.1 + n32.1, n.2 + n2.2 + n8.2 + n16.2 + n25.2 + n32.2) M35 50 [some (.ref a0), some (.int a1), some (.int a2), some (.int a3), some (.ref q29)] [.int x34, .int (0 : Int32), .int a3]
      refine rb_iconst (v := (1 : Int32)) (by decide) dX0_chain_50 ?_
      refine rb_isub (z := (x34 - (1 : Int32))) rfl dX0_chain_51 ?_
      obtain ⟨d36, n37, Q38, h1x39, hdx39, hnx39, Kx39⟩ := KKx34
      refine rb_call st_X0_45 (rest := []) h1x39 rfl rfl mm_rn (Nat.le_of_ble_eq_true rfl) hdx39.1 hdx39.2 hnx39.1 hnx39.2 dX0_chain_52 (fun o M40 hpx39 => ?_)
      obtain ⟨x39, eo, KKx39⟩ := Kx39 o M40 hpx39
      subst eo
      show rb_Bd κ mX0_chain (n.1 + n2.1 + n8.1 + n16.1 + n25.1 + n32.1 + n37.1, n.2 + n2.2 + n8.2 + n16.2 + n25.2 + n32.2 + n37.2) M40 55 [some (.ref a0), some (.int a1), some (.int a2), some (.int a3), some (.ref q29)] [.int x39]
      refine rb_ifeq 91 (by decide) dX0_chain_55 (fun c41 => ?_) (fun c41 => ?_)
      · skip
        refine rb_bipush (v := (-9 : Int32)) (by decide) dX0_chain_91 ?_
        exact rb_iret rfl rfl (((KKx39).1 c41)).1.1 (((KKx39).1 c41)).1.2 dX0_chain_93 (((KKx39).1 c41)).2
      · skip
        refine rb_iconst (v := (2 : Int32)) (by decide) dX0_chain_58 ?_
        refine rb_aload rfl (rb_isR_ref _) dX0_chain_59 ?_
        refine rb_iload_n 3 rfl rfl dX0_chain_61 ?_
        obtain ⟨d42, n43, Q44, h1v45, hdv45, hnv45, hov45, Kv45⟩ := ((KKx39).2 c41)
        refine rb_call st_X0_218_7 (rest := [.int (2 : Int32)]) h1v45 rfl rfl (rc_rc rfl hov45) (Nat.le_of_ble_eq_true rfl) hdv45.1 hdv45.2 hnv45.1 hnv45.2 dX0_chain_62 (fun o M46 hpv45 => ?_)
        obtain ⟨v45, eo, hv45, KKv45⟩ := Kv45 o M46 hpv45
        subst eo
        show rb_Bd κ mX0_chain (n.1 + n2.1 + n8.1 + n16.1 + n25.1 + n32.1 + n37.1 + n43.1, n.2 + n2.2 + n8.2 + n16.2 + n25.2 + n32.2 + n37.2 + n43.2) M46 65 [some (.ref a0), some (.int a1), some (.int a2), some (.int a3), some (.ref q29)] [v45, .int (2 : Int32)]
        obtain ⟨q47, eq47, Kq47⟩ := KKv45
        subst eq47
        obtain ⟨ci48, ⟨fsci48, hoci48⟩, hcci48, Kci48⟩ := Kq47
        refine rb_cast q240 hoci48 hcci48 dX0_chain_65 ?_
        obtain ⟨v49, hrv49, hv49, Kv49⟩ := Kci48
        refine rc_get fl_X0_23_6 hrv49 dX0_chain_68 ?_
        obtain ⟨q50, eq50, Kq50⟩ := Kv49
        subst eq50
        obtain ⟨x51, hrx51, Kx51⟩ := Kq50
        refine rc_get fl_X0_272_5 hrx51 dX0_chain_71 ?_
        refine rb_imul (z := ((2 : Int32) * x51)) rfl dX0_chain_74 ?_
        refine rb_aload rfl (rb_isR_ref _) dX0_chain_75 ?_
        refine rb_iload_n 3 rfl rfl dX0_chain_77 ?_
        obtain ⟨d52, n53, Q54, h1v55, hdv55, hnv55, hov55, Kv55⟩ := Kx51
        refine rb_call st_X0_218_7 (rest := [.int ((2 : Int32) * x51)]) h1v55 rfl rfl (rc_rc rfl hov55) (Nat.le_of_ble_eq_true rfl) hdv55.1 hdv55.2 hnv55.1 hnv55.2 dX0_chain_78 (fun o M56 hpv55 => ?_)
        obtain ⟨v55, eo, hv55, KKv55⟩ := Kv55 o M56 hpv55
        subst eo
        show rb_Bd κ mX0_chain (n.1 + n2.1 + n8.1 + n16.1 + n25.1 + n32.1 + n37.1 + n43.1 + n53.1, n.2 + n2.2 + n8.2 + n16.2 + n25.2 + n32.2 + n37.2 + n43.2 + n53.2) M56 81 [some (.ref a0), some (.int a1), some (.int a2), some (.int a3), some (.ref q29)] [v55, .int ((2 : Int32) * x51)]
        obtain ⟨q57, eq57, Kq57⟩ := KKv55
        subst eq57
        obtain ⟨ci58, ⟨fsci58, hoci58⟩, hcci58, Kci58⟩ := Kq57
        refine rb_cast q240 hoci58 hcci58 dX0_chain_81 ?_
        obtain ⟨x59, hrx59, Kx59⟩ := Kci58
        refine rc_get fl_X0_303_6 hrx59 dX0_chain_84 ?_
        refine rb_iadd (z := (((2 : Int32) * x51) + x59)) rfl dX0_chain_87 ?_
        refine rb_goto 93 (by decide) dX0_chain_88 ?_
        exact rb_iret rfl rfl (Kx59).1.1 (Kx59).1.2 dX0_chain_93 (Kx59).2
    · skip
      refine rb_iconst (v := (-1 : Int32)) (by decide) dX0_chain_18 ?_
      exact rb_iret rfl rfl (((KKx10).2 c12)).1.1 (((KKx10).2 c12)).1.2 dX0_chain_19 (((KKx10).2 c12)).2
theorem sgX0_under_0 {κ : rb_K} {n : Nat × Nat} {M : rb_H} {a0 : Nat} {a1 : Int32} {a2 : Int32} (K : (∃ (d1 : Nat) (n2 : Nat × Nat) (Q3 : Outcome → rb_H → Prop), rb_Ct κ.1 yX0_isRole wX0_isRole d1 n2 [.ref a0, .int a1] M Q3 ∧ rb_dp κ d1 ∧ rb_rom κ (n.1 + n2.1, n.2 + n2.2) ∧ rb_ob M a0 0 ∧ ∀ (o : Outcome) (M5 : rb_H), Q3 o M5 → (∃ (x4 : Int32), o = .returned (some (.int x4)) ∧ ((x4 = 0 → (rb_fin κ (n.1 + n2.1, n.2 + n2.2) ∧ κ.2.2.1 (.returned (some (.int (-1 : Int32)))) M5)) ∧ (¬ x4 = 0 → (∃ (d7 : Nat) (n8 : Nat × Nat) (Q9 : Outcome → rb_H → Prop), rb_Ct κ.1 yX0_isRole wX0_isRole d7 n8 [.ref a0, .int a2] M5 Q9 ∧ rb_dp κ d7 ∧ rb_rom κ (n.1 + n2.1 + n8.1, n.2 + n2.2 + n8.2) ∧ rb_ob M5 a0 0 ∧ ∀ (o : Outcome) (M11 : rb_H), Q9 o M11 → (∃ (x10 : Int32), o = .returned (some (.int x10)) ∧ ((¬ x10 = 0 → (∃ (v13 : Value), rb_rd M11 a0 0 7 (v13) ∧ rb_isR v13 ∧ (∃ q14, v13 = .ref q14 ∧ (∃ (d15 : Nat) (n16 : Nat × Nat) (Q17 : Outcome → rb_H → Prop), rb_Ct κ.1 yJ4_get wJ4_get d15 n16 [.ref q14, .int a1] M11 Q17 ∧ rb_dp κ d15 ∧ rb_rom κ (n.1 + n2.1 + n8.1 + n16.1, n.2 + n2.2 + n8.2 + n16.2) ∧ rb_ob M11 q14 7 ∧ ∀ (o : Outcome) (M19 : rb_H), Q17 o M19 → (∃ (v18 : Value), o = .returned (some v18) ∧ rb_isR v18 ∧ (∃ q20, v18 = .ref q20 ∧ (∃ ci21, rb_ob M19 q20 ci21 ∧ rb_CC ci21 "RoleLoom$Role" ∧ (∃ (v22 : Value), rb_rd M19 a0 0 7 (v22) ∧ rb_isR v22 ∧ (∃ q23, v22 = .ref q23 ∧ (∃ (d24 : Nat) (n25 : Nat × Nat) (Q26 : Outcome → rb_H → Prop), rb_Ct κ.1 yJ4_get wJ4_get d24 n25 [.ref q23, .int a2] M19 Q26 ∧ rb_dp κ d24 ∧ rb_rom κ (n.1 + n2.1 + n8.1 + n16.1 + n25.1, n.2 + n2.2 + n8.2 + n16.2 + n25.2) ∧ rb_ob M19 q23 7 ∧ ∀ (o : Outcome) (M28 : rb_H), Q26 o M28 → (∃ (v27 : Value), o = .returned (some v27) ∧ rb_isR v27 ∧ (∃ q29, v27 = .ref q29 ∧ (∃ ci30, rb_ob M28 q29 ci30 ∧ rb_CC ci30 "RoleLoom$Role" ∧ (∃ (d31 : Nat) (n32 : Nat × Nat) (Q33 : Outcome → rb_H → Prop), rb_Ct κ.1 yX0_isUnder wX0_isUnder d31 n32 [.ref q20, .ref q29] M28 Q33 ∧ rb_dp κ d31 ∧ rb_rom κ (n.1 + n2.1 + n8.1 + n16.1 + n25.1 + n32.1, n.2 + n2.2 + n8.2 + n16.2 + n25.2 + n32.2) ∧ ∀ (o : Outcome) (M35 : rb_H), Q33 o M35 → (∃ (x34 : Int32), o = .returned (some (.int x34)) ∧ ((x34 = 0 → (rb_fin κ (n.1 + n2.1 + n8.1 + n16.1 + n25.1 + n32.1, n.2 + n2.2 + n8.2 + n16.2 + n25.2 + n32.2) ∧ κ.2.2.1 (.returned (some (.int (0 : Int32)))) M35)) ∧ (¬ x34 = 0 → (rb_fin κ (n.1 + n2.1 + n8.1 + n16.1 + n25.1 + n32.1, n.2 + n2.2 + n8.2 + n16.2 + n25.2 + n32.2) ∧ κ.2.2.1 (.returned (some (.int (1 : Int32)))) M35)))))))))))))))))) ∧ (x10 = 0 → (rb_fin κ (n.1 + n2.1 + n8.1, n.2 + n2.2 + n8.2) ∧ κ.2.2.1 (.returned (some (.int (-1 : Int32)))) M11)))))))))) : rb_Bd κ mX0_under n M 0 [some (.ref a0), some (.int a1), some (.int a2)] [] := by
  refine rb_aload_n 0 rfl rfl (rb_isR_ref _) dX0_under_0 ?_
  refine rb_iload_n 1 rfl rfl dX0_under_1 ?_
  obtain ⟨d1, n2, Q3, h1x4, hdx4, hnx4, hox4, Kx4⟩ := K
  refine rb_call st_X0_346_0 (rest := []) h1x4 rfl rfl (rc_rc rfl hox4) (Nat.le_of_ble_eq_true rfl) hdx4.1 hdx4.2 hnx4.1 hnx4.2 dX0_under_2 (fun o M5 hpx4 => ?_)
  obtain ⟨x4, eo, KKx4⟩ := Kx4 o M5 hpx4
  subst eo
  show rb_Bd κ mX0_under (n.1 + n2.1, n.2 + n2.2) M5 5 [some (.ref a0), some (.int a1), some (.int a2)] [.int x4]
  refine rb_ifeq 16 (by decide) dX0_under_5 (fun c6 => ?_) (fun c6 => ?_)
  · skip
    refine rb_iconst (v := (-1 : Int32)) (by decide) dX0_under_16 ?_
    refine rb_goto 53 (by decide) dX0_under_17 ?_
    exact rb_iret rfl rfl (((KKx4).1 c6)).1.1 (((KKx4).1 c6)).1.2 dX0_under_53 (((KKx4).1 c6)).2
  · skip
    refine rb_aload_n 0 rfl rfl (rb_isR_ref _) dX0_under_8 ?_
    refine rb_iload_n 2 rfl rfl dX0_under_9 ?_
    obtain ⟨d7, n8, Q9, h1x10, hdx10, hnx10, hox10, Kx10⟩ := ((KKx4).2 c6)
    refine rb_call st_X0_346_0 (rest := []) h1x10 rfl rfl (rc_rc rfl hox10) (Nat.le_of_ble_eq_true rfl) hdx10.1 hdx10.2 hnx10.1 hnx10.2 dX0_under_10 (fun o M11 hpx10 => ?_)
    obtain ⟨x10, eo, KKx10⟩ := Kx10 o M11 hpx10
    subst eo
    show rb_Bd κ mX0_under (n.1 + n2.1 + n8.1, n.2 + n2.2 + n8.2) M11 13 [some (.ref a0), some (.int a1), some (.int a2)] [.int x10]
    refine rb_ifne 20 (by decide) dX0_under_13 (fun c12 => ?_) (fun c12 => ?_)
    · skip
      refine rb_aload_n 0 rfl rfl (rb_isR_ref _) dX0_under_20 ?_
      obtain ⟨v13, hrv13, hv13, Kv13⟩ := ((KKx10).1 c12)
      refine rc_get fl_X0_136_0 hrv13 dX0_under_21 ?_
      refine rb_iload_n 1 rfl rfl dX0_under_24 ?_
      obtain ⟨q14, eq14, Kq14⟩ := Kv13
      subst eq14
      obtain ⟨d15, n16, Q17, h1v18, hdv18, hnv18, hov18, Kv18⟩ := Kq14
      refine rb_call st_X0_218_7 (rest := []) h1v18 rfl rfl (rc_rc rfl hov18) (Nat.le_of_ble_eq_true rfl) hdv18.1 hdv18.2 hnv18.1 hnv18.2 dX0_under_25 (fun o M19 hpv18 => ?_)
      obtain ⟨v18, eo, hv18, KKv18⟩ := Kv18 o M19 hpv18
      subst eo
      show rb_Bd κ mX0_under (n.1 + n2.1 + n8.1 + n16.1, n.2 + n2.2 + n8.2 + n16.2) M19 28 [some (.ref a0), some (.int a1), some (.int a2)] [v18]
      obtain ⟨q20, eq20, Kq20⟩ := KKv18
      subst eq20
      obtain ⟨ci21, ⟨fsci21, hoci21⟩, hcci21, Kci21⟩ := Kq20
      refine rb_cast q1111 hoci21 hcci21 dX0_under_28 ?_
      refine rb_aload_n 0 rfl rfl (rb_isR_ref _) dX0_under_31 ?_
      obtain ⟨v22, hrv22, hv22, Kv22⟩ := Kci21
      refine rc_get fl_X0_136_0 hrv22 dX0_under_32 ?_
      refine rb_iload_n 2 rfl rfl dX0_under_35 ?_
      obtain ⟨q23, eq23, Kq23⟩ := Kv22
      subst eq23
      obtain ⟨d24, n25, Q26, h1v27, hdv27, hnv27, hov27, Kv27⟩ := Kq23
      refine rb_call st_X0_218_7 (rest := [.ref q20]) h1v27 rfl rfl (rc_rc rfl hov27) (Nat.le_of_ble_eq_true rfl) hdv27.1 hdv27.2 hnv27.1 hnv27.2 dX0_under_36 (fun o M28 hpv27 => ?_)
      obtain ⟨v27, eo, hv27, KKv27⟩ := Kv27 o M28 hpv27
      subst eo
      show rb_Bd κ mX0_under (n.1 + n2.1 + n8.1 + n16.1 + n25.1, n.2 + n2.2 + n8.2 + n16.2 + n25.2) M28 39 [some (.ref a0), some (.int a1), some (.int a2)] [v27, .ref q20]
      obtain ⟨q29, eq29, Kq29⟩ := KKv27
      subst eq29
      obtain ⟨ci30, ⟨fsci30, hoci30⟩, hcci30, Kci30⟩ := Kq29
      refine rb_cast q1111 hoci30 hcci30 dX0_under_39 ?_
      obtain ⟨d31, n32, Q33, h1x34, hdx34, hnx34, Kx34⟩ := Kci30
      refine rb_call st_X0_353 (rest := []) h1x34 rfl rfl mm_rn (Nat.le_of_ble_eq_true rfl) hdx34.1 hdx34.2 hnx34.1 hnx34.2 dX0_under_42 (fun o M35 hpx34 => ?_)
      obtain ⟨x34, eo, KKx34⟩ := Kx34 o M35 hpx34
      subst eo
      show rb_Bd κ mX0_under (n.1 + n2.1 + n8.1 + n16.1 + n25.1 + n32.1, n.2 + n2.2 + n8.2 + n16.2 + n25.2 + n32.2) M35 45 [some (.ref a0), some (.int a1), some (.int a2)] [.int x34]
      refine rb_ifeq 52 (by decide) dX0_under_45 (fun c36 => ?_) (fun c36 => ?_)
      · skip
        refine rb_iconst (v := (0 : Int32)) (by decide) dX0_under_52 ?_
        exact rb_iret rfl rfl (((KKx34).1 c36)).1.1 (((KKx34).1 c36)).1.2 dX0_under_53 (((KKx34).1 c36)).2
      · skip
        refine rb_iconst (v := (1 : Int32)) (by decide) dX0_under_48 ?_
        refine rb_goto 53 (by decide) dX0_under_49 ?_
        exact rb_iret rfl rfl (((KKx34).2 c36)).1.1 (((KKx34).2 c36)).1.2 dX0_under_53 (((KKx34).2 c36)).2
    · skip
      refine rb_iconst (v := (-1 : Int32)) (by decide) dX0_under_16 ?_
      refine rb_goto 53 (by decide) dX0_under_17 ?_
      exact rb_iret rfl rfl (((KKx10).2 c12)).1.1 (((KKx10).2 c12)).1.2 dX0_under_53 (((KKx10).2 c12)).2
theorem sgX0_isUnder_0 {κ : rb_K} {n : Nat × Nat} {M : rb_H} {a0 : Value} {a1 : Value} (ha0 : rb_isR a0) (ha1 : rb_isR a1) (K : (∃ q1, a1 = .ref q1 ∧ (∃ (v2 : Value), rb_rd M q1 27 1 (v2) ∧ rb_isR v2 ∧ (∃ q3, v2 = .ref q3 ∧ (∃ (d4 : Nat) (n5 : Nat × Nat) (Q6 : Outcome → rb_H → Prop), rb_Ct κ.1 yJ4_size wJ4_size d4 n5 [.ref q3] M Q6 ∧ rb_dp κ d4 ∧ rb_rom κ (n.1 + n5.1, n.2 + n5.2) ∧ rb_ob M q3 7 ∧ ∀ (o : Outcome) (M8 : rb_H), Q6 o M8 → (∃ (x7 : Int32), o = .returned (some (.int x7)) ∧ (∃ (d9 : Nat) (n10 : Nat × Nat) (Q11 : Outcome → rb_H → Prop), rb_Ct κ.1 yX0_isAlike wX0_isAlike d9 n10 [a0, .ref q1, .int x7] M8 Q11 ∧ rb_dp κ d9 ∧ rb_rom κ (n.1 + n5.1 + n10.1, n.2 + n5.2 + n10.2) ∧ ∀ (o : Outcome) (M13 : rb_H), Q11 o M13 → (∃ (x12 : Int32), o = .returned (some (.int x12)) ∧ (narrow .boolean (.int x12) = .int x12 ∧ rb_fin κ (n.1 + n5.1 + n10.1, n.2 + n5.2 + n10.2) ∧ κ.2.2.1 (.returned (some (.int x12))) M13))))))))) : rb_Bd κ mX0_isUnder n M 0 [some a0, some a1] [] := by
  refine rb_aload_n 0 rfl rfl ha0 dX0_isUnder_0 ?_
  refine rb_aload_n 1 rfl rfl ha1 dX0_isUnder_1 ?_
  refine rb_aload_n 1 rfl rfl ha1 dX0_isUnder_2 ?_
  obtain ⟨q1, eq1, Kq1⟩ := K
  subst eq1
  obtain ⟨v2, hrv2, hv2, Kv2⟩ := Kq1
  refine rc_get fl_X0_291_27 hrv2 dX0_isUnder_3 ?_
  obtain ⟨q3, eq3, Kq3⟩ := Kv2
  subst eq3
  obtain ⟨d4, n5, Q6, h1x7, hdx7, hnx7, hox7, Kx7⟩ := Kq3
  refine rb_call st_X0_201_7 (rest := [.ref q1, a0]) h1x7 rfl rfl (rc_rc rfl hox7) (by simp [rb_isR_cat ha0, rb_cR, rb_cI, rb_cJ, rb_cN]) hdx7.1 hdx7.2 hnx7.1 hnx7.2 dX0_isUnder_6 (fun o M8 hpx7 => ?_)
  obtain ⟨x7, eo, KKx7⟩ := Kx7 o M8 hpx7
  subst eo
  show rb_Bd κ mX0_isUnder (n.1 + n5.1, n.2 + n5.2) M8 9 [some a0, some (.ref q1)] [.int x7, .ref q1, a0]
  obtain ⟨d9, n10, Q11, h1x12, hdx12, hnx12, Kx12⟩ := KKx7
  refine rb_call st_X0_349 (rest := []) h1x12 rfl rfl mm_rn (Nat.le_of_ble_eq_true rfl) hdx12.1 hdx12.2 hnx12.1 hnx12.2 dX0_isUnder_9 (fun o M13 hpx12 => ?_)
  obtain ⟨x12, eo, KKx12⟩ := Kx12 o M13 hpx12
  subst eo
  show rb_Bd κ mX0_isUnder (n.1 + n5.1 + n10.1, n.2 + n5.2 + n10.2) M13 12 [some a0, some (.ref q1)] [.int x12]
  exact rb_iret rfl (KKx12).1 (KKx12).2.1.1 (KKx12).2.1.2 dX0_isUnder_12 (KKx12).2.2
theorem sgX0_isAlike_0 {κ : rb_K} {n : Nat × Nat} {M : rb_H} {a0 : Value} {a1 : Value} {a2 : Int32} (ha0 : rb_isR a0) (ha1 : rb_isR a1) (K : (∃ q1, a0 = .ref q1 ∧ (∃ (v2 : Value), rb_rd M q1 27 1 (v2) ∧ rb_isR v2 ∧ (∃ q3, v2 = .ref q3 ∧ (∃ (d4 : Nat) (n5 : Nat × Nat) (Q6 : Outcome → rb_H → Prop), rb_Ct κ.1 yJ4_size wJ4_size d4 n5 [.ref q3] M Q6 ∧ rb_dp κ d4 ∧ rb_rom κ (n.1 + n5.1, n.2 + n5.2) ∧ rb_ob M q3 7 ∧ ∀ (o : Outcome) (M8 : rb_H), Q6 o M8 → (∃ (x7 : Int32), o = .returned (some (.int x7)) ∧ ((x7 < a2 → rb_Bd κ mX0_isAlike (n.1 + n5.1, n.2 + n5.2) M8 31 [some (.ref q1), some a1, some (.int a2), some (.int (0 : Int32)), some (.int (0 : Int32))] []) ∧ (a2 ≤ x7 → (∃ q10, a1 = .ref q10 ∧ (∃ (v11 : Value), rb_rd M8 q10 27 1 (v11) ∧ rb_isR v11 ∧ (∃ q12, v11 = .ref q12 ∧ (∃ (d13 : Nat) (n14 : Nat × Nat) (Q15 : Outcome → rb_H → Prop), rb_Ct κ.1 yJ4_size wJ4_size d13 n14 [.ref q12] M8 Q15 ∧ rb_dp κ d13 ∧ rb_rom κ (n.1 + n5.1 + n14.1, n.2 + n5.2 + n14.2) ∧ rb_ob M8 q12 7 ∧ ∀ (o : Outcome) (M17 : rb_H), Q15 o M17 → (∃ (x16 : Int32), o = .returned (some (.int x16)) ∧ ((x16 < a2 → rb_Bd κ mX0_isAlike (n.1 + n5.1 + n14.1, n.2 + n5.2 + n14.2) M17 31 [some (.ref q1), some (.ref q10), some (.int a2), some (.int (0 : Int32)), some (.int (0 : Int32))] []) ∧ (a2 ≤ x16 → rb_Bd κ mX0_isAlike (n.1 + n5.1 + n14.1, n.2 + n5.2 + n14.2) M17 31 [some (.ref q1), some (.ref q10), some (.int a2), some (.int (1 : Int32)), some (.int (0 : Int32))] []))))))))))))))) : rb_Bd κ mX0_isAlike n M 0 [some a0, some a1, some (.int a2), none, none] [] := by
  refine rb_aload_n 0 rfl rfl ha0 dX0_isAlike_0 ?_
  obtain ⟨q1, eq1, Kq1⟩ := K
  subst eq1
  obtain ⟨v2, hrv2, hv2, Kv2⟩ := Kq1
  refine rc_get fl_X0_291_27 hrv2 dX0_isAlike_1 ?_
  obtain ⟨q3, eq3, Kq3⟩ := Kv2
  subst eq3
  obtain ⟨d4, n5, Q6, h1x7, hdx7, hnx7, hox7, Kx7⟩ := Kq3
  refine rb_call st_X0_201_7 (rest := []) h1x7 rfl rfl (rc_rc rfl hox7) (Nat.le_of_ble_eq_true rfl) hdx7.1 hdx7.2 hnx7.1 hnx7.2 dX0_isAlike_4 (fun o M8 hpx7 => ?_)
  obtain ⟨x7, eo, KKx7⟩ := Kx7 o M8 hpx7
  subst eo
  show rb_Bd κ mX0_isAlike (n.1 + n5.1, n.2 + n5.2) M8 7 [some (.ref q1), some a1, some (.int a2), none, none] [.int x7]
  refine rb_iload_n 2 rfl rfl dX0_isAlike_7 ?_
  refine rb_iclt 26 (by decide) dX0_isAlike_8 (fun c9 => ?_) (fun c9 => ?_)
  · skip
    refine rb_iconst (v := (0 : Int32)) (by decide) dX0_isAlike_26 ?_
    refine rb_istore_n 3 rfl (ls' := [some (.ref q1), some a1, some (.int a2), some (.int (0 : Int32)), none]) (by decide) rfl rfl dX0_isAlike_27 ?_
    refine rb_iconst (v := (0 : Int32)) (by decide) dX0_isAlike_28 ?_
    refine rb_istore (ls' := [some (.ref q1), some a1, some (.int a2), some (.int (0 : Int32)), some (.int (0 : Int32))]) (by decide) rfl rfl dX0_isAlike_29 ?_
    exact ((KKx7).1 c9)
  · skip
    refine rb_aload_n 1 rfl rfl ha1 dX0_isAlike_11 ?_
    obtain ⟨q10, eq10, Kq10⟩ := ((KKx7).2 c9)
    subst eq10
    obtain ⟨v11, hrv11, hv11, Kv11⟩ := Kq10
    refine rc_get fl_X0_291_27 hrv11 dX0_isAlike_12 ?_
    obtain ⟨q12, eq12, Kq12⟩ := Kv11
    subst eq12
    obtain ⟨d13, n14, Q15, h1x16, hdx16, hnx16, hox16, Kx16⟩ := Kq12
    refine rb_call st_X0_201_7 (rest := []) h1x16 rfl rfl (rc_rc rfl hox16) (Nat.le_of_ble_eq_true rfl) hdx16.1 hdx16.2 hnx16.1 hnx16.2 dX0_isAlike_15 (fun o M17 hpx16 => ?_)
    obtain ⟨x16, eo, KKx16⟩ := Kx16 o M17 hpx16
    subst eo
    show rb_Bd κ mX0_isAlike (n.1 + n5.1 + n14.1, n.2 + n5.2 + n14.2) M17 18 [some (.ref q1), some (.ref q10), some (.int a2), none, none] [.int x16]
    refine rb_iload_n 2 rfl rfl dX0_isAlike_18 ?_
    refine rb_iclt 26 (by decide) dX0_isAlike_19 (fun c18 => ?_) (fun c18 => ?_)
    · skip
      refine rb_iconst (v := (0 : Int32)) (by decide) dX0_isAlike_26 ?_
      refine rb_istore_n 3 rfl (ls' := [some (.ref q1), some (.ref q10), some (.int a2), some (.int (0 : Int32)), none]) (by decide) rfl rfl dX0_isAlike_27 ?_
      refine rb_iconst (v := (0 : Int32)) (by decide) dX0_isAlike_28 ?_
      refine rb_istore (ls' := [some (.ref q1), some (.ref q10), some (.int a2), some (.int (0 : Int32)), some (.int (0 : Int32))]) (by decide) rfl rfl dX0_isAlike_29 ?_
      exact ((KKx16).1 c18)
    · skip
      refine rb_iconst (v := (1 : Int32)) (by decide) dX0_isAlike_22 ?_
      refine rb_goto 27 (by decide) dX0_isAlike_23 ?_
      refine rb_istore_n 3 rfl (ls' := [some (.ref q1), some (.ref q10), some (.int a2), some (.int (1 : Int32)), none]) (by decide) rfl rfl dX0_isAlike_27 ?_
      refine rb_iconst (v := (0 : Int32)) (by decide) dX0_isAlike_28 ?_
      refine rb_istore (ls' := [some (.ref q1), some (.ref q10), some (.int a2), some (.int (1 : Int32)), some (.int (0 : Int32))]) (by decide) rfl rfl dX0_isAlike_29 ?_
      exact ((KKx16).2 c18)
theorem sgX0_isAlike_31 {κ : rb_K} {n : Nat × Nat} {M : rb_H} {a0 : Value} {a1 : Value} {a2 : Int32} {a3 : Int32} {a4 : Int32} (ha0 : rb_isR a0) (ha1 : rb_isR a1) (K : ((a2 ≤ a4 → (narrow .boolean (.int a3) = .int a3 ∧ rb_fin κ n ∧ κ.2.2.1 (.returned (some (.int a3))) M)) ∧ (a4 < a2 → ((a3 = 0 → (narrow .boolean (.int a3) = .int a3 ∧ rb_fin κ n ∧ κ.2.2.1 (.returned (some (.int a3))) M)) ∧ (¬ a3 = 0 → (∃ q3, a0 = .ref q3 ∧ (∃ (v4 : Value), rb_rd M q3 27 1 (v4) ∧ rb_isR v4 ∧ (∃ q5, v4 = .ref q5 ∧ (∃ (d6 : Nat) (n7 : Nat × Nat) (Q8 : Outcome → rb_H → Prop), rb_Ct κ.1 yJ4_get wJ4_get d6 n7 [.ref q5, .int a4] M Q8 ∧ rb_dp κ d6 ∧ rb_rom κ (n.1 + n7.1, n.2 + n7.2) ∧ rb_ob M q5 7 ∧ ∀ (o : Outcome) (M10 : rb_H), Q8 o M10 → (∃ (v9 : Value), o = .returned (some v9) ∧ rb_isR v9 ∧ (∃ q11, a1 = .ref q11 ∧ (∃ (v12 : Value), rb_rd M10 q11 27 1 (v12) ∧ rb_isR v12 ∧ (∃ q13, v12 = .ref q13 ∧ (∃ (d14 : Nat) (n15 : Nat × Nat) (Q16 : Outcome → rb_H → Prop), rb_Ct κ.1 yJ4_get wJ4_get d14 n15 [.ref q13, .int a4] M10 Q16 ∧ rb_dp κ d14 ∧ rb_rom κ (n.1 + n7.1 + n15.1, n.2 + n7.2 + n15.2) ∧ rb_ob M10 q13 7 ∧ ∀ (o : Outcome) (M18 : rb_H), Q16 o M18 → (∃ (v17 : Value), o = .returned (some v17) ∧ rb_isR v17 ∧ ((¬ v9 = v17 → rb_Bd κ mX0_isAlike (n.1 + n7.1 + n15.1, n.2 + n7.2 + n15.2) M18 31 [some (.ref q3), some (.ref q11), some (.int a2), some (.int (0 : Int32)), some (.int (a4 + (1 : Int32)))] []) ∧ (v9 = v17 → rb_Bd κ mX0_isAlike (n.1 + n7.1 + n15.1, n.2 + n7.2 + n15.2) M18 31 [some (.ref q3), some (.ref q11), some (.int a2), some (.int (1 : Int32)), some (.int (a4 + (1 : Int32)))] []))))))))))))))))) : rb_Bd κ mX0_isAlike n M 31 [some a0, some a1, some (.int a2), some (.int a3), some (.int a4)] [] := by
  refine rb_iload rfl dX0_isAlike_31 ?_
  refine rb_iload_n 2 rfl rfl dX0_isAlike_33 ?_
  refine rb_icge 74 (by decide) dX0_isAlike_34 (fun c1 => ?_) (fun c1 => ?_)
  · skip
    refine rb_iload_n 3 rfl rfl dX0_isAlike_74 ?_
    exact rb_iret rfl (((K).1 c1)).1 (((K).1 c1)).2.1.1 (((K).1 c1)).2.1.2 dX0_isAlike_75 (((K).1 c1)).2.2
  · skip
    refine rb_iload_n 3 rfl rfl dX0_isAlike_37 ?_
    refine rb_ifeq 74 (by decide) dX0_isAlike_38 (fun c2 => ?_) (fun c2 => ?_)
    · skip
      refine rb_iload_n 3 rfl rfl dX0_isAlike_74 ?_
      exact rb_iret rfl (((((K).2 c1)).1 c2)).1 (((((K).2 c1)).1 c2)).2.1.1 (((((K).2 c1)).1 c2)).2.1.2 dX0_isAlike_75 (((((K).2 c1)).1 c2)).2.2
    · skip
      refine rb_aload_n 0 rfl rfl ha0 dX0_isAlike_41 ?_
      obtain ⟨q3, eq3, Kq3⟩ := ((((K).2 c1)).2 c2)
      subst eq3
      obtain ⟨v4, hrv4, hv4, Kv4⟩ := Kq3
      refine rc_get fl_X0_291_27 hrv4 dX0_isAlike_42 ?_
      refine rb_iload rfl dX0_isAlike_45 ?_
      obtain ⟨q5, eq5, Kq5⟩ := Kv4
      subst eq5
      obtain ⟨d6, n7, Q8, h1v9, hdv9, hnv9, hov9, Kv9⟩ := Kq5
      refine rb_call st_X0_218_7 (rest := []) h1v9 rfl rfl (rc_rc rfl hov9) (Nat.le_of_ble_eq_true rfl) hdv9.1 hdv9.2 hnv9.1 hnv9.2 dX0_isAlike_47 (fun o M10 hpv9 => ?_)
      obtain ⟨v9, eo, hv9, KKv9⟩ := Kv9 o M10 hpv9
      subst eo
      show rb_Bd κ mX0_isAlike (n.1 + n7.1, n.2 + n7.2) M10 50 [some (.ref q3), some a1, some (.int a2), some (.int a3), some (.int a4)] [v9]
      refine rb_aload_n 1 rfl rfl ha1 dX0_isAlike_50 ?_
      obtain ⟨q11, eq11, Kq11⟩ := KKv9
      subst eq11
      obtain ⟨v12, hrv12, hv12, Kv12⟩ := Kq11
      refine rc_get fl_X0_291_27 hrv12 dX0_isAlike_51 ?_
      refine rb_iload rfl dX0_isAlike_54 ?_
      obtain ⟨q13, eq13, Kq13⟩ := Kv12
      subst eq13
      obtain ⟨d14, n15, Q16, h1v17, hdv17, hnv17, hov17, Kv17⟩ := Kq13
      refine rb_call st_X0_218_7 (rest := [v9]) h1v17 rfl rfl (rc_rc rfl hov17) (by simp [rb_isR_cat hv9, rb_cR, rb_cI, rb_cJ, rb_cN]) hdv17.1 hdv17.2 hnv17.1 hnv17.2 dX0_isAlike_56 (fun o M18 hpv17 => ?_)
      obtain ⟨v17, eo, hv17, KKv17⟩ := Kv17 o M18 hpv17
      subst eo
      show rb_Bd κ mX0_isAlike (n.1 + n7.1 + n15.1, n.2 + n7.2 + n15.2) M18 59 [some (.ref q3), some (.ref q11), some (.int a2), some (.int a3), some (.int a4)] [v17, v9]
      refine rb_iane hv9 hv17 66 (by decide) dX0_isAlike_59 (fun c19 => ?_) (fun c19 => ?_)
      · skip
        refine rb_iconst (v := (0 : Int32)) (by decide) dX0_isAlike_66 ?_
        refine rb_istore_n 3 rfl (ls' := [some (.ref q3), some (.ref q11), some (.int a2), some (.int (0 : Int32)), some (.int a4)]) (by decide) rfl rfl dX0_isAlike_67 ?_
        refine rb_iinc (ls' := [some (.ref q3), some (.ref q11), some (.int a2), some (.int (0 : Int32)), some (.int (a4 + (1 : Int32)))]) (v := (a4 + (1 : Int32))) rfl rfl (by decide) rfl rfl dX0_isAlike_68 ?_
        refine rb_goto 31 (by decide) dX0_isAlike_71 ?_
        exact ((KKv17).1 c19)
      · skip
        refine rb_iconst (v := (1 : Int32)) (by decide) dX0_isAlike_62 ?_
        refine rb_goto 67 (by decide) dX0_isAlike_63 ?_
        refine rb_istore_n 3 rfl (ls' := [some (.ref q3), some (.ref q11), some (.int a2), some (.int (1 : Int32)), some (.int a4)]) (by decide) rfl rfl dX0_isAlike_67 ?_
        refine rb_iinc (ls' := [some (.ref q3), some (.ref q11), some (.int a2), some (.int (1 : Int32)), some (.int (a4 + (1 : Int32)))]) (v := (a4 + (1 : Int32))) rfl rfl (by decide) rfl rfl dX0_isAlike_68 ?_
        refine rb_goto 31 (by decide) dX0_isAlike_71 ?_
        exact ((KKv17).2 c19)
theorem sgX0_step_0 {κ : rb_K} {n : Nat × Nat} {M : rb_H} {a0 : Nat} {a1 : Int32} {a2 : Int32} (K : (∃ (d1 : Nat) (n2 : Nat × Nat) (Q3 : Outcome → rb_H → Prop), rb_Ct κ.1 yX0_isRole wX0_isRole d1 n2 [.ref a0, .int a1] M Q3 ∧ rb_dp κ d1 ∧ rb_rom κ (n.1 + n2.1, n.2 + n2.2) ∧ rb_ob M a0 0 ∧ ∀ (o : Outcome) (M5 : rb_H), Q3 o M5 → (∃ (x4 : Int32), o = .returned (some (.int x4)) ∧ ((¬ x4 = 0 → (∃ (v7 : Value), rb_rd M5 a0 0 7 (v7) ∧ rb_isR v7 ∧ (∃ q8, v7 = .ref q8 ∧ (∃ (d9 : Nat) (n10 : Nat × Nat) (Q11 : Outcome → rb_H → Prop), rb_Ct κ.1 yJ4_get wJ4_get d9 n10 [.ref q8, .int a1] M5 Q11 ∧ rb_dp κ d9 ∧ rb_rom κ (n.1 + n2.1 + n10.1, n.2 + n2.2 + n10.2) ∧ rb_ob M5 q8 7 ∧ ∀ (o : Outcome) (M13 : rb_H), Q11 o M13 → (∃ (v12 : Value), o = .returned (some v12) ∧ rb_isR v12 ∧ (∃ q14, v12 = .ref q14 ∧ (∃ ci15, rb_ob M13 q14 ci15 ∧ rb_CC ci15 "RoleLoom$Role" ∧ (∃ (v16 : Value), rb_rd M13 q14 27 1 (v16) ∧ rb_isR v16 ∧ (∃ q17, v16 = .ref q17 ∧ (∃ (d18 : Nat) (n19 : Nat × Nat) (Q20 : Outcome → rb_H → Prop), rb_Ct κ.1 yJ4_size wJ4_size d18 n19 [.ref q17] M13 Q20 ∧ rb_dp κ d18 ∧ rb_rom κ (n.1 + n2.1 + n10.1 + n19.1, n.2 + n2.2 + n10.2 + n19.2) ∧ rb_ob M13 q17 7 ∧ ∀ (o : Outcome) (M22 : rb_H), Q20 o M22 → (∃ (x21 : Int32), o = .returned (some (.int x21)) ∧ (∃ (d23 : Nat) (n24 : Nat × Nat) (Q25 : Outcome → rb_H → Prop), rb_Ct κ.1 yX0_in wX0_in d23 n24 [.int a2, .int (0 : Int32), .int (x21 - (1 : Int32))] M22 Q25 ∧ rb_dp κ d23 ∧ rb_rom κ (n.1 + n2.1 + n10.1 + n19.1 + n24.1, n.2 + n2.2 + n10.2 + n19.2 + n24.2) ∧ ∀ (o : Outcome) (M27 : rb_H), Q25 o M27 → (∃ (x26 : Int32), o = .returned (some (.int x26)) ∧ ((x26 = 0 → (rb_fin κ (n.1 + n2.1 + n10.1 + n19.1 + n24.1, n.2 + n2.2 + n10.2 + n19.2 + n24.2) ∧ κ.2.2.1 (.returned (some (.int (-9 : Int32)))) M27)) ∧ (¬ x26 = 0 → (∃ (d29 : Nat) (n30 : Nat × Nat) (Q31 : Outcome → rb_H → Prop), rb_Ct κ.1 yX0_stepOf wX0_stepOf d29 n30 [.ref a0, .ref q14, .int a2] M27 Q31 ∧ rb_dp κ d29 ∧ rb_rom κ (n.1 + n2.1 + n10.1 + n19.1 + n24.1 + n30.1, n.2 + n2.2 + n10.2 + n19.2 + n24.2 + n30.2) ∧ rb_ob M27 a0 0 ∧ ∀ (o : Outcome) (M33 : rb_H), Q31 o M33 → (∃ (v32 : Value), o = .returned (some v32) ∧ rb_isR v32 ∧ (∃ q34, v32 = .ref q34 ∧ (∃ (x35 : Int32), rb_rd M33 q34 27 0 (.int x35) ∧ (rb_fin κ (n.1 + n2.1 + n10.1 + n19.1 + n24.1 + n30.1, n.2 + n2.2 + n10.2 + n19.2 + n24.2 + n30.2) ∧ κ.2.2.1 (.returned (some (.int x35))) M33)))))))))))))))))))) ∧ (x4 = 0 → (rb_fin κ (n.1 + n2.1, n.2 + n2.2) ∧ κ.2.2.1 (.returned (some (.int (-1 : Int32)))) M5)))))) : rb_Bd κ mX0_step n M 0 [some (.ref a0), some (.int a1), some (.int a2), none] [] := by
  refine rb_aload_n 0 rfl rfl (rb_isR_ref _) dX0_step_0 ?_
  refine rb_iload_n 1 rfl rfl dX0_step_1 ?_
  obtain ⟨d1, n2, Q3, h1x4, hdx4, hnx4, hox4, Kx4⟩ := K
  refine rb_call st_X0_346_0 (rest := []) h1x4 rfl rfl (rc_rc rfl hox4) (Nat.le_of_ble_eq_true rfl) hdx4.1 hdx4.2 hnx4.1 hnx4.2 dX0_step_2 (fun o M5 hpx4 => ?_)
  obtain ⟨x4, eo, KKx4⟩ := Kx4 o M5 hpx4
  subst eo
  show rb_Bd κ mX0_step (n.1 + n2.1, n.2 + n2.2) M5 5 [some (.ref a0), some (.int a1), some (.int a2), none] [.int x4]
  refine rb_ifne 10 (by decide) dX0_step_5 (fun c6 => ?_) (fun c6 => ?_)
  · skip
    refine rb_aload_n 0 rfl rfl (rb_isR_ref _) dX0_step_10 ?_
    obtain ⟨v7, hrv7, hv7, Kv7⟩ := ((KKx4).1 c6)
    refine rc_get fl_X0_136_0 hrv7 dX0_step_11 ?_
    refine rb_iload_n 1 rfl rfl dX0_step_14 ?_
    obtain ⟨q8, eq8, Kq8⟩ := Kv7
    subst eq8
    obtain ⟨d9, n10, Q11, h1v12, hdv12, hnv12, hov12, Kv12⟩ := Kq8
    refine rb_call st_X0_218_7 (rest := []) h1v12 rfl rfl (rc_rc rfl hov12) (Nat.le_of_ble_eq_true rfl) hdv12.1 hdv12.2 hnv12.1 hnv12.2 dX0_step_15 (fun o M13 hpv12 => ?_)
    obtain ⟨v12, eo, hv12, KKv12⟩ := Kv12 o M13 hpv12
    subst eo
    show rb_Bd κ mX0_step (n.1 + n2.1 + n10.1, n.2 + n2.2 + n10.2) M13 18 [some (.ref a0), some (.int a1), some (.int a2), none] [v12]
    obtain ⟨q14, eq14, Kq14⟩ := KKv12
    subst eq14
    obtain ⟨ci15, ⟨fsci15, hoci15⟩, hcci15, Kci15⟩ := Kq14
    refine rb_cast q1111 hoci15 hcci15 dX0_step_18 ?_
    refine rb_astore_n 3 rfl (ls' := [some (.ref a0), some (.int a1), some (.int a2), some (.ref q14)]) (by decide) rfl rfl (rb_isR_ref _) dX0_step_21 ?_
    refine rb_iload_n 2 rfl rfl dX0_step_22 ?_
    refine rb_iconst (v := (0 : Int32)) (by decide) dX0_step_23 ?_
    refine rb_aload_n 3 rfl rfl (rb_isR_ref _) dX0_step_24 ?_
    obtain ⟨v16, hrv16, hv16, Kv16⟩ := Kci15
    refine rc_get fl_X0_291_27 hrv16 dX0_step_25 ?_
    obtain ⟨q17, eq17, Kq17⟩ := Kv16
    subst eq17
    obtain ⟨d18, n19, Q20, h1x21, hdx21, hnx21, hox21, Kx21⟩ := Kq17
    refine rb_call st_X0_201_7 (rest := [.int (0 : Int32), .int a2]) h1x21 rfl rfl (rc_rc rfl hox21) (Nat.le_of_ble_eq_true rfl) hdx21.1 hdx21.2 hnx21.1 hnx21.2 dX0_step_28 (fun o M22 hpx21 => ?_)
    obtain ⟨x21, eo, KKx21⟩ := Kx21 o M22 hpx21
    subst eo
    show rb_Bd κ mX0_step (n.1 + n2.1 + n10.1 + n19.1, n.2 + n2.2 + n10.2 + n19.2) M22 31 [some (.ref a0), some (.int a1), some (.int a2), some (.ref q14)] [.int x21, .int (0 : Int32), .int a2]
    refine rb_iconst (v := (1 : Int32)) (by decide) dX0_step_31 ?_
    refine rb_isub (z := (x21 - (1 : Int32))) rfl dX0_step_32 ?_
    obtain ⟨d23, n24, Q25, h1x26, hdx26, hnx26, Kx26⟩ := KKx21
    refine rb_call st_X0_45 (rest := []) h1x26 rfl rfl mm_rn (Nat.le_of_ble_eq_true rfl) hdx26.1 hdx26.2 hnx26.1 hnx26.2 dX0_step_33 (fun o M27 hpx26 => ?_)
    obtain ⟨x26, eo, KKx26⟩ := Kx26 o M27 hpx26
    subst eo
    show rb_Bd κ mX0_step (n.1 + n2.1 + n10.1 + n19.1 + n24.1, n.2 + n2.2 + n10.2 + n19.2 + n24.2) M27 36 [some (.ref a0), some (.int a1), some (.int a2), some (.ref q14)] [.int x26]
    refine rb_ifeq 51 (by decide) dX0_step_36 (fun c28 => ?_) (fun c28 => ?_)
    · skip
      refine rb_bipush (v := (-9 : Int32)) (by decide) dX0_step_51 ?_
      exact rb_iret rfl rfl (((KKx26).1 c28)).1.1 (((KKx26).1 c28)).1.2 dX0_step_53 (((KKx26).1 c28)).2
    · skip
      refine rb_aload_n 0 rfl rfl (rb_isR_ref _) dX0_step_39 ?_
      refine rb_aload_n 3 rfl rfl (rb_isR_ref _) dX0_step_40 ?_
      refine rb_iload_n 2 rfl rfl dX0_step_41 ?_
      obtain ⟨d29, n30, Q31, h1v32, hdv32, hnv32, hov32, Kv32⟩ := ((KKx26).2 c28)
      refine rb_call st_X0_357_0 (rest := []) h1v32 rfl rfl (rc_rc rfl hov32) (Nat.le_of_ble_eq_true rfl) hdv32.1 hdv32.2 hnv32.1 hnv32.2 dX0_step_42 (fun o M33 hpv32 => ?_)
      obtain ⟨v32, eo, hv32, KKv32⟩ := Kv32 o M33 hpv32
      subst eo
      show rb_Bd κ mX0_step (n.1 + n2.1 + n10.1 + n19.1 + n24.1 + n30.1, n.2 + n2.2 + n10.2 + n19.2 + n24.2 + n30.2) M33 45 [some (.ref a0), some (.int a1), some (.int a2), some (.ref q14)] [v32]
      obtain ⟨q34, eq34, Kq34⟩ := KKv32
      subst eq34
      obtain ⟨x35, hrx35, Kx35⟩ := Kq34
      refine rc_get fl_X0_339_27 hrx35 dX0_step_45 ?_
      refine rb_goto 53 (by decide) dX0_step_48 ?_
      exact rb_iret rfl rfl (Kx35).1.1 (Kx35).1.2 dX0_step_53 (Kx35).2
  · skip
    refine rb_iconst (v := (-1 : Int32)) (by decide) dX0_step_8 ?_
    exact rb_iret rfl rfl (((KKx4).2 c6)).1.1 (((KKx4).2 c6)).1.2 dX0_step_9 (((KKx4).2 c6)).2
theorem sgX0_stepOf_0 {κ : rb_K} {n : Nat × Nat} {M : rb_H} {a0 : Nat} {a1 : Value} {a2 : Int32} (ha1 : rb_isR a1) (K : rb_Bd κ mX0_stepOf n M 2 [some (.ref a0), some a1, some (.int a2), some (.int (0 : Int32))] []) : rb_Bd κ mX0_stepOf n M 0 [some (.ref a0), some a1, some (.int a2), none] [] := by
  refine rb_iconst (v := (0 : Int32)) (by decide) dX0_stepOf_0 ?_
  refine rb_istore_n 3 rfl (ls' := [some (.ref a0), some a1, some (.int a2), some (.int (0 : Int32))]) (by decide) rfl rfl dX0_stepOf_1 ?_
  exact K
theorem sgX0_stepOf_2 {κ : rb_K} {n : Nat × Nat} {M : rb_H} {a0 : Nat} {a1 : Value} {a2 : Int32} {a3 : Int32} (ha1 : rb_isR a1) (K : (∃ (v1 : Value), rb_rd M a0 0 7 (v1) ∧ rb_isR v1 ∧ (∃ q2, v1 = .ref q2 ∧ (∃ (d3 : Nat) (n4 : Nat × Nat) (Q5 : Outcome → rb_H → Prop), rb_Ct κ.1 yJ4_get wJ4_get d3 n4 [.ref q2, .int a3] M Q5 ∧ rb_dp κ d3 ∧ rb_rom κ (n.1 + n4.1, n.2 + n4.2) ∧ rb_ob M q2 7 ∧ ∀ (o : Outcome) (M7 : rb_H), Q5 o M7 → (∃ (v6 : Value), o = .returned (some v6) ∧ rb_isR v6 ∧ (∃ q8, v6 = .ref q8 ∧ (∃ ci9, rb_ob M7 q8 ci9 ∧ rb_CC ci9 "RoleLoom$Role" ∧ (∃ (d10 : Nat) (n11 : Nat × Nat) (Q12 : Outcome → rb_H → Prop), rb_Ct κ.1 yX0_isAlike wX0_isAlike d10 n11 [a1, .ref q8, .int (a2 + (1 : Int32))] M7 Q12 ∧ rb_dp κ d10 ∧ rb_rom κ (n.1 + n4.1 + n11.1, n.2 + n4.2 + n11.2) ∧ ∀ (o : Outcome) (M14 : rb_H), Q12 o M14 → (∃ (x13 : Int32), o = .returned (some (.int x13)) ∧ ((¬ x13 = 0 → (∃ (v16 : Value), rb_rd M14 a0 0 7 (v16) ∧ rb_isR v16 ∧ (∃ q17, v16 = .ref q17 ∧ (∃ (d18 : Nat) (n19 : Nat × Nat) (Q20 : Outcome → rb_H → Prop), rb_Ct κ.1 yJ4_get wJ4_get d18 n19 [.ref q17, .int a3] M14 Q20 ∧ rb_dp κ d18 ∧ rb_rom κ (n.1 + n4.1 + n11.1 + n19.1, n.2 + n4.2 + n11.2 + n19.2) ∧ rb_ob M14 q17 7 ∧ ∀ (o : Outcome) (M22 : rb_H), Q20 o M22 → (∃ (v21 : Value), o = .returned (some v21) ∧ rb_isR v21 ∧ (∃ q23, v21 = .ref q23 ∧ (∃ ci24, rb_ob M22 q23 ci24 ∧ rb_CC ci24 "RoleLoom$Role" ∧ (rb_fin κ (n.1 + n4.1 + n11.1 + n19.1, n.2 + n4.2 + n11.2 + n19.2) ∧ κ.2.2.1 (.returned (some (.ref q23))) M22)))))))) ∧ (x13 = 0 → rb_Bd κ mX0_stepOf (n.1 + n4.1 + n11.1, n.2 + n4.2 + n11.2) M14 2 [some (.ref a0), some a1, some (.int a2), some (.int (a3 + (1 : Int32)))] []))))))))))) : rb_Bd κ mX0_stepOf n M 2 [some (.ref a0), some a1, some (.int a2), some (.int a3)] [] := by
  refine rb_aload_n 1 rfl rfl ha1 dX0_stepOf_2 ?_
  refine rb_aload_n 0 rfl rfl (rb_isR_ref _) dX0_stepOf_3 ?_
  obtain ⟨v1, hrv1, hv1, Kv1⟩ := K
  refine rc_get fl_X0_136_0 hrv1 dX0_stepOf_4 ?_
  refine rb_iload_n 3 rfl rfl dX0_stepOf_7 ?_
  obtain ⟨q2, eq2, Kq2⟩ := Kv1
  subst eq2
  obtain ⟨d3, n4, Q5, h1v6, hdv6, hnv6, hov6, Kv6⟩ := Kq2
  refine rb_call st_X0_218_7 (rest := [a1]) h1v6 rfl rfl (rc_rc rfl hov6) (by simp [rb_isR_cat ha1, rb_cR, rb_cI, rb_cJ, rb_cN]) hdv6.1 hdv6.2 hnv6.1 hnv6.2 dX0_stepOf_8 (fun o M7 hpv6 => ?_)
  obtain ⟨v6, eo, hv6, KKv6⟩ := Kv6 o M7 hpv6
  subst eo
  show rb_Bd κ mX0_stepOf (n.1 + n4.1, n.2 + n4.2) M7 11 [some (.ref a0), some a1, some (.int a2), some (.int a3)] [v6, a1]
  obtain ⟨q8, eq8, Kq8⟩ := KKv6
  subst eq8
  obtain ⟨ci9, ⟨fsci9, hoci9⟩, hcci9, Kci9⟩ := Kq8
  refine rb_cast q1111 hoci9 hcci9 dX0_stepOf_11 ?_
  refine rb_iload_n 2 rfl rfl dX0_stepOf_14 ?_
  refine rb_iconst (v := (1 : Int32)) (by decide) dX0_stepOf_15 ?_
  refine rb_iadd (z := (a2 + (1 : Int32))) rfl dX0_stepOf_16 ?_
  obtain ⟨d10, n11, Q12, h1x13, hdx13, hnx13, Kx13⟩ := Kci9
  refine rb_call st_X0_349 (rest := []) h1x13 rfl rfl mm_rn (Nat.le_of_ble_eq_true rfl) hdx13.1 hdx13.2 hnx13.1 hnx13.2 dX0_stepOf_17 (fun o M14 hpx13 => ?_)
  obtain ⟨x13, eo, KKx13⟩ := Kx13 o M14 hpx13
  subst eo
  show rb_Bd κ mX0_stepOf (n.1 + n4.1 + n11.1, n.2 + n4.2 + n11.2) M14 20 [some (.ref a0), some a1, some (.int a2), some (.int a3)] [.int x13]
  refine rb_ifne 29 (by decide) dX0_stepOf_20 (fun c15 => ?_) (fun c15 => ?_)
  · skip
    refine rb_aload_n 0 rfl rfl (rb_isR_ref _) dX0_stepOf_29 ?_
    obtain ⟨v16, hrv16, hv16, Kv16⟩ := ((KKx13).1 c15)
    refine rc_get fl_X0_136_0 hrv16 dX0_stepOf_30 ?_
    refine rb_iload_n 3 rfl rfl dX0_stepOf_33 ?_
    obtain ⟨q17, eq17, Kq17⟩ := Kv16
    subst eq17
    obtain ⟨d18, n19, Q20, h1v21, hdv21, hnv21, hov21, Kv21⟩ := Kq17
    refine rb_call st_X0_218_7 (rest := []) h1v21 rfl rfl (rc_rc rfl hov21) (Nat.le_of_ble_eq_true rfl) hdv21.1 hdv21.2 hnv21.1 hnv21.2 dX0_stepOf_34 (fun o M22 hpv21 => ?_)
    obtain ⟨v21, eo, hv21, KKv21⟩ := Kv21 o M22 hpv21
    subst eo
    show rb_Bd κ mX0_stepOf (n.1 + n4.1 + n11.1 + n19.1, n.2 + n4.2 + n11.2 + n19.2) M22 37 [some (.ref a0), some a1, some (.int a2), some (.int a3)] [v21]
    obtain ⟨q23, eq23, Kq23⟩ := KKv21
    subst eq23
    obtain ⟨ci24, ⟨fsci24, hoci24⟩, hcci24, Kci24⟩ := Kq23
    refine rb_cast q1111 hoci24 hcci24 dX0_stepOf_37 ?_
    exact rb_aret rfl (Or.inl ⟨_, rfl⟩) (rb_isR_ref _) (Kci24).1.1 (Kci24).1.2 dX0_stepOf_40 (Kci24).2
  · skip
    refine rb_iinc (ls' := [some (.ref a0), some a1, some (.int a2), some (.int (a3 + (1 : Int32)))]) (v := (a3 + (1 : Int32))) rfl rfl (by decide) rfl rfl dX0_stepOf_23 ?_
    refine rb_goto 2 (by decide) dX0_stepOf_26 ?_
    exact ((KKx13).2 c15)
theorem sgX0_started_0 {κ : rb_K} {n : Nat × Nat} {M : rb_H} {a0 : Nat} {a1 : Int32} {a2 : Int32} (K : (∃ (d1 : Nat) (n2 : Nat × Nat) (Q3 : Outcome → rb_H → Prop), rb_Ct κ.1 yX0_isRole wX0_isRole d1 n2 [.ref a0, .int a1] M Q3 ∧ rb_dp κ d1 ∧ rb_rom κ (n.1 + n2.1, n.2 + n2.2) ∧ rb_ob M a0 0 ∧ ∀ (o : Outcome) (M5 : rb_H), Q3 o M5 → (∃ (x4 : Int32), o = .returned (some (.int x4)) ∧ ((¬ x4 = 0 → (∃ (v7 : Value), rb_rd M5 a0 0 7 (v7) ∧ rb_isR v7 ∧ (∃ q8, v7 = .ref q8 ∧ (∃ (d9 : Nat) (n10 : Nat × Nat) (Q11 : Outcome → rb_H → Prop), rb_Ct κ.1 yJ4_get wJ4_get d9 n10 [.ref q8, .int a1] M5 Q11 ∧ rb_dp κ d9 ∧ rb_rom κ (n.1 + n2.1 + n10.1, n.2 + n2.2 + n10.2) ∧ rb_ob M5 q8 7 ∧ ∀ (o : Outcome) (M13 : rb_H), Q11 o M13 → (∃ (v12 : Value), o = .returned (some v12) ∧ rb_isR v12 ∧ (∃ q14, v12 = .ref q14 ∧ (∃ ci15, rb_ob M13 q14 ci15 ∧ rb_CC ci15 "RoleLoom$Role" ∧ (∃ (v16 : Value), rb_rd M13 q14 27 1 (v16) ∧ rb_isR v16 ∧ (∃ q17, v16 = .ref q17 ∧ (∃ (d18 : Nat) (n19 : Nat × Nat) (Q20 : Outcome → rb_H → Prop), rb_Ct κ.1 yJ4_size wJ4_size d18 n19 [.ref q17] M13 Q20 ∧ rb_dp κ d18 ∧ rb_rom κ (n.1 + n2.1 + n10.1 + n19.1, n.2 + n2.2 + n10.2 + n19.2) ∧ rb_ob M13 q17 7 ∧ ∀ (o : Outcome) (M22 : rb_H), Q20 o M22 → (∃ (x21 : Int32), o = .returned (some (.int x21)) ∧ (∃ (d23 : Nat) (n24 : Nat × Nat) (Q25 : Outcome → rb_H → Prop), rb_Ct κ.1 yX0_in wX0_in d23 n24 [.int a2, .int (0 : Int32), .int (x21 - (1 : Int32))] M22 Q25 ∧ rb_dp κ d23 ∧ rb_rom κ (n.1 + n2.1 + n10.1 + n19.1 + n24.1, n.2 + n2.2 + n10.2 + n19.2 + n24.2) ∧ ∀ (o : Outcome) (M27 : rb_H), Q25 o M27 → (∃ (x26 : Int32), o = .returned (some (.int x26)) ∧ ((x26 = 0 → (rb_fin κ (n.1 + n2.1 + n10.1 + n19.1 + n24.1, n.2 + n2.2 + n10.2 + n19.2 + n24.2) ∧ κ.2.2.1 (.returned (some (.int (-9 : Int32)))) M27)) ∧ (¬ x26 = 0 → (∃ (d29 : Nat) (n30 : Nat × Nat) (Q31 : Outcome → rb_H → Prop), rb_Ct κ.1 yX0_stepOf wX0_stepOf d29 n30 [.ref a0, .ref q14, .int a2] M27 Q31 ∧ rb_dp κ d29 ∧ rb_rom κ (n.1 + n2.1 + n10.1 + n19.1 + n24.1 + n30.1, n.2 + n2.2 + n10.2 + n19.2 + n24.2 + n30.2) ∧ rb_ob M27 a0 0 ∧ ∀ (o : Outcome) (M33 : rb_H), Q31 o M33 → (∃ (v32 : Value), o = .returned (some v32) ∧ rb_isR v32 ∧ (∃ q34, v32 = .ref q34 ∧ (∃ (v35 : Value), rb_rd M33 q34 27 4 (v35) ∧ rb_isR v35 ∧ (∃ q36, v35 = .ref q36 ∧ (∃ (N37 : Nat) (f38 : Nat → Int32) (x39 : Int32), M33.2 q36 = some (rb_I N37 f38) ∧ vp_in a2 N37 ∧ f38 (a2).toNatClampNeg = x39 ∧ (rb_fin κ (n.1 + n2.1 + n10.1 + n19.1 + n24.1 + n30.1, n.2 + n2.2 + n10.2 + n19.2 + n24.2 + n30.2) ∧ κ.2.2.1 (.returned (some (.int x39))) M33)))))))))))))))))))))) ∧ (x4 = 0 → (rb_fin κ (n.1 + n2.1, n.2 + n2.2) ∧ κ.2.2.1 (.returned (some (.int (-1 : Int32)))) M5)))))) : rb_Bd κ mX0_started n M 0 [some (.ref a0), some (.int a1), some (.int a2), none] [] := by
  refine rb_aload_n 0 rfl rfl (rb_isR_ref _) dX0_started_0 ?_
  refine rb_iload_n 1 rfl rfl dX0_started_1 ?_
  obtain ⟨d1, n2, Q3, h1x4, hdx4, hnx4, hox4, Kx4⟩ := K
  refine rb_call st_X0_346_0 (rest := []) h1x4 rfl rfl (rc_rc rfl hox4) (Nat.le_of_ble_eq_true rfl) hdx4.1 hdx4.2 hnx4.1 hnx4.2 dX0_started_2 (fun o M5 hpx4 => ?_)
  obtain ⟨x4, eo, KKx4⟩ := Kx4 o M5 hpx4
  subst eo
  show rb_Bd κ mX0_started (n.1 + n2.1, n.2 + n2.2) M5 5 [some (.ref a0), some (.int a1), some (.int a2), none] [.int x4]
  refine rb_ifne 10 (by decide) dX0_started_5 (fun c6 => ?_) (fun c6 => ?_)
  · skip
    refine rb_aload_n 0 rfl rfl (rb_isR_ref _) dX0_started_10 ?_
    obtain ⟨v7, hrv7, hv7, Kv7⟩ := ((KKx4).1 c6)
    refine rc_get fl_X0_136_0 hrv7 dX0_started_11 ?_
    refine rb_iload_n 1 rfl rfl dX0_started_14 ?_
    obtain ⟨q8, eq8, Kq8⟩ := Kv7
    subst eq8
    obtain ⟨d9, n10, Q11, h1v12, hdv12, hnv12, hov12, Kv12⟩ := Kq8
    refine rb_call st_X0_218_7 (rest := []) h1v12 rfl rfl (rc_rc rfl hov12) (Nat.le_of_ble_eq_true rfl) hdv12.1 hdv12.2 hnv12.1 hnv12.2 dX0_started_15 (fun o M13 hpv12 => ?_)
    obtain ⟨v12, eo, hv12, KKv12⟩ := Kv12 o M13 hpv12
    subst eo
    show rb_Bd κ mX0_started (n.1 + n2.1 + n10.1, n.2 + n2.2 + n10.2) M13 18 [some (.ref a0), some (.int a1), some (.int a2), none] [v12]
    obtain ⟨q14, eq14, Kq14⟩ := KKv12
    subst eq14
    obtain ⟨ci15, ⟨fsci15, hoci15⟩, hcci15, Kci15⟩ := Kq14
    refine rb_cast q1111 hoci15 hcci15 dX0_started_18 ?_
    refine rb_astore_n 3 rfl (ls' := [some (.ref a0), some (.int a1), some (.int a2), some (.ref q14)]) (by decide) rfl rfl (rb_isR_ref _) dX0_started_21 ?_
    refine rb_iload_n 2 rfl rfl dX0_started_22 ?_
    refine rb_iconst (v := (0 : Int32)) (by decide) dX0_started_23 ?_
    refine rb_aload_n 3 rfl rfl (rb_isR_ref _) dX0_started_24 ?_
    obtain ⟨v16, hrv16, hv16, Kv16⟩ := Kci15
    refine rc_get fl_X0_291_27 hrv16 dX0_started_25 ?_
    obtain ⟨q17, eq17, Kq17⟩ := Kv16
    subst eq17
    obtain ⟨d18, n19, Q20, h1x21, hdx21, hnx21, hox21, Kx21⟩ := Kq17
    refine rb_call st_X0_201_7 (rest := [.int (0 : Int32), .int a2]) h1x21 rfl rfl (rc_rc rfl hox21) (Nat.le_of_ble_eq_true rfl) hdx21.1 hdx21.2 hnx21.1 hnx21.2 dX0_started_28 (fun o M22 hpx21 => ?_)
    obtain ⟨x21, eo, KKx21⟩ := Kx21 o M22 hpx21
    subst eo
    show rb_Bd κ mX0_started (n.1 + n2.1 + n10.1 + n19.1, n.2 + n2.2 + n10.2 + n19.2) M22 31 [some (.ref a0), some (.int a1), some (.int a2), some (.ref q14)] [.int x21, .int (0 : Int32), .int a2]
    refine rb_iconst (v := (1 : Int32)) (by decide) dX0_started_31 ?_
    refine rb_isub (z := (x21 - (1 : Int32))) rfl dX0_started_32 ?_
    obtain ⟨d23, n24, Q25, h1x26, hdx26, hnx26, Kx26⟩ := KKx21
    refine rb_call st_X0_45 (rest := []) h1x26 rfl rfl mm_rn (Nat.le_of_ble_eq_true rfl) hdx26.1 hdx26.2 hnx26.1 hnx26.2 dX0_started_33 (fun o M27 hpx26 => ?_)
    obtain ⟨x26, eo, KKx26⟩ := Kx26 o M27 hpx26
    subst eo
    show rb_Bd κ mX0_started (n.1 + n2.1 + n10.1 + n19.1 + n24.1, n.2 + n2.2 + n10.2 + n19.2 + n24.2) M27 36 [some (.ref a0), some (.int a1), some (.int a2), some (.ref q14)] [.int x26]
    refine rb_ifeq 53 (by decide) dX0_started_36 (fun c28 => ?_) (fun c28 => ?_)
    · skip
      refine rb_bipush (v := (-9 : Int32)) (by decide) dX0_started_53 ?_
      exact rb_iret rfl rfl (((KKx26).1 c28)).1.1 (((KKx26).1 c28)).1.2 dX0_started_55 (((KKx26).1 c28)).2
    · skip
      refine rb_aload_n 0 rfl rfl (rb_isR_ref _) dX0_started_39 ?_
      refine rb_aload_n 3 rfl rfl (rb_isR_ref _) dX0_started_40 ?_
      refine rb_iload_n 2 rfl rfl dX0_started_41 ?_
      obtain ⟨d29, n30, Q31, h1v32, hdv32, hnv32, hov32, Kv32⟩ := ((KKx26).2 c28)
      refine rb_call st_X0_357_0 (rest := []) h1v32 rfl rfl (rc_rc rfl hov32) (Nat.le_of_ble_eq_true rfl) hdv32.1 hdv32.2 hnv32.1 hnv32.2 dX0_started_42 (fun o M33 hpv32 => ?_)
      obtain ⟨v32, eo, hv32, KKv32⟩ := Kv32 o M33 hpv32
      subst eo
      show rb_Bd κ mX0_started (n.1 + n2.1 + n10.1 + n19.1 + n24.1 + n30.1, n.2 + n2.2 + n10.2 + n19.2 + n24.2 + n30.2) M33 45 [some (.ref a0), some (.int a1), some (.int a2), some (.ref q14)] [v32]
      obtain ⟨q34, eq34, Kq34⟩ := KKv32
      subst eq34
      obtain ⟨v35, hrv35, hv35, Kv35⟩ := Kq34
      refine rc_get fl_X0_361_27 hrv35 dX0_started_45 ?_
      refine rb_iload_n 2 rfl rfl dX0_started_48 ?_
      obtain ⟨q36, eq36, Kq36⟩ := Kv35
      subst eq36
      obtain ⟨N37, f38, x39, hMx39, hix39, hxx39, Kx39⟩ := Kq36
      refine rc_iald hMx39 hix39 hxx39 dX0_started_49 ?_
      refine rb_goto 55 (by decide) dX0_started_50 ?_
      exact rb_iret rfl rfl (Kx39).1.1 (Kx39).1.2 dX0_started_55 (Kx39).2
  · skip
    refine rb_iconst (v := (-1 : Int32)) (by decide) dX0_started_8 ?_
    exact rb_iret rfl rfl (((KKx4).2 c6)).1.1 (((KKx4).2 c6)).1.2 dX0_started_9 (((KKx4).2 c6)).2
theorem sgX0_object_0 {κ : rb_K} {n : Nat × Nat} {M : rb_H} {a0 : Nat} {a1 : Int32} (K : (∃ (d1 : Nat) (n2 : Nat × Nat) (Q3 : Outcome → rb_H → Prop), rb_Ct κ.1 yX0_isRole wX0_isRole d1 n2 [.ref a0, .int a1] M Q3 ∧ rb_dp κ d1 ∧ rb_rom κ (n.1 + n2.1, n.2 + n2.2) ∧ rb_ob M a0 0 ∧ ∀ (o : Outcome) (M5 : rb_H), Q3 o M5 → (∃ (x4 : Int32), o = .returned (some (.int x4)) ∧ ((¬ x4 = 0 → (∃ (v7 : Value), rb_rd M5 a0 0 8 (v7) ∧ rb_isR v7 ∧ (∃ q8, v7 = .ref q8 ∧ (∃ (d9 : Nat) (n10 : Nat × Nat) (Q11 : Outcome → rb_H → Prop), rb_Ct κ.1 yJ4_size wJ4_size d9 n10 [.ref q8] M5 Q11 ∧ rb_dp κ d9 ∧ rb_rom κ (n.1 + n2.1 + n10.1, n.2 + n2.2 + n10.2) ∧ rb_ob M5 q8 7 ∧ ∀ (o : Outcome) (M13 : rb_H), Q11 o M13 → (∃ (x12 : Int32), o = .returned (some (.int x12)) ∧ ((¬ x12 = (100 : Int32) → (∃ (d15 : Nat) (n16 : Nat × Nat) (Q17 : Outcome → rb_H → Prop), rb_Ct κ.1 yX0_beginRun wX0_beginRun d15 n16 [.ref a0] M13 Q17 ∧ rb_dp κ d15 ∧ rb_rom κ (n.1 + n2.1 + n10.1 + n16.1, n.2 + n2.2 + n10.2 + n16.2) ∧ rb_ob M13 a0 0 ∧ ∀ (o : Outcome) (M19 : rb_H), Q17 o M19 → (o = .returned none ∧ (∃ (v20 : Value), rb_rd M19 a0 0 7 (v20) ∧ rb_isR v20 ∧ (∃ q21, v20 = .ref q21 ∧ (∃ (d22 : Nat) (n23 : Nat × Nat) (Q24 : Outcome → rb_H → Prop), rb_Ct κ.1 yJ4_get wJ4_get d22 n23 [.ref q21, .int a1] M19 Q24 ∧ rb_dp κ d22 ∧ rb_rom κ (n.1 + n2.1 + n10.1 + n16.1 + n23.1, n.2 + n2.2 + n10.2 + n16.2 + n23.2) ∧ rb_ob M19 q21 7 ∧ ∀ (o : Outcome) (M26 : rb_H), Q24 o M26 → (∃ (v25 : Value), o = .returned (some v25) ∧ rb_isR v25 ∧ (∃ q27, v25 = .ref q27 ∧ (∃ ci28, rb_ob M26 q27 ci28 ∧ rb_CC ci28 "RoleLoom$Role" ∧ rb_Bd κ mX0_object (n.1 + n2.1 + n10.1 + n16.1 + n23.1, n.2 + n2.2 + n10.2 + n16.2 + n23.2) M26 43 [some (.ref a0), some (.int a1), some (.ref q27), some (.int (0 : Int32)), none, none] []))))))))) ∧ (x12 = (100 : Int32) → (rb_fin κ (n.1 + n2.1 + n10.1, n.2 + n2.2 + n10.2) ∧ κ.2.2.1 (.returned (some (.int (-2 : Int32)))) M13)))))))) ∧ (x4 = 0 → (rb_fin κ (n.1 + n2.1, n.2 + n2.2) ∧ κ.2.2.1 (.returned (some (.int (-1 : Int32)))) M5)))))) : rb_Bd κ mX0_object n M 0 [some (.ref a0), some (.int a1), none, none, none, none] [] := by
  refine rb_aload_n 0 rfl rfl (rb_isR_ref _) dX0_object_0 ?_
  refine rb_iload_n 1 rfl rfl dX0_object_1 ?_
  obtain ⟨d1, n2, Q3, h1x4, hdx4, hnx4, hox4, Kx4⟩ := K
  refine rb_call st_X0_346_0 (rest := []) h1x4 rfl rfl (rc_rc rfl hox4) (Nat.le_of_ble_eq_true rfl) hdx4.1 hdx4.2 hnx4.1 hnx4.2 dX0_object_2 (fun o M5 hpx4 => ?_)
  obtain ⟨x4, eo, KKx4⟩ := Kx4 o M5 hpx4
  subst eo
  show rb_Bd κ mX0_object (n.1 + n2.1, n.2 + n2.2) M5 5 [some (.ref a0), some (.int a1), none, none, none, none] [.int x4]
  refine rb_ifne 10 (by decide) dX0_object_5 (fun c6 => ?_) (fun c6 => ?_)
  · skip
    refine rb_aload_n 0 rfl rfl (rb_isR_ref _) dX0_object_10 ?_
    obtain ⟨v7, hrv7, hv7, Kv7⟩ := ((KKx4).1 c6)
    refine rc_get fl_X0_139_0 hrv7 dX0_object_11 ?_
    obtain ⟨q8, eq8, Kq8⟩ := Kv7
    subst eq8
    obtain ⟨d9, n10, Q11, h1x12, hdx12, hnx12, hox12, Kx12⟩ := Kq8
    refine rb_call st_X0_201_7 (rest := []) h1x12 rfl rfl (rc_rc rfl hox12) (Nat.le_of_ble_eq_true rfl) hdx12.1 hdx12.2 hnx12.1 hnx12.2 dX0_object_14 (fun o M13 hpx12 => ?_)
    obtain ⟨x12, eo, KKx12⟩ := Kx12 o M13 hpx12
    subst eo
    show rb_Bd κ mX0_object (n.1 + n2.1 + n10.1, n.2 + n2.2 + n10.2) M13 17 [some (.ref a0), some (.int a1), none, none, none, none] [.int x12]
    refine rb_bipush (v := (100 : Int32)) (by decide) dX0_object_17 ?_
    refine rb_icne 25 (by decide) dX0_object_19 (fun c14 => ?_) (fun c14 => ?_)
    · skip
      refine rb_aload_n 0 rfl rfl (rb_isR_ref _) dX0_object_25 ?_
      obtain ⟨d15, n16, Q17, h1v18, hdv18, hnv18, hov18, Kv18⟩ := ((KKx12).1 c14)
      refine rb_call st_X0_434_0 (rest := []) h1v18 rfl rfl (rc_rc rfl hov18) (Nat.le_of_ble_eq_true rfl) hdv18.1 hdv18.2 hnv18.1 hnv18.2 dX0_object_26 (fun o M19 hpv18 => ?_)
      obtain ⟨eo, KKv18⟩ := Kv18 o M19 hpv18
      subst eo
      show rb_Bd κ mX0_object (n.1 + n2.1 + n10.1 + n16.1, n.2 + n2.2 + n10.2 + n16.2) M19 29 [some (.ref a0), some (.int a1), none, none, none, none] []
      refine rb_aload_n 0 rfl rfl (rb_isR_ref _) dX0_object_29 ?_
      obtain ⟨v20, hrv20, hv20, Kv20⟩ := KKv18
      refine rc_get fl_X0_136_0 hrv20 dX0_object_30 ?_
      refine rb_iload_n 1 rfl rfl dX0_object_33 ?_
      obtain ⟨q21, eq21, Kq21⟩ := Kv20
      subst eq21
      obtain ⟨d22, n23, Q24, h1v25, hdv25, hnv25, hov25, Kv25⟩ := Kq21
      refine rb_call st_X0_218_7 (rest := []) h1v25 rfl rfl (rc_rc rfl hov25) (Nat.le_of_ble_eq_true rfl) hdv25.1 hdv25.2 hnv25.1 hnv25.2 dX0_object_34 (fun o M26 hpv25 => ?_)
      obtain ⟨v25, eo, hv25, KKv25⟩ := Kv25 o M26 hpv25
      subst eo
      show rb_Bd κ mX0_object (n.1 + n2.1 + n10.1 + n16.1 + n23.1, n.2 + n2.2 + n10.2 + n16.2 + n23.2) M26 37 [some (.ref a0), some (.int a1), none, none, none, none] [v25]
      obtain ⟨q27, eq27, Kq27⟩ := KKv25
      subst eq27
      obtain ⟨ci28, ⟨fsci28, hoci28⟩, hcci28, Kci28⟩ := Kq27
      refine rb_cast q1111 hoci28 hcci28 dX0_object_37 ?_
      refine rb_astore_n 2 rfl (ls' := [some (.ref a0), some (.int a1), some (.ref q27), none, none, none]) (by decide) rfl rfl (rb_isR_ref _) dX0_object_40 ?_
      refine rb_iconst (v := (0 : Int32)) (by decide) dX0_object_41 ?_
      refine rb_istore_n 3 rfl (ls' := [some (.ref a0), some (.int a1), some (.ref q27), some (.int (0 : Int32)), none, none]) (by decide) rfl rfl dX0_object_42 ?_
      exact Kci28
    · skip
      refine rb_bipush (v := (-2 : Int32)) (by decide) dX0_object_22 ?_
      exact rb_iret rfl rfl (((KKx12).2 c14)).1.1 (((KKx12).2 c14)).1.2 dX0_object_24 (((KKx12).2 c14)).2
  · skip
    refine rb_iconst (v := (-1 : Int32)) (by decide) dX0_object_8 ?_
    exact rb_iret rfl rfl (((KKx4).2 c6)).1.1 (((KKx4).2 c6)).1.2 dX0_object_9 (((KKx4).2 c6)).2
theorem sgX0_object_43 {κ : rb_K} {n : Nat × Nat} {M : rb_H} {a0 : Nat} {a1 : Int32} {a2 : Value} {a3 : Int32} (ha2 : rb_isR a2) (K : (∃ q1, a2 = .ref q1 ∧ (∃ (v2 : Value), rb_rd M q1 27 1 (v2) ∧ rb_isR v2 ∧ (∃ q3, v2 = .ref q3 ∧ (∃ (d4 : Nat) (n5 : Nat × Nat) (Q6 : Outcome → rb_H → Prop), rb_Ct κ.1 yJ4_size wJ4_size d4 n5 [.ref q3] M Q6 ∧ rb_dp κ d4 ∧ rb_rom κ (n.1 + n5.1, n.2 + n5.2) ∧ rb_ob M q3 7 ∧ ∀ (o : Outcome) (M8 : rb_H), Q6 o M8 → (∃ (x7 : Int32), o = .returned (some (.int x7)) ∧ ((x7 ≤ a3 → (rb_rom κ (n.1 + n5.1 + 1, n.2 + n5.2 + 3) ∧ (∃ (v10 : Value), rb_rd (rb_nw M8 (rb_O 29 [.int 0, .null, .null])) a0 0 8 (v10) ∧ rb_isR v10 ∧ (∃ q11, v10 = .ref q11 ∧ (∃ (d12 : Nat) (n13 : Nat × Nat) (Q14 : Outcome → rb_H → Prop), rb_Ct κ.1 yJ4_size wJ4_size d12 n13 [.ref q11] (rb_nw M8 (rb_O 29 [.int 0, .null, .null])) Q14 ∧ rb_dp κ d12 ∧ rb_rom κ (n.1 + n5.1 + 1 + n13.1, n.2 + n5.2 + 3 + n13.2) ∧ rb_ob (rb_nw M8 (rb_O 29 [.int 0, .null, .null])) q11 7 ∧ ∀ (o : Outcome) (M16 : rb_H), Q14 o M16 → (∃ (x15 : Int32), o = .returned (some (.int x15)) ∧ (∃ (ci22 : Nat) (d17 : Nat) (n18 : Nat × Nat) (Q19 : Outcome → rb_H → Prop), rb_Ct κ.1 yX29_init wX29_init d17 n18 [.ref M8.1, .int x15, .ref q1] M16 Q19 ∧ rb_dp κ d17 ∧ rb_rom κ (n.1 + n5.1 + 1 + n13.1 + n18.1, n.2 + n5.2 + 3 + n13.2 + n18.2) ∧ rb_ob M16 M8.1 ci22 ∧ ∀ (o : Outcome) (M21 : rb_H), Q19 o M21 → (o = .returned none ∧ rb_Bd κ mX0_object (n.1 + n5.1 + 1 + n13.1 + n18.1, n.2 + n5.2 + 3 + n13.2 + n18.2) M21 178 [some (.ref a0), some (.int a1), some (.ref q1), some (.ref M8.1), some (.int (0 : Int32)), none] [])))))))) ∧ (a3 < x7 → (∃ (d23 : Nat) (n24 : Nat × Nat) (Q25 : Outcome → rb_H → Prop), rb_Ct κ.1 yX0_stepOf wX0_stepOf d23 n24 [.ref a0, .ref q1, .int a3] M8 Q25 ∧ rb_dp κ d23 ∧ rb_rom κ (n.1 + n5.1 + n24.1, n.2 + n5.2 + n24.2) ∧ rb_ob M8 a0 0 ∧ ∀ (o : Outcome) (M27 : rb_H), Q25 o M27 → (∃ (v26 : Value), o = .returned (some v26) ∧ rb_isR v26 ∧ (∃ q28, v26 = .ref q28 ∧ (∃ (v29 : Value), rb_rd M27 q28 27 4 (v29) ∧ rb_isR v29 ∧ (∃ q30, v29 = .ref q30 ∧ (∃ (N31 : Nat) (f32 : Nat → Int32) (x33 : Int32), M27.2 q30 = some (rb_I N31 f32) ∧ vp_in a3 N31 ∧ f32 (a3).toNatClampNeg = x33 ∧ ((¬ x33 = (2 : Int32) → (∃ (v35 : Value), rb_rd M27 q28 27 4 (v35) ∧ rb_isR v35 ∧ (∃ q36, v35 = .ref q36 ∧ (∃ (N37 : Nat) (f38 : Nat → Int32) (x39 : Int32), M27.2 q36 = some (rb_I N37 f38) ∧ vp_in a3 N37 ∧ f38 (a3).toNatClampNeg = x39 ∧ ((¬ x39 = 0 → rb_Bd κ mX0_object (n.1 + n5.1 + n24.1, n.2 + n5.2 + n24.2) M27 43 [some (.ref a0), some (.int a1), some (.ref q1), some (.int (a3 + (1 : Int32))), some (.ref q28), none] []) ∧ (x39 = 0 → (∃ (v41 : Value), rb_rd M27 q1 27 1 (v41) ∧ rb_isR v41 ∧ (∃ q42, v41 = .ref q42 ∧ (∃ (d43 : Nat) (n44 : Nat × Nat) (Q45 : Outcome → rb_H → Prop), rb_Ct κ.1 yJ4_get wJ4_get d43 n44 [.ref q42, .int a3] M27 Q45 ∧ rb_dp κ d43 ∧ rb_rom κ (n.1 + n5.1 + n24.1 + n44.1, n.2 + n5.2 + n24.2 + n44.2) ∧ rb_ob M27 q42 7 ∧ ∀ (o : Outcome) (M47 : rb_H), Q45 o M47 → (∃ (v46 : Value), o = .returned (some v46) ∧ rb_isR v46 ∧ (∃ q48, v46 = .ref q48 ∧ (∃ ci49, rb_ob M47 q48 ci49 ∧ rb_CC ci49 "RoleLoom$Part" ∧ (∃ (v50 : Value), rb_rd M47 q48 5 7 (v50) ∧ rb_isR v50 ∧ ((v50 = .null → (∃ (v52 : Value), rb_rd M47 q28 27 4 (v52) ∧ rb_isR v52 ∧ (((1 : Int32) = 0 → (∃ q54, v52 = .ref q54 ∧ (∃ (N55 : Nat) (f56 : Nat → Int32), M47.2 q54 = some (rb_I N55 f56) ∧ vp_in a3 N55 ∧ ((¬ (1 : Int32) = 0 → rb_Bd κ mX0_object (n.1 + n5.1 + n24.1 + n44.1, n.2 + n5.2 + n24.2 + n44.2) (rb_up M47 q54 (rb_I N55 (va_up f56 (a3).toNatClampNeg (2 : Int32)))) 43 [some (.ref a0), some (.int a1), some (.ref q1), some (.int (a3 + (1 : Int32))), some (.ref q28), some (.int (1 : Int32))] []) ∧ ((1 : Int32) = 0 → (rb_fin κ (n.1 + n5.1 + n24.1 + n44.1, n.2 + n5.2 + n24.2 + n44.2) ∧ κ.2.2.1 (.returned (some (.int (-15 : Int32)))) (rb_up M47 q54 (rb_I N55 (va_up f56 (a3).toNatClampNeg (2 : Int32)))))))))) ∧ (¬ (1 : Int32) = 0 → (∃ q58, v52 = .ref q58 ∧ (∃ (N59 : Nat) (f60 : Nat → Int32), M47.2 q58 = some (rb_I N59 f60) ∧ vp_in a3 N59 ∧ ((¬ (1 : Int32) = 0 → rb_Bd κ mX0_object (n.1 + n5.1 + n24.1 + n44.1, n.2 + n5.2 + n24.2 + n44.2) (rb_up M47 q58 (rb_I N59 (va_up f60 (a3).toNatClampNeg (1 : Int32)))) 43 [some (.ref a0), some (.int a1), some (.ref q1), some (.int (a3 + (1 : Int32))), some (.ref q28), some (.int (1 : Int32))] []) ∧ ((1 : Int32) = 0 → (rb_fin κ (n.1 + n5.1 + n24.1 + n44.1, n.2 + n5.2 + n24.2 + n44.2) ∧ κ.2.2.1 (.returned (some (.int (-15 : Int32)))) (rb_up M47 q58 (rb_I N59 (va_up f60 (a3).toNatClampNeg (1 : Int32))))))))))))) ∧ (∀ q51, v50 = .ref q51 → (∃ (v62 : Value), rb_rd M47 q1 27 1 (v62) ∧ rb_isR v62 ∧ (∃ q63, v62 = .ref q63 ∧ (∃ (d64 : Nat) (n65 : Nat × Nat) (Q66 : Outcome → rb_H → Prop), rb_Ct κ.1 yJ4_get wJ4_get d64 n65 [.ref q63, .int a3] M47 Q66 ∧ rb_dp κ d64 ∧ rb_rom κ (n.1 + n5.1 + n24.1 + n44.1 + n65.1, n.2 + n5.2 + n24.2 + n44.2 + n65.2) ∧ rb_ob M47 q63 7 ∧ ∀ (o : Outcome) (M68 : rb_H), Q66 o M68 → (∃ (v67 : Value), o = .returned (some v67) ∧ rb_isR v67 ∧ (∃ q69, v67 = .ref q69 ∧ (∃ ci70, rb_ob M68 q69 ci70 ∧ rb_CC ci70 "RoleLoom$Part" ∧ (∃ (d71 : Nat) (n72 : Nat × Nat) (Q73 : Outcome → rb_H → Prop), rb_Ct κ.1 yX0_starts wX0_starts d71 n72 [.ref a0, .ref q69] M68 Q73 ∧ rb_dp κ d71 ∧ rb_rom κ (n.1 + n5.1 + n24.1 + n44.1 + n65.1 + n72.1, n.2 + n5.2 + n24.2 + n44.2 + n65.2 + n72.2) ∧ rb_ob M68 a0 0 ∧ ∀ (o : Outcome) (M75 : rb_H), Q73 o M75 → (∃ (x74 : Int32), o = .returned (some (.int x74)) ∧ ((x74 = 0 → (∃ (v77 : Value), rb_rd M75 q28 27 4 (v77) ∧ rb_isR v77 ∧ (((0 : Int32) = 0 → (∃ q79, v77 = .ref q79 ∧ (∃ (N80 : Nat) (f81 : Nat → Int32), M75.2 q79 = some (rb_I N80 f81) ∧ vp_in a3 N80 ∧ ((¬ (0 : Int32) = 0 → rb_Bd κ mX0_object (n.1 + n5.1 + n24.1 + n44.1 + n65.1 + n72.1, n.2 + n5.2 + n24.2 + n44.2 + n65.2 + n72.2) (rb_up M75 q79 (rb_I N80 (va_up f81 (a3).toNatClampNeg (2 : Int32)))) 43 [some (.ref a0), some (.int a1), some (.ref q1), some (.int (a3 + (1 : Int32))), some (.ref q28), some (.int (0 : Int32))] []) ∧ ((0 : Int32) = 0 → (rb_fin κ (n.1 + n5.1 + n24.1 + n44.1 + n65.1 + n72.1, n.2 + n5.2 + n24.2 + n44.2 + n65.2 + n72.2) ∧ κ.2.2.1 (.returned (some (.int (-15 : Int32)))) (rb_up M75 q79 (rb_I N80 (va_up f81 (a3).toNatClampNeg (2 : Int32)))))))))) ∧ (¬ (0 : Int32) = 0 → (∃ q83, v77 = .ref q83 ∧ (∃ (N84 : Nat) (f85 : Nat → Int32), M75.2 q83 = some (rb_I N84 f85) ∧ vp_in a3 N84 ∧ ((¬ (0 : Int32) = 0 → rb_Bd κ mX0_object (n.1 + n5.1 + n24.1 + n44.1 + n65.1 + n72.1, n.2 + n5.2 + n24.2 + n44.2 + n65.2 + n72.2) (rb_up M75 q83 (rb_I N84 (va_up f85 (a3).toNatClampNeg (1 : Int32)))) 43 [some (.ref a0), some (.int a1), some (.ref q1), some (.int (a3 + (1 : Int32))), some (.ref q28), some (.int (0 : Int32))] []) ∧ ((0 : Int32) = 0 → (rb_fin κ (n.1 + n5.1 + n24.1 + n44.1 + n65.1 + n72.1, n.2 + n5.2 + n24.2 + n44.2 + n65.2 + n72.2) ∧ κ.2.2.1 (.returned (some (.int (-15 : Int32)))) (rb_up M75 q83 (rb_I N84 (va_up f85 (a3).toNatClampNeg (1 : Int32))))))))))))) ∧ (¬ x74 = 0 → (∃ (v87 : Value), rb_rd M75 q28 27 4 (v87) ∧ rb_isR v87 ∧ (((1 : Int32) = 0 → (∃ q89, v87 = .ref q89 ∧ (∃ (N90 : Nat) (f91 : Nat → Int32), M75.2 q89 = some (rb_I N90 f91) ∧ vp_in a3 N90 ∧ ((¬ (1 : Int32) = 0 → rb_Bd κ mX0_object (n.1 + n5.1 + n24.1 + n44.1 + n65.1 + n72.1, n.2 + n5.2 + n24.2 + n44.2 + n65.2 + n72.2) (rb_up M75 q89 (rb_I N90 (va_up f91 (a3).toNatClampNeg (2 : Int32)))) 43 [some (.ref a0), some (.int a1), some (.ref q1), some (.int (a3 + (1 : Int32))), some (.ref q28), some (.int (1 : Int32))] []) ∧ ((1 : Int32) = 0 → (rb_fin κ (n.1 + n5.1 + n24.1 + n44.1 + n65.1 + n72.1, n.2 + n5.2 + n24.2 + n44.2 + n65.2 + n72.2) ∧ κ.2.2.1 (.returned (some (.int (-15 : Int32)))) (rb_up M75 q89 (rb_I N90 (va_up f91 (a3).toNatClampNeg (2 : Int32)))))))))) ∧ (¬ (1 : Int32) = 0 → (∃ q93, v87 = .ref q93 ∧ (∃ (N94 : Nat) (f95 : Nat → Int32), M75.2 q93 = some (rb_I N94 f95) ∧ vp_in a3 N94 ∧ ((¬ (1 : Int32) = 0 → rb_Bd κ mX0_object (n.1 + n5.1 + n24.1 + n44.1 + n65.1 + n72.1, n.2 + n5.2 + n24.2 + n44.2 + n65.2 + n72.2) (rb_up M75 q93 (rb_I N94 (va_up f95 (a3).toNatClampNeg (1 : Int32)))) 43 [some (.ref a0), some (.int a1), some (.ref q1), some (.int (a3 + (1 : Int32))), some (.ref q28), some (.int (1 : Int32))] []) ∧ ((1 : Int32) = 0 → (rb_fin κ (n.1 + n5.1 + n24.1 + n44.1 + n65.1 + n72.1, n.2 + n5.2 + n24.2 + n44.2 + n65.2 + n72.2) ∧ κ.2.2.1 (.returned (some (.int (-15 : Int32)))) (rb_up M75 q93 (rb_I N94 (va_up f95 (a3).toNatClampNeg (1 : Int32))))))))))))))))))))))))))))))))))))) ∧ (x33 = (2 : Int32) → (rb_fin κ (n.1 + n5.1 + n24.1, n.2 + n5.2 + n24.2) ∧ κ.2.2.1 (.returned (some (.int (-16 : Int32)))) M27))))))))))))))))) : rb_Bd κ mX0_object n M 43 [some (.ref a0), some (.int a1), some a2, some (.int a3), none, none] [] := by
  refine rb_iload_n 3 rfl rfl dX0_object_43 ?_
  refine rb_aload_n 2 rfl rfl ha2 dX0_object_44 ?_
  obtain ⟨q1, eq1, Kq1⟩ := K
  subst eq1
  obtain ⟨v2, hrv2, hv2, Kv2⟩ := Kq1
  refine rc_get fl_X0_291_27 hrv2 dX0_object_45 ?_
  obtain ⟨q3, eq3, Kq3⟩ := Kv2
  subst eq3
  obtain ⟨d4, n5, Q6, h1x7, hdx7, hnx7, hox7, Kx7⟩ := Kq3
  refine rb_call st_X0_201_7 (rest := [.int a3]) h1x7 rfl rfl (rc_rc rfl hox7) (Nat.le_of_ble_eq_true rfl) hdx7.1 hdx7.2 hnx7.1 hnx7.2 dX0_object_48 (fun o M8 hpx7 => ?_)
  obtain ⟨x7, eo, KKx7⟩ := Kx7 o M8 hpx7
  subst eo
  show rb_Bd κ mX0_object (n.1 + n5.1, n.2 + n5.2) M8 51 [some (.ref a0), some (.int a1), some (.ref q1), some (.int a3), none, none] [.int x7, .int a3]
  refine rb_icge 159 (by decide) dX0_object_51 (fun c9 => ?_) (fun c9 => ?_)
  · skip
    refine rb_new nw_X0_382 (fs := [.int 0, .null, .null]) rfl (((KKx7).1 c9)).1.1 (((KKx7).1 c9)).1.2 dX0_object_159 ?_
    show rb_Bd κ mX0_object (n.1 + n5.1 + 1, n.2 + n5.2 + 3) (rb_nw M8 (rb_O 29 [.int 0, .null, .null])) 162 [some (.ref a0), some (.int a1), some (.ref q1), some (.int a3), none, none] [.ref M8.1]
    refine rb_dup rfl dX0_object_162 ?_
    refine rb_aload_n 0 rfl rfl (rb_isR_ref _) dX0_object_163 ?_
    obtain ⟨v10, hrv10, hv10, Kv10⟩ := (((KKx7).1 c9)).2
    refine rc_get fl_X0_139_0 hrv10 dX0_object_164 ?_
    obtain ⟨q11, eq11, Kq11⟩ := Kv10
    subst eq11
    obtain ⟨d12, n13, Q14, h1x15, hdx15, hnx15, hox15, Kx15⟩ := Kq11
    refine rb_call st_X0_201_7 (rest := [.ref M8.1, .ref M8.1]) h1x15 rfl rfl (rc_rc rfl hox15) (Nat.le_of_ble_eq_true rfl) hdx15.1 hdx15.2 hnx15.1 hnx15.2 dX0_object_167 (fun o M16 hpx15 => ?_)
    obtain ⟨x15, eo, KKx15⟩ := Kx15 o M16 hpx15
    subst eo
    show rb_Bd κ mX0_object (n.1 + n5.1 + 1 + n13.1, n.2 + n5.2 + 3 + n13.2) M16 170 [some (.ref a0), some (.int a1), some (.ref q1), some (.int a3), none, none] [.int x15, .ref M8.1, .ref M8.1]
    refine rb_aload_n 2 rfl rfl (rb_isR_ref _) dX0_object_170 ?_
    obtain ⟨ci22, d17, n18, Q19, h1v20, hdv20, hnv20, hov20, Kv20⟩ := KKx15
    refine rb_call (st_X0_440 ci22) (rest := [.ref M8.1]) h1v20 rfl rfl (rc_rc rfl hov20) (Nat.le_of_ble_eq_true rfl) hdv20.1 hdv20.2 hnv20.1 hnv20.2 dX0_object_171 (fun o M21 hpv20 => ?_)
    obtain ⟨eo, KKv20⟩ := Kv20 o M21 hpv20
    subst eo
    show rb_Bd κ mX0_object (n.1 + n5.1 + 1 + n13.1 + n18.1, n.2 + n5.2 + 3 + n13.2 + n18.2) M21 174 [some (.ref a0), some (.int a1), some (.ref q1), some (.int a3), none, none] [.ref M8.1]
    refine rb_astore_n 3 rfl (ls' := [some (.ref a0), some (.int a1), some (.ref q1), some (.ref M8.1), none, none]) (by decide) rfl rfl (rb_isR_ref _) dX0_object_174 ?_
    refine rb_iconst (v := (0 : Int32)) (by decide) dX0_object_175 ?_
    refine rb_istore (ls' := [some (.ref a0), some (.int a1), some (.ref q1), some (.ref M8.1), some (.int (0 : Int32)), none]) (by decide) rfl rfl dX0_object_176 ?_
    exact KKv20
  · skip
    refine rb_aload_n 0 rfl rfl (rb_isR_ref _) dX0_object_54 ?_
    refine rb_aload_n 2 rfl rfl (rb_isR_ref _) dX0_object_55 ?_
    refine rb_iload_n 3 rfl rfl dX0_object_56 ?_
    obtain ⟨d23, n24, Q25, h1v26, hdv26, hnv26, hov26, Kv26⟩ := ((KKx7).2 c9)
    refine rb_call st_X0_357_0 (rest := []) h1v26 rfl rfl (rc_rc rfl hov26) (Nat.le_of_ble_eq_true rfl) hdv26.1 hdv26.2 hnv26.1 hnv26.2 dX0_object_57 (fun o M27 hpv26 => ?_)
    obtain ⟨v26, eo, hv26, KKv26⟩ := Kv26 o M27 hpv26
    subst eo
    show rb_Bd κ mX0_object (n.1 + n5.1 + n24.1, n.2 + n5.2 + n24.2) M27 60 [some (.ref a0), some (.int a1), some (.ref q1), some (.int a3), none, none] [v26]
    refine rb_astore (ls' := [some (.ref a0), some (.int a1), some (.ref q1), some (.int a3), some v26, none]) (by decide) rfl rfl hv26 dX0_object_60 ?_
    refine rb_aload rfl hv26 dX0_object_62 ?_
    obtain ⟨q28, eq28, Kq28⟩ := KKv26
    subst eq28
    obtain ⟨v29, hrv29, hv29, Kv29⟩ := Kq28
    refine rc_get fl_X0_361_27 hrv29 dX0_object_64 ?_
    refine rb_iload_n 3 rfl rfl dX0_object_67 ?_
    obtain ⟨q30, eq30, Kq30⟩ := Kv29
    subst eq30
    obtain ⟨N31, f32, x33, hMx33, hix33, hxx33, Kx33⟩ := Kq30
    refine rc_iald hMx33 hix33 hxx33 dX0_object_68 ?_
    refine rb_iconst (v := (2 : Int32)) (by decide) dX0_object_69 ?_
    refine rb_icne 76 (by decide) dX0_object_70 (fun c34 => ?_) (fun c34 => ?_)
    · skip
      refine rb_aload rfl (rb_isR_ref _) dX0_object_76 ?_
      obtain ⟨v35, hrv35, hv35, Kv35⟩ := ((Kx33).1 c34)
      refine rc_get fl_X0_361_27 hrv35 dX0_object_78 ?_
      refine rb_iload_n 3 rfl rfl dX0_object_81 ?_
      obtain ⟨q36, eq36, Kq36⟩ := Kv35
      subst eq36
      obtain ⟨N37, f38, x39, hMx39, hix39, hxx39, Kx39⟩ := Kq36
      refine rc_iald hMx39 hix39 hxx39 dX0_object_82 ?_
      refine rb_ifne 153 (by decide) dX0_object_83 (fun c40 => ?_) (fun c40 => ?_)
      · skip
        refine rb_iinc (ls' := [some (.ref a0), some (.int a1), some (.ref q1), some (.int (a3 + (1 : Int32))), some (.ref q28), none]) (v := (a3 + (1 : Int32))) rfl rfl (by decide) rfl rfl dX0_object_153 ?_
        refine rb_goto 43 (by decide) dX0_object_156 ?_
        exact ((Kx39).1 c40)
      · skip
        refine rb_aload_n 2 rfl rfl (rb_isR_ref _) dX0_object_86 ?_
        obtain ⟨v41, hrv41, hv41, Kv41⟩ := ((Kx39).2 c40)
        refine rc_get fl_X0_291_27 hrv41 dX0_object_87 ?_
        refine rb_iload_n 3 rfl rfl dX0_object_90 ?_
        obtain ⟨q42, eq42, Kq42⟩ := Kv41
        subst eq42
        obtain ⟨d43, n44, Q45, h1v46, hdv46, hnv46, hov46, Kv46⟩ := Kq42
        refine rb_call st_X0_218_7 (rest := []) h1v46 rfl rfl (rc_rc rfl hov46) (Nat.le_of_ble_eq_true rfl) hdv46.1 hdv46.2 hnv46.1 hnv46.2 dX0_object_91 (fun o M47 hpv46 => ?_)
        obtain ⟨v46, eo, hv46, KKv46⟩ := Kv46 o M47 hpv46
        subst eo
        show rb_Bd κ mX0_object (n.1 + n5.1 + n24.1 + n44.1, n.2 + n5.2 + n24.2 + n44.2) M47 94 [some (.ref a0), some (.int a1), some (.ref q1), some (.int a3), some (.ref q28), none] [v46]
        obtain ⟨q48, eq48, Kq48⟩ := KKv46
        subst eq48
        obtain ⟨ci49, ⟨fsci49, hoci49⟩, hcci49, Kci49⟩ := Kq48
        refine rb_cast q416 hoci49 hcci49 dX0_object_94 ?_
        obtain ⟨v50, hrv50, hv50, Kv50⟩ := Kci49
        refine rc_get fl_X0_247_5 hrv50 dX0_object_97 ?_
        refine rb_ifnull hv50 121 (by decide) dX0_object_100 (fun e => ?_) (fun q51 e => ?_)
        · subst e
          refine rb_iconst (v := (1 : Int32)) (by decide) dX0_object_121 ?_
          refine rb_goto 126 (by decide) dX0_object_122 ?_
          refine rb_istore (ls' := [some (.ref a0), some (.int a1), some (.ref q1), some (.int a3), some (.ref q28), some (.int (1 : Int32))]) (by decide) rfl rfl dX0_object_126 ?_
          refine rb_aload rfl (rb_isR_ref _) dX0_object_128 ?_
          obtain ⟨v52, hrv52, hv52, Kv52⟩ := ((Kv50).1 rfl)
          refine rc_get fl_X0_361_27 hrv52 dX0_object_130 ?_
          refine rb_iload_n 3 rfl rfl dX0_object_133 ?_
          refine rb_iload rfl dX0_object_134 ?_
          refine rb_ifeq 143 (by decide) dX0_object_136 (fun c53 => ?_) (fun c53 => ?_)
          · skip
            refine rb_iconst (v := (2 : Int32)) (by decide) dX0_object_143 ?_
            obtain ⟨q54, eq54, Kq54⟩ := ((Kv52).1 c53)
            subst eq54
            obtain ⟨N55, f56, hMf56, hif56, Kf56⟩ := Kq54
            refine rb_iast hMf56 hif56 dX0_object_144 ?_
            refine rb_iload rfl dX0_object_145 ?_
            refine rb_ifne 153 (by decide) dX0_object_147 (fun c57 => ?_) (fun c57 => ?_)
            · skip
              refine rb_iinc (ls' := [some (.ref a0), some (.int a1), some (.ref q1), some (.int (a3 + (1 : Int32))), some (.ref q28), some (.int (1 : Int32))]) (v := (a3 + (1 : Int32))) rfl rfl (by decide) rfl rfl dX0_object_153 ?_
              refine rb_goto 43 (by decide) dX0_object_156 ?_
              exact ((Kf56).1 c57)
            · skip
              refine rb_bipush (v := (-15 : Int32)) (by decide) dX0_object_150 ?_
              exact rb_iret rfl rfl (((Kf56).2 c57)).1.1 (((Kf56).2 c57)).1.2 dX0_object_152 (((Kf56).2 c57)).2
          · skip
            refine rb_iconst (v := (1 : Int32)) (by decide) dX0_object_139 ?_
            refine rb_goto 144 (by decide) dX0_object_140 ?_
            obtain ⟨q58, eq58, Kq58⟩ := ((Kv52).2 c53)
            subst eq58
            obtain ⟨N59, f60, hMf60, hif60, Kf60⟩ := Kq58
            refine rb_iast hMf60 hif60 dX0_object_144 ?_
            refine rb_iload rfl dX0_object_145 ?_
            refine rb_ifne 153 (by decide) dX0_object_147 (fun c61 => ?_) (fun c61 => ?_)
            · skip
              refine rb_iinc (ls' := [some (.ref a0), some (.int a1), some (.ref q1), some (.int (a3 + (1 : Int32))), some (.ref q28), some (.int (1 : Int32))]) (v := (a3 + (1 : Int32))) rfl rfl (by decide) rfl rfl dX0_object_153 ?_
              refine rb_goto 43 (by decide) dX0_object_156 ?_
              exact ((Kf60).1 c61)
            · skip
              refine rb_bipush (v := (-15 : Int32)) (by decide) dX0_object_150 ?_
              exact rb_iret rfl rfl (((Kf60).2 c61)).1.1 (((Kf60).2 c61)).1.2 dX0_object_152 (((Kf60).2 c61)).2
        · subst e
          refine rb_aload_n 0 rfl rfl (rb_isR_ref _) dX0_object_103 ?_
          refine rb_aload_n 2 rfl rfl (rb_isR_ref _) dX0_object_104 ?_
          obtain ⟨v62, hrv62, hv62, Kv62⟩ := ((Kv50).2 q51 rfl)
          refine rc_get fl_X0_291_27 hrv62 dX0_object_105 ?_
          refine rb_iload_n 3 rfl rfl dX0_object_108 ?_
          obtain ⟨q63, eq63, Kq63⟩ := Kv62
          subst eq63
          obtain ⟨d64, n65, Q66, h1v67, hdv67, hnv67, hov67, Kv67⟩ := Kq63
          refine rb_call st_X0_218_7 (rest := [.ref a0]) h1v67 rfl rfl (rc_rc rfl hov67) (Nat.le_of_ble_eq_true rfl) hdv67.1 hdv67.2 hnv67.1 hnv67.2 dX0_object_109 (fun o M68 hpv67 => ?_)
          obtain ⟨v67, eo, hv67, KKv67⟩ := Kv67 o M68 hpv67
          subst eo
          show rb_Bd κ mX0_object (n.1 + n5.1 + n24.1 + n44.1 + n65.1, n.2 + n5.2 + n24.2 + n44.2 + n65.2) M68 112 [some (.ref a0), some (.int a1), some (.ref q1), some (.int a3), some (.ref q28), none] [v67, .ref a0]
          obtain ⟨q69, eq69, Kq69⟩ := KKv67
          subst eq69
          obtain ⟨ci70, ⟨fsci70, hoci70⟩, hcci70, Kci70⟩ := Kq69
          refine rb_cast q416 hoci70 hcci70 dX0_object_112 ?_
          obtain ⟨d71, n72, Q73, h1x74, hdx74, hnx74, hox74, Kx74⟩ := Kci70
          refine rb_call st_X0_437_0 (rest := []) h1x74 rfl rfl (rc_rc rfl hox74) (Nat.le_of_ble_eq_true rfl) hdx74.1 hdx74.2 hnx74.1 hnx74.2 dX0_object_115 (fun o M75 hpx74 => ?_)
          obtain ⟨x74, eo, KKx74⟩ := Kx74 o M75 hpx74
          subst eo
          show rb_Bd κ mX0_object (n.1 + n5.1 + n24.1 + n44.1 + n65.1 + n72.1, n.2 + n5.2 + n24.2 + n44.2 + n65.2 + n72.2) M75 118 [some (.ref a0), some (.int a1), some (.ref q1), some (.int a3), some (.ref q28), none] [.int x74]
          refine rb_ifeq 125 (by decide) dX0_object_118 (fun c76 => ?_) (fun c76 => ?_)
          · skip
            refine rb_iconst (v := (0 : Int32)) (by decide) dX0_object_125 ?_
            refine rb_istore (ls' := [some (.ref a0), some (.int a1), some (.ref q1), some (.int a3), some (.ref q28), some (.int (0 : Int32))]) (by decide) rfl rfl dX0_object_126 ?_
            refine rb_aload rfl (rb_isR_ref _) dX0_object_128 ?_
            obtain ⟨v77, hrv77, hv77, Kv77⟩ := ((KKx74).1 c76)
            refine rc_get fl_X0_361_27 hrv77 dX0_object_130 ?_
            refine rb_iload_n 3 rfl rfl dX0_object_133 ?_
            refine rb_iload rfl dX0_object_134 ?_
            refine rb_ifeq 143 (by decide) dX0_object_136 (fun c78 => ?_) (fun c78 => ?_)
            · skip
              refine rb_iconst (v := (2 : Int32)) (by decide) dX0_object_143 ?_
              obtain ⟨q79, eq79, Kq79⟩ := ((Kv77).1 c78)
              subst eq79
              obtain ⟨N80, f81, hMf81, hif81, Kf81⟩ := Kq79
              refine rb_iast hMf81 hif81 dX0_object_144 ?_
              refine rb_iload rfl dX0_object_145 ?_
              refine rb_ifne 153 (by decide) dX0_object_147 (fun c82 => ?_) (fun c82 => ?_)
              · skip
                refine rb_iinc (ls' := [some (.ref a0), some (.int a1), some (.ref q1), some (.int (a3 + (1 : Int32))), some (.ref q28), some (.int (0 : Int32))]) (v := (a3 + (1 : Int32))) rfl rfl (by decide) rfl rfl dX0_object_153 ?_
                refine rb_goto 43 (by decide) dX0_object_156 ?_
                exact ((Kf81).1 c82)
              · skip
                refine rb_bipush (v := (-15 : Int32)) (by decide) dX0_object_150 ?_
                exact rb_iret rfl rfl (((Kf81).2 c82)).1.1 (((Kf81).2 c82)).1.2 dX0_object_152 (((Kf81).2 c82)).2
            · skip
              refine rb_iconst (v := (1 : Int32)) (by decide) dX0_object_139 ?_
              refine rb_goto 144 (by decide) dX0_object_140 ?_
              obtain ⟨q83, eq83, Kq83⟩ := ((Kv77).2 c78)
              subst eq83
              obtain ⟨N84, f85, hMf85, hif85, Kf85⟩ := Kq83
              refine rb_iast hMf85 hif85 dX0_object_144 ?_
              refine rb_iload rfl dX0_object_145 ?_
              refine rb_ifne 153 (by decide) dX0_object_147 (fun c86 => ?_) (fun c86 => ?_)
              · skip
                refine rb_iinc (ls' := [some (.ref a0), some (.int a1), some (.ref q1), some (.int (a3 + (1 : Int32))), some (.ref q28), some (.int (0 : Int32))]) (v := (a3 + (1 : Int32))) rfl rfl (by decide) rfl rfl dX0_object_153 ?_
                refine rb_goto 43 (by decide) dX0_object_156 ?_
                exact ((Kf85).1 c86)
              · skip
                refine rb_bipush (v := (-15 : Int32)) (by decide) dX0_object_150 ?_
                exact rb_iret rfl rfl (((Kf85).2 c86)).1.1 (((Kf85).2 c86)).1.2 dX0_object_152 (((Kf85).2 c86)).2
          · skip
            refine rb_iconst (v := (1 : Int32)) (by decide) dX0_object_121 ?_
            refine rb_goto 126 (by decide) dX0_object_122 ?_
            refine rb_istore (ls' := [some (.ref a0), some (.int a1), some (.ref q1), some (.int a3), some (.ref q28), some (.int (1 : Int32))]) (by decide) rfl rfl dX0_object_126 ?_
            refine rb_aload rfl (rb_isR_ref _) dX0_object_128 ?_
            obtain ⟨v87, hrv87, hv87, Kv87⟩ := ((KKx74).2 c76)
            refine rc_get fl_X0_361_27 hrv87 dX0_object_130 ?_
            refine rb_iload_n 3 rfl rfl dX0_object_133 ?_
            refine rb_iload rfl dX0_object_134 ?_
            refine rb_ifeq 143 (by decide) dX0_object_136 (fun c88 => ?_) (fun c88 => ?_)
            · skip
              refine rb_iconst (v := (2 : Int32)) (by decide) dX0_object_143 ?_
              obtain ⟨q89, eq89, Kq89⟩ := ((Kv87).1 c88)
              subst eq89
              obtain ⟨N90, f91, hMf91, hif91, Kf91⟩ := Kq89
              refine rb_iast hMf91 hif91 dX0_object_144 ?_
              refine rb_iload rfl dX0_object_145 ?_
              refine rb_ifne 153 (by decide) dX0_object_147 (fun c92 => ?_) (fun c92 => ?_)
              · skip
                refine rb_iinc (ls' := [some (.ref a0), some (.int a1), some (.ref q1), some (.int (a3 + (1 : Int32))), some (.ref q28), some (.int (1 : Int32))]) (v := (a3 + (1 : Int32))) rfl rfl (by decide) rfl rfl dX0_object_153 ?_
                refine rb_goto 43 (by decide) dX0_object_156 ?_
                exact ((Kf91).1 c92)
              · skip
                refine rb_bipush (v := (-15 : Int32)) (by decide) dX0_object_150 ?_
                exact rb_iret rfl rfl (((Kf91).2 c92)).1.1 (((Kf91).2 c92)).1.2 dX0_object_152 (((Kf91).2 c92)).2
            · skip
              refine rb_iconst (v := (1 : Int32)) (by decide) dX0_object_139 ?_
              refine rb_goto 144 (by decide) dX0_object_140 ?_
              obtain ⟨q93, eq93, Kq93⟩ := ((Kv87).2 c88)
              subst eq93
              obtain ⟨N94, f95, hMf95, hif95, Kf95⟩ := Kq93
              refine rb_iast hMf95 hif95 dX0_object_144 ?_
              refine rb_iload rfl dX0_object_145 ?_
              refine rb_ifne 153 (by decide) dX0_object_147 (fun c96 => ?_) (fun c96 => ?_)
              · skip
                refine rb_iinc (ls' := [some (.ref a0), some (.int a1), some (.ref q1), some (.int (a3 + (1 : Int32))), some (.ref q28), some (.int (1 : Int32))]) (v := (a3 + (1 : Int32))) rfl rfl (by decide) rfl rfl dX0_object_153 ?_
                refine rb_goto 43 (by decide) dX0_object_156 ?_
                exact ((Kf95).1 c96)
              · skip
                refine rb_bipush (v := (-15 : Int32)) (by decide) dX0_object_150 ?_
                exact rb_iret rfl rfl (((Kf95).2 c96)).1.1 (((Kf95).2 c96)).1.2 dX0_object_152 (((Kf95).2 c96)).2
    · skip
      refine rb_bipush (v := (-16 : Int32)) (by decide) dX0_object_73 ?_
      exact rb_iret rfl rfl (((Kx33).2 c34)).1.1 (((Kx33).2 c34)).1.2 dX0_object_75 (((Kx33).2 c34)).2
theorem sgX0_object_178 {κ : rb_K} {n : Nat × Nat} {M : rb_H} {a0 : Nat} {a1 : Int32} {a2 : Value} {a3 : Value} {a4 : Int32} (ha2 : rb_isR a2) (ha3 : rb_isR a3) (K : (∃ q1, a2 = .ref q1 ∧ (∃ (v2 : Value), rb_rd M q1 27 1 (v2) ∧ rb_isR v2 ∧ (∃ q3, v2 = .ref q3 ∧ (∃ (d4 : Nat) (n5 : Nat × Nat) (Q6 : Outcome → rb_H → Prop), rb_Ct κ.1 yJ4_size wJ4_size d4 n5 [.ref q3] M Q6 ∧ rb_dp κ d4 ∧ rb_rom κ (n.1 + n5.1, n.2 + n5.2) ∧ rb_ob M q3 7 ∧ ∀ (o : Outcome) (M8 : rb_H), Q6 o M8 → (∃ (x7 : Int32), o = .returned (some (.int x7)) ∧ ((x7 ≤ a4 → (∃ (v10 : Value), rb_rd M8 a0 0 8 (v10) ∧ rb_isR v10 ∧ (∃ q11, v10 = .ref q11 ∧ (∃ (d12 : Nat) (n13 : Nat × Nat) (Q14 : Outcome → rb_H → Prop), rb_Ct κ.1 yJ4_add wJ4_add d12 n13 [.ref q11, a3] M8 Q14 ∧ rb_dp κ d12 ∧ rb_rom κ (n.1 + n5.1 + n13.1, n.2 + n5.2 + n13.2) ∧ rb_ob M8 q11 7 ∧ ∀ (o : Outcome) (M16 : rb_H), Q14 o M16 → (∃ (x15 : Int32), o = .returned (some (.int x15)) ∧ (∃ q17, a3 = .ref q17 ∧ (∃ (x18 : Int32), rb_rd M16 q17 29 0 (.int x18) ∧ (rb_fin κ (n.1 + n5.1 + n13.1, n.2 + n5.2 + n13.2) ∧ κ.2.2.1 (.returned (some (.int x18))) M16)))))))) ∧ (a4 < x7 → (∃ q19, a3 = .ref q19 ∧ (∃ (v20 : Value), rb_rd M8 q19 29 2 (v20) ∧ rb_isR v20 ∧ (rb_rom κ (n.1 + n5.1 + 1, n.2 + n5.2 + 4) ∧ (∃ (v21 : Value), rb_rd (rb_nw M8 (rb_O 28 [.null, .null, .null, .null])) q1 27 1 (v21) ∧ rb_isR v21 ∧ (∃ q22, v21 = .ref q22 ∧ (∃ (d23 : Nat) (n24 : Nat × Nat) (Q25 : Outcome → rb_H → Prop), rb_Ct κ.1 yJ4_get wJ4_get d23 n24 [.ref q22, .int a4] (rb_nw M8 (rb_O 28 [.null, .null, .null, .null])) Q25 ∧ rb_dp κ d23 ∧ rb_rom κ (n.1 + n5.1 + 1 + n24.1, n.2 + n5.2 + 4 + n24.2) ∧ rb_ob (rb_nw M8 (rb_O 28 [.null, .null, .null, .null])) q22 7 ∧ ∀ (o : Outcome) (M27 : rb_H), Q25 o M27 → (∃ (v26 : Value), o = .returned (some v26) ∧ rb_isR v26 ∧ (∃ q28, v26 = .ref q28 ∧ (∃ ci29, rb_ob M27 q28 ci29 ∧ rb_CC ci29 "RoleLoom$Part" ∧ (∃ (ci35 : Nat) (d30 : Nat) (n31 : Nat × Nat) (Q32 : Outcome → rb_H → Prop), rb_Ct κ.1 yX28_init wX28_init d30 n31 [.ref M8.1, .ref q28] M27 Q32 ∧ rb_dp κ d30 ∧ rb_rom κ (n.1 + n5.1 + 1 + n24.1 + n31.1, n.2 + n5.2 + 4 + n24.2 + n31.2) ∧ rb_ob M27 M8.1 ci35 ∧ ∀ (o : Outcome) (M34 : rb_H), Q32 o M34 → (o = .returned none ∧ (∃ q36, v20 = .ref q36 ∧ (∃ (d37 : Nat) (n38 : Nat × Nat) (Q39 : Outcome → rb_H → Prop), rb_Ct κ.1 yJ4_add wJ4_add d37 n38 [.ref q36, .ref M8.1] M34 Q39 ∧ rb_dp κ d37 ∧ rb_rom κ (n.1 + n5.1 + 1 + n24.1 + n31.1 + n38.1, n.2 + n5.2 + 4 + n24.2 + n31.2 + n38.2) ∧ rb_ob M34 q36 7 ∧ ∀ (o : Outcome) (M41 : rb_H), Q39 o M41 → (∃ (x40 : Int32), o = .returned (some (.int x40)) ∧ rb_Bd κ mX0_object (n.1 + n5.1 + 1 + n24.1 + n31.1 + n38.1, n.2 + n5.2 + 4 + n24.2 + n31.2 + n38.2) M41 178 [some (.ref a0), some (.int a1), some (.ref q1), some (.ref q19), some (.int (a4 + (1 : Int32))), none] [])))))))))))))))))))))) : rb_Bd κ mX0_object n M 178 [some (.ref a0), some (.int a1), some a2, some a3, some (.int a4), none] [] := by
  refine rb_iload rfl dX0_object_178 ?_
  refine rb_aload_n 2 rfl rfl ha2 dX0_object_180 ?_
  obtain ⟨q1, eq1, Kq1⟩ := K
  subst eq1
  obtain ⟨v2, hrv2, hv2, Kv2⟩ := Kq1
  refine rc_get fl_X0_291_27 hrv2 dX0_object_181 ?_
  obtain ⟨q3, eq3, Kq3⟩ := Kv2
  subst eq3
  obtain ⟨d4, n5, Q6, h1x7, hdx7, hnx7, hox7, Kx7⟩ := Kq3
  refine rb_call st_X0_201_7 (rest := [.int a4]) h1x7 rfl rfl (rc_rc rfl hox7) (Nat.le_of_ble_eq_true rfl) hdx7.1 hdx7.2 hnx7.1 hnx7.2 dX0_object_184 (fun o M8 hpx7 => ?_)
  obtain ⟨x7, eo, KKx7⟩ := Kx7 o M8 hpx7
  subst eo
  show rb_Bd κ mX0_object (n.1 + n5.1, n.2 + n5.2) M8 187 [some (.ref a0), some (.int a1), some (.ref q1), some a3, some (.int a4), none] [.int x7, .int a4]
  refine rb_icge 223 (by decide) dX0_object_187 (fun c9 => ?_) (fun c9 => ?_)
  · skip
    refine rb_aload_n 0 rfl rfl (rb_isR_ref _) dX0_object_223 ?_
    obtain ⟨v10, hrv10, hv10, Kv10⟩ := ((KKx7).1 c9)
    refine rc_get fl_X0_139_0 hrv10 dX0_object_224 ?_
    refine rb_aload_n 3 rfl rfl ha3 dX0_object_227 ?_
    obtain ⟨q11, eq11, Kq11⟩ := Kv10
    subst eq11
    obtain ⟨d12, n13, Q14, h1x15, hdx15, hnx15, hox15, Kx15⟩ := Kq11
    refine rb_call st_X0_210_7 (rest := []) h1x15 rfl rfl (rc_rc rfl hox15) (Nat.le_of_ble_eq_true rfl) hdx15.1 hdx15.2 hnx15.1 hnx15.2 dX0_object_228 (fun o M16 hpx15 => ?_)
    obtain ⟨x15, eo, KKx15⟩ := Kx15 o M16 hpx15
    subst eo
    show rb_Bd κ mX0_object (n.1 + n5.1 + n13.1, n.2 + n5.2 + n13.2) M16 231 [some (.ref a0), some (.int a1), some (.ref q1), some a3, some (.int a4), none] [.int x15]
    refine rb_pop rfl dX0_object_231 ?_
    refine rb_aload_n 3 rfl rfl ha3 dX0_object_232 ?_
    obtain ⟨q17, eq17, Kq17⟩ := KKx15
    subst eq17
    obtain ⟨x18, hrx18, Kx18⟩ := Kq17
    refine rc_get fl_X0_443_29 hrx18 dX0_object_233 ?_
    exact rb_iret rfl rfl (Kx18).1.1 (Kx18).1.2 dX0_object_236 (Kx18).2
  · skip
    refine rb_aload_n 3 rfl rfl ha3 dX0_object_190 ?_
    obtain ⟨q19, eq19, Kq19⟩ := ((KKx7).2 c9)
    subst eq19
    obtain ⟨v20, hrv20, hv20, Kv20⟩ := Kq19
    refine rc_get fl_X0_381_29 hrv20 dX0_object_191 ?_
    refine rb_new nw_X0_394 (fs := [.null, .null, .null, .null]) rfl (Kv20).1.1 (Kv20).1.2 dX0_object_194 ?_
    show rb_Bd κ mX0_object (n.1 + n5.1 + 1, n.2 + n5.2 + 4) (rb_nw M8 (rb_O 28 [.null, .null, .null, .null])) 197 [some (.ref a0), some (.int a1), some (.ref q1), some (.ref q19), some (.int a4), none] [.ref M8.1, v20]
    refine rb_dup rfl dX0_object_197 ?_
    refine rb_aload_n 2 rfl rfl (rb_isR_ref _) dX0_object_198 ?_
    obtain ⟨v21, hrv21, hv21, Kv21⟩ := (Kv20).2
    refine rc_get fl_X0_291_27 hrv21 dX0_object_199 ?_
    refine rb_iload rfl dX0_object_202 ?_
    obtain ⟨q22, eq22, Kq22⟩ := Kv21
    subst eq22
    obtain ⟨d23, n24, Q25, h1v26, hdv26, hnv26, hov26, Kv26⟩ := Kq22
    refine rb_call st_X0_218_7 (rest := [.ref M8.1, .ref M8.1, v20]) h1v26 rfl rfl (rc_rc rfl hov26) (by simp [rb_isR_cat hv20, rb_cR, rb_cI, rb_cJ, rb_cN]) hdv26.1 hdv26.2 hnv26.1 hnv26.2 dX0_object_204 (fun o M27 hpv26 => ?_)
    obtain ⟨v26, eo, hv26, KKv26⟩ := Kv26 o M27 hpv26
    subst eo
    show rb_Bd κ mX0_object (n.1 + n5.1 + 1 + n24.1, n.2 + n5.2 + 4 + n24.2) M27 207 [some (.ref a0), some (.int a1), some (.ref q1), some (.ref q19), some (.int a4), none] [v26, .ref M8.1, .ref M8.1, v20]
    obtain ⟨q28, eq28, Kq28⟩ := KKv26
    subst eq28
    obtain ⟨ci29, ⟨fsci29, hoci29⟩, hcci29, Kci29⟩ := Kq28
    refine rb_cast q416 hoci29 hcci29 dX0_object_207 ?_
    obtain ⟨ci35, d30, n31, Q32, h1v33, hdv33, hnv33, hov33, Kv33⟩ := Kci29
    refine rb_call (st_X0_425 ci35) (rest := [.ref M8.1, v20]) h1v33 rfl rfl (rc_rc rfl hov33) (by simp [rb_isR_cat hv20, rb_cR, rb_cI, rb_cJ, rb_cN]) hdv33.1 hdv33.2 hnv33.1 hnv33.2 dX0_object_210 (fun o M34 hpv33 => ?_)
    obtain ⟨eo, KKv33⟩ := Kv33 o M34 hpv33
    subst eo
    show rb_Bd κ mX0_object (n.1 + n5.1 + 1 + n24.1 + n31.1, n.2 + n5.2 + 4 + n24.2 + n31.2) M34 213 [some (.ref a0), some (.int a1), some (.ref q1), some (.ref q19), some (.int a4), none] [.ref M8.1, v20]
    obtain ⟨q36, eq36, Kq36⟩ := KKv33
    subst eq36
    obtain ⟨d37, n38, Q39, h1x40, hdx40, hnx40, hox40, Kx40⟩ := Kq36
    refine rb_call st_X0_210_7 (rest := []) h1x40 rfl rfl (rc_rc rfl hox40) (Nat.le_of_ble_eq_true rfl) hdx40.1 hdx40.2 hnx40.1 hnx40.2 dX0_object_213 (fun o M41 hpx40 => ?_)
    obtain ⟨x40, eo, KKx40⟩ := Kx40 o M41 hpx40
    subst eo
    show rb_Bd κ mX0_object (n.1 + n5.1 + 1 + n24.1 + n31.1 + n38.1, n.2 + n5.2 + 4 + n24.2 + n31.2 + n38.2) M41 216 [some (.ref a0), some (.int a1), some (.ref q1), some (.ref q19), some (.int a4), none] [.int x40]
    refine rb_pop rfl dX0_object_216 ?_
    refine rb_iinc (ls' := [some (.ref a0), some (.int a1), some (.ref q1), some (.ref q19), some (.int (a4 + (1 : Int32))), none]) (v := (a4 + (1 : Int32))) rfl rfl (by decide) rfl rfl dX0_object_217 ?_
    refine rb_goto 178 (by decide) dX0_object_220 ?_
    exact KKx40
theorem sgX0_beginRun_0 {κ : rb_K} {n : Nat × Nat} {M : rb_H} {a0 : Nat} (K : (∃ fs1, M.2 a0 = some (rb_O 0 fs1) ∧ 23 < fs1.length ∧ (∃ fs2, (rb_up M a0 (rb_O 0 (fs1.set 23 (.int (0 : Int32))))).2 a0 = some (rb_O 0 fs2) ∧ 26 < fs2.length ∧ (∃ fs3, (rb_up (rb_up M a0 (rb_O 0 (fs1.set 23 (.int (0 : Int32))))) a0 (rb_O 0 (fs2.set 26 (.int (0 : Int32))))).2 a0 = some (rb_O 0 fs3) ∧ 27 < fs3.length ∧ (∃ fs4, (rb_up (rb_up (rb_up M a0 (rb_O 0 (fs1.set 23 (.int (0 : Int32))))) a0 (rb_O 0 (fs2.set 26 (.int (0 : Int32))))) a0 (rb_O 0 (fs3.set 27 (.int (-9 : Int32))))).2 a0 = some (rb_O 0 fs4) ∧ 28 < fs4.length ∧ (∃ fs5, (rb_up (rb_up (rb_up (rb_up M a0 (rb_O 0 (fs1.set 23 (.int (0 : Int32))))) a0 (rb_O 0 (fs2.set 26 (.int (0 : Int32))))) a0 (rb_O 0 (fs3.set 27 (.int (-9 : Int32))))) a0 (rb_O 0 (fs4.set 28 (.int (-9 : Int32))))).2 a0 = some (rb_O 0 fs5) ∧ 29 < fs5.length ∧ (∃ fs6, (rb_up (rb_up (rb_up (rb_up (rb_up M a0 (rb_O 0 (fs1.set 23 (.int (0 : Int32))))) a0 (rb_O 0 (fs2.set 26 (.int (0 : Int32))))) a0 (rb_O 0 (fs3.set 27 (.int (-9 : Int32))))) a0 (rb_O 0 (fs4.set 28 (.int (-9 : Int32))))) a0 (rb_O 0 (fs5.set 29 (.int (-9 : Int32))))).2 a0 = some (rb_O 0 fs6) ∧ 30 < fs6.length ∧ (rb_fin κ n ∧ κ.2.2.1 (.returned none) (rb_up (rb_up (rb_up (rb_up (rb_up (rb_up M a0 (rb_O 0 (fs1.set 23 (.int (0 : Int32))))) a0 (rb_O 0 (fs2.set 26 (.int (0 : Int32))))) a0 (rb_O 0 (fs3.set 27 (.int (-9 : Int32))))) a0 (rb_O 0 (fs4.set 28 (.int (-9 : Int32))))) a0 (rb_O 0 (fs5.set 29 (.int (-9 : Int32))))) a0 (rb_O 0 (fs6.set 30 (.long (0 : Int64))))))))))))) : rb_Bd κ mX0_beginRun n M 0 [some (.ref a0)] [] := by
  refine rb_aload_n 0 rfl rfl (rb_isR_ref _) dX0_beginRun_0 ?_
  refine rb_iconst (v := (0 : Int32)) (by decide) dX0_beginRun_1 ?_
  obtain ⟨fs1, hMfs1, hlfs1, Kfs1⟩ := K
  refine rb_put fl_X0_364_0 (fun q hq => by cases hq; exact Or.inl rfl) rfl rfl hMfs1 hlfs1 dX0_beginRun_2 ?_
  refine rb_aload_n 0 rfl rfl (rb_isR_ref _) dX0_beginRun_5 ?_
  refine rb_iconst (v := (0 : Int32)) (by decide) dX0_beginRun_6 ?_
  obtain ⟨fs2, hMfs2, hlfs2, Kfs2⟩ := Kfs1
  refine rb_put fl_X0_367_0 (fun q hq => by cases hq; exact Or.inl rfl) rfl rfl hMfs2 hlfs2 dX0_beginRun_7 ?_
  refine rb_aload_n 0 rfl rfl (rb_isR_ref _) dX0_beginRun_10 ?_
  refine rb_bipush (v := (-9 : Int32)) (by decide) dX0_beginRun_11 ?_
  obtain ⟨fs3, hMfs3, hlfs3, Kfs3⟩ := Kfs2
  refine rb_put fl_X0_188_0 (fun q hq => by cases hq; exact Or.inl rfl) rfl rfl hMfs3 hlfs3 dX0_beginRun_13 ?_
  refine rb_aload_n 0 rfl rfl (rb_isR_ref _) dX0_beginRun_16 ?_
  refine rb_bipush (v := (-9 : Int32)) (by decide) dX0_beginRun_17 ?_
  obtain ⟨fs4, hMfs4, hlfs4, Kfs4⟩ := Kfs3
  refine rb_put fl_X0_191_0 (fun q hq => by cases hq; exact Or.inl rfl) rfl rfl hMfs4 hlfs4 dX0_beginRun_19 ?_
  refine rb_aload_n 0 rfl rfl (rb_isR_ref _) dX0_beginRun_22 ?_
  refine rb_bipush (v := (-9 : Int32)) (by decide) dX0_beginRun_23 ?_
  obtain ⟨fs5, hMfs5, hlfs5, Kfs5⟩ := Kfs4
  refine rb_put fl_X0_194_0 (fun q hq => by cases hq; exact Or.inl rfl) rfl rfl hMfs5 hlfs5 dX0_beginRun_25 ?_
  refine rb_aload_n 0 rfl rfl (rb_isR_ref _) dX0_beginRun_28 ?_
  refine rb_lconst (v := (0 : Int64)) (by decide) dX0_beginRun_29 ?_
  obtain ⟨fs6, hMfs6, hlfs6, Kfs6⟩ := Kfs5
  refine rb_put fl_X0_370_0 (fun q hq => by cases hq; exact Or.inl rfl) rfl rfl hMfs6 hlfs6 dX0_beginRun_30 ?_
  exact rb_vret rfl (Kfs6).1.1 (Kfs6).1.2 dX0_beginRun_33 (Kfs6).2
theorem sgX0_starts_0 {κ : rb_K} {n : Nat × Nat} {M : rb_H} {a0 : Nat} {a1 : Value} (ha1 : rb_isR a1) (K : (∃ (v1 : Value), rb_rd M a0 0 22 (v1) ∧ rb_isR v1 ∧ (∃ q2, v1 = .ref q2 ∧ (∃ (t6 N3 : Nat) (f4 : Nat → Option Nat) (v5 : Value), M.2 q2 = some (rb_R t6 N3 f4) ∧ (3 ≤ t6 ∧ t6 ≤ 6) ∧ vp_in (1 : Int32) N3 ∧ va_rf (f4 ((1 : Int32)).toNatClampNeg) = v5 ∧ (∃ q7, v5 = .ref q7 ∧ (∃ fs8, M.2 q7 = some (rb_O 3 fs8) ∧ 0 < fs8.length ∧ (rb_rom κ (n.1 + 1, n.2 + 4) ∧ (∃ (ci14 : Nat) (d9 : Nat) (n10 : Nat × Nat) (Q11 : Outcome → rb_H → Prop), rb_Ct κ.1 yX28_init wX28_init d9 n10 [.ref M.1, a1] (rb_nw (rb_up M q7 (rb_O 3 (fs8.set 0 (.null)))) (rb_O 28 [.null, .null, .null, .null])) Q11 ∧ rb_dp κ d9 ∧ rb_rom κ (n.1 + 1 + n10.1, n.2 + 4 + n10.2) ∧ rb_ob (rb_nw (rb_up M q7 (rb_O 3 (fs8.set 0 (.null)))) (rb_O 28 [.null, .null, .null, .null])) M.1 ci14 ∧ ∀ (o : Outcome) (M13 : rb_H), Q11 o M13 → (o = .returned none ∧ (∃ fs15, M13.2 q7 = some (rb_O 3 fs15) ∧ 1 < fs15.length ∧ (∃ fs16, (rb_up M13 q7 (rb_O 3 (fs15.set 1 (.ref M.1)))).2 q7 = some (rb_O 3 fs16) ∧ 2 < fs16.length ∧ (∃ fs17, (rb_up (rb_up M13 q7 (rb_O 3 (fs15.set 1 (.ref M.1)))) q7 (rb_O 3 (fs16.set 2 (.null)))).2 q7 = some (rb_O 3 fs17) ∧ 3 < fs17.length ∧ (∃ q18, a1 = .ref q18 ∧ (∃ (v19 : Value), rb_rd (rb_up (rb_up (rb_up M13 q7 (rb_O 3 (fs15.set 1 (.ref M.1)))) q7 (rb_O 3 (fs16.set 2 (.null)))) q7 (rb_O 3 (fs17.set 3 (.int (0 : Int32))))) q18 5 7 (v19) ∧ rb_isR v19 ∧ (∃ (d20 : Nat) (n21 : Nat × Nat) (Q22 : Outcome → rb_H → Prop), rb_Ct κ.1 yX0_goes wX0_goes d20 n21 [.ref a0, .ref q7, v19, .long (0 : Int64), .int (1 : Int32)] (rb_up (rb_up (rb_up M13 q7 (rb_O 3 (fs15.set 1 (.ref M.1)))) q7 (rb_O 3 (fs16.set 2 (.null)))) q7 (rb_O 3 (fs17.set 3 (.int (0 : Int32))))) Q22 ∧ rb_dp κ d20 ∧ rb_rom κ (n.1 + 1 + n10.1 + n21.1, n.2 + 4 + n10.2 + n21.2) ∧ rb_ob (rb_up (rb_up (rb_up M13 q7 (rb_O 3 (fs15.set 1 (.ref M.1)))) q7 (rb_O 3 (fs16.set 2 (.null)))) q7 (rb_O 3 (fs17.set 3 (.int (0 : Int32))))) a0 0 ∧ ∀ (o : Outcome) (M24 : rb_H), Q22 o M24 → ((∃ (x23 : Int64), o = .returned (some (.long x23)) ∧ (∃ fs25, M24.2 a0 = some (rb_O 0 fs25) ∧ 32 < fs25.length ∧ (rb_fin κ (n.1 + 1 + n10.1 + n21.1, n.2 + 4 + n10.2 + n21.2) ∧ κ.2.2.1 (.returned (some (.int (1 : Int32)))) (rb_up M24 a0 (rb_O 0 (fs25.set 32 (.long x23))))))) ∨ (∃ x23t, o = .threw x23t ∧ rb_Th κ mX0_starts (n.1 + 1 + n10.1 + n21.1, n.2 + 4 + n10.2 + n21.2) M24 43 [some (.ref a0), some (.ref q18), some (.ref q7), none] x23t))))))))))))))))) : rb_Bd κ mX0_starts n M 0 [some (.ref a0), some a1, none, none] [] := by
  refine rb_aload_n 0 rfl rfl (rb_isR_ref _) dX0_starts_0 ?_
  obtain ⟨v1, hrv1, hv1, Kv1⟩ := K
  refine rc_get fl_X0_177_0 hrv1 dX0_starts_1 ?_
  refine rb_iconst (v := (1 : Int32)) (by decide) dX0_starts_4 ?_
  obtain ⟨q2, eq2, Kq2⟩ := Kv1
  subst eq2
  obtain ⟨t6, N3, f4, v5, hMv5, htv5, hiv5, hxv5, Kv5⟩ := Kq2
  have hv5 := rc_isRf hxv5
  refine rc_aald hMv5 htv5 hiv5 hxv5 dX0_starts_5 ?_
  refine rb_astore_n 2 rfl (ls' := [some (.ref a0), some a1, some v5, none]) (by decide) (by simp [rb_o1, rb_isR_cat ha1]) rfl hv5 dX0_starts_6 ?_
  refine rb_aload_n 2 rfl rfl hv5 dX0_starts_7 ?_
  refine rb_null dX0_starts_8 ?_
  obtain ⟨q7, eq7, Kq7⟩ := Kv5
  subst eq7
  obtain ⟨fs8, hMfs8, hlfs8, Kfs8⟩ := Kq7
  refine rb_put fl_X0_377_3 (fun q hq => by cases hq; exact Or.inl rfl) (rb_nfR rb_isR_null _).1 (rb_nfR rb_isR_null _).2 hMfs8 hlfs8 dX0_starts_9 ?_
  refine rb_aload_n 2 rfl rfl (rb_isR_ref _) dX0_starts_12 ?_
  refine rb_new nw_X0_394 (fs := [.null, .null, .null, .null]) rfl (Kfs8).1.1 (Kfs8).1.2 dX0_starts_13 ?_
  show rb_Bd κ mX0_starts (n.1 + 1, n.2 + 4) (rb_nw (rb_up M q7 (rb_O 3 (fs8.set 0 (.null)))) (rb_O 28 [.null, .null, .null, .null])) 16 [some (.ref a0), some a1, some (.ref q7), none] [.ref M.1, .ref q7]
  refine rb_dup rfl dX0_starts_16 ?_
  refine rb_aload_n 1 rfl rfl ha1 dX0_starts_17 ?_
  obtain ⟨ci14, d9, n10, Q11, h1v12, hdv12, hnv12, hov12, Kv12⟩ := (Kfs8).2
  refine rb_call (st_X0_425 ci14) (rest := [.ref M.1, .ref q7]) h1v12 rfl rfl (rc_rc rfl hov12) (Nat.le_of_ble_eq_true rfl) hdv12.1 hdv12.2 hnv12.1 hnv12.2 dX0_starts_18 (fun o M13 hpv12 => ?_)
  obtain ⟨eo, KKv12⟩ := Kv12 o M13 hpv12
  subst eo
  show rb_Bd κ mX0_starts (n.1 + 1 + n10.1, n.2 + 4 + n10.2) M13 21 [some (.ref a0), some a1, some (.ref q7), none] [.ref M.1, .ref q7]
  obtain ⟨fs15, hMfs15, hlfs15, Kfs15⟩ := KKv12
  refine rb_put fl_X0_396_3 (fun q hq => by cases hq; exact Or.inl rfl) (rb_nfR (rb_isR_ref _) _).1 (rb_nfR (rb_isR_ref _) _).2 hMfs15 hlfs15 dX0_starts_21 ?_
  refine rb_aload_n 2 rfl rfl (rb_isR_ref _) dX0_starts_24 ?_
  refine rb_null dX0_starts_25 ?_
  obtain ⟨fs16, hMfs16, hlfs16, Kfs16⟩ := Kfs15
  refine rb_put fl_X0_400_3 (fun q hq => by cases hq; exact Or.inl rfl) (rb_nfR rb_isR_null _).1 (rb_nfR rb_isR_null _).2 hMfs16 hlfs16 dX0_starts_26 ?_
  refine rb_aload_n 2 rfl rfl (rb_isR_ref _) dX0_starts_29 ?_
  refine rb_iconst (v := (0 : Int32)) (by decide) dX0_starts_30 ?_
  obtain ⟨fs17, hMfs17, hlfs17, Kfs17⟩ := Kfs16
  refine rb_put fl_X0_403_3 (fun q hq => by cases hq; exact Or.inl rfl) rfl rfl hMfs17 hlfs17 dX0_starts_31 ?_
  refine rb_aload_n 0 rfl rfl (rb_isR_ref _) dX0_starts_34 ?_
  refine rb_aload_n 0 rfl rfl (rb_isR_ref _) dX0_starts_35 ?_
  refine rb_aload_n 2 rfl rfl (rb_isR_ref _) dX0_starts_36 ?_
  refine rb_aload_n 1 rfl rfl ha1 dX0_starts_37 ?_
  obtain ⟨q18, eq18, Kq18⟩ := Kfs17
  subst eq18
  obtain ⟨v19, hrv19, hv19, Kv19⟩ := Kq18
  refine rc_get fl_X0_247_5 hrv19 dX0_starts_38 ?_
  refine rb_lconst (v := (0 : Int64)) (by decide) dX0_starts_41 ?_
  refine rb_iconst (v := (1 : Int32)) (by decide) dX0_starts_42 ?_
  obtain ⟨d20, n21, Q22, h1x23, hdx23, hnx23, hox23, Kx23⟩ := Kv19
  refine rb_call st_X0_406_0 (rest := [.ref a0]) h1x23 rfl rfl (rc_rc rfl hox23) (Nat.le_of_ble_eq_true rfl) hdx23.1 hdx23.2 hnx23.1 hnx23.2 dX0_starts_43 (fun o M24 hpx23 => ?_)
  rcases Kx23 o M24 hpx23 with ⟨x23, eo, KKx23⟩ | ⟨x23t, eo, KKx23⟩
  · subst eo
    show rb_Bd κ mX0_starts (n.1 + 1 + n10.1 + n21.1, n.2 + 4 + n10.2 + n21.2) M24 46 [some (.ref a0), some (.ref q18), some (.ref q7), none] [.long x23, .ref a0]
    obtain ⟨fs25, hMfs25, hlfs25, Kfs25⟩ := KKx23
    refine rb_put fl_X0_427_0 (fun q hq => by cases hq; exact Or.inl rfl) rfl rfl hMfs25 hlfs25 dX0_starts_46 ?_
    refine rb_iconst (v := (1 : Int32)) (by decide) dX0_starts_49 ?_
    exact rb_iret rfl (by decide) (Kfs25).1.1 (Kfs25).1.2 dX0_starts_50 (Kfs25).2
  · subst eo
    exact KKx23
theorem sgX0_starts_51 {κ : rb_K} {n : Nat × Nat} {M : rb_H} {a0 : Nat} {a1 : Value} {a2 : Value} {s0 : Value} (ha1 : rb_isR a1) (ha2 : rb_isR a2) (hs0 : rb_isR s0) (K : (∃ (d1 : Nat) (n2 : Nat × Nat) (Q3 : Outcome → rb_H → Prop), rb_Ct κ.1 yX0_noteThrown wX0_noteThrown d1 n2 [.ref a0, s0] M Q3 ∧ rb_dp κ d1 ∧ rb_rom κ (n.1 + n2.1, n.2 + n2.2) ∧ rb_ob M a0 0 ∧ ∀ (o : Outcome) (M5 : rb_H), Q3 o M5 → (o = .returned none ∧ (rb_fin κ (n.1 + n2.1, n.2 + n2.2) ∧ κ.2.2.1 (.returned (some (.int (0 : Int32)))) M5)))) : rb_Bd κ mX0_starts n M 51 [some (.ref a0), some a1, some a2, none] [s0] := by
  refine rb_astore_n 3 rfl (ls' := [some (.ref a0), some a1, some a2, some s0]) (by decide) (by simp [rb_o1, rb_isR_cat ha2]) rfl hs0 dX0_starts_51 ?_
  refine rb_aload_n 0 rfl rfl (rb_isR_ref _) dX0_starts_52 ?_
  refine rb_aload_n 3 rfl rfl hs0 dX0_starts_53 ?_
  obtain ⟨d1, n2, Q3, h1v4, hdv4, hnv4, hov4, Kv4⟩ := K
  refine rb_call st_X0_430_0 (rest := []) h1v4 rfl rfl (rc_rc rfl hov4) (Nat.le_of_ble_eq_true rfl) hdv4.1 hdv4.2 hnv4.1 hnv4.2 dX0_starts_54 (fun o M5 hpv4 => ?_)
  obtain ⟨eo, KKv4⟩ := Kv4 o M5 hpv4
  subst eo
  show rb_Bd κ mX0_starts (n.1 + n2.1, n.2 + n2.2) M5 57 [some (.ref a0), some a1, some a2, some s0] []
  refine rb_iconst (v := (0 : Int32)) (by decide) dX0_starts_57 ?_
  exact rb_iret rfl (by decide) (KKv4).1.1 (KKv4).1.2 dX0_starts_58 (KKv4).2
theorem sgX0_starts_59 {κ : rb_K} {n : Nat × Nat} {M : rb_H} {a0 : Nat} {a1 : Value} {a2 : Value} {s0 : Value} (ha1 : rb_isR a1) (ha2 : rb_isR a2) (hs0 : rb_isR s0) (K : (rb_fin κ n ∧ κ.2.2.1 (.returned (some (.int (0 : Int32)))) M)) : rb_Bd κ mX0_starts n M 59 [some (.ref a0), some a1, some a2, none] [s0] := by
  refine rb_astore_n 3 rfl (ls' := [some (.ref a0), some a1, some a2, some s0]) (by decide) (by simp [rb_o1, rb_isR_cat ha2]) rfl hs0 dX0_starts_59 ?_
  refine rb_iconst (v := (0 : Int32)) (by decide) dX0_starts_60 ?_
  exact rb_iret rfl (by decide) (K).1.1 (K).1.2 dX0_starts_61 (K).2
theorem sgX0_goes_0 {κ : rb_K} {n : Nat × Nat} {M : rb_H} {a0 : Nat} {a1 : Value} {a2 : Value} {a3 : Int64} {a5 : Int32} (ha1 : rb_isR a1) (ha2 : rb_isR a2) (K : (∃ q1, a1 = .ref q1 ∧ (∃ fs2, M.2 q1 = some (rb_O 3 fs2) ∧ 4 < fs2.length ∧ (∃ fs3, (rb_up M q1 (rb_O 3 (fs2.set 4 a2))).2 q1 = some (rb_O 3 fs3) ∧ 5 < fs3.length ∧ (∃ fs4, (rb_up (rb_up M q1 (rb_O 3 (fs2.set 4 a2))) q1 (rb_O 3 (fs3.set 5 (.long a3)))).2 q1 = some (rb_O 3 fs4) ∧ 6 < fs4.length ∧ (∃ fs5, (rb_up (rb_up (rb_up M q1 (rb_O 3 (fs2.set 4 a2))) q1 (rb_O 3 (fs3.set 5 (.long a3)))) q1 (rb_O 3 (fs4.set 6 (.int (0 : Int32))))).2 q1 = some (rb_O 3 fs5) ∧ 7 < fs5.length ∧ (∃ (x6 : Int32), rb_rd (rb_up (rb_up (rb_up (rb_up M q1 (rb_O 3 (fs2.set 4 a2))) q1 (rb_O 3 (fs3.set 5 (.long a3)))) q1 (rb_O 3 (fs4.set 6 (.int (0 : Int32))))) q1 (rb_O 3 (fs5.set 7 (.int a5)))) a0 0 26 (.int x6) ∧ (((60 : Int32) ≤ x6 → (∃ q8, a2 = .ref q8 ∧ (∃ (x9 : Int32), rb_rd (rb_up (rb_up (rb_up (rb_up M q1 (rb_O 3 (fs2.set 4 a2))) q1 (rb_O 3 (fs3.set 5 (.long a3)))) q1 (rb_O 3 (fs4.set 6 (.int (0 : Int32))))) q1 (rb_O 3 (fs5.set 7 (.int a5)))) q8 6 3 (.int x9) ∧ ((x9 = (-9 : Int32) → rb_Bd κ mX0_goes n (rb_up (rb_up (rb_up (rb_up M q1 (rb_O 3 (fs2.set 4 a2))) q1 (rb_O 3 (fs3.set 5 (.long a3)))) q1 (rb_O 3 (fs4.set 6 (.int (0 : Int32))))) q1 (rb_O 3 (fs5.set 7 (.int a5)))) 80 [some (.ref a0), some (.ref q1), some (.ref q8), some (.long a3), none, some (.int a5), some (.long a3), none, some (.int (0 : Int32)), none, none] []) ∧ (¬ x9 = (-9 : Int32) → rb_Bd κ mX0_goes n (rb_up (rb_up (rb_up (rb_up M q1 (rb_O 3 (fs2.set 4 a2))) q1 (rb_O 3 (fs3.set 5 (.long a3)))) q1 (rb_O 3 (fs4.set 6 (.int (0 : Int32))))) q1 (rb_O 3 (fs5.set 7 (.int a5)))) 80 [some (.ref a0), some (.ref q1), some (.ref q8), some (.long a3), none, some (.int a5), some (.long a3), none, some (.int (1 : Int32)), none, none] []))))) ∧ (x6 < (60 : Int32) → (∃ (v11 : Value), rb_rd (rb_up (rb_up (rb_up (rb_up M q1 (rb_O 3 (fs2.set 4 a2))) q1 (rb_O 3 (fs3.set 5 (.long a3)))) q1 (rb_O 3 (fs4.set 6 (.int (0 : Int32))))) q1 (rb_O 3 (fs5.set 7 (.int a5)))) a0 0 24 (v11) ∧ rb_isR v11 ∧ (∃ (x12 : Int32), rb_rd (rb_up (rb_up (rb_up (rb_up M q1 (rb_O 3 (fs2.set 4 a2))) q1 (rb_O 3 (fs3.set 5 (.long a3)))) q1 (rb_O 3 (fs4.set 6 (.int (0 : Int32))))) q1 (rb_O 3 (fs5.set 7 (.int a5)))) a0 0 26 (.int x12) ∧ (∃ q13, v11 = .ref q13 ∧ (∃ q14, a2 = .ref q14 ∧ (∃ (t15 N16 ci18 : Nat) (f17 : Nat → Option Nat), (rb_up (rb_up (rb_up (rb_up M q1 (rb_O 3 (fs2.set 4 a2))) q1 (rb_O 3 (fs3.set 5 (.long a3)))) q1 (rb_O 3 (fs4.set 6 (.int (0 : Int32))))) q1 (rb_O 3 (fs5.set 7 (.int a5)))).2 q13 = some (rb_R t15 N16 f17) ∧ (3 ≤ t15 ∧ t15 ≤ 6) ∧ vp_in x12 N16 ∧ rb_ob (rb_up (rb_up (rb_up (rb_up M q1 (rb_O 3 (fs2.set 4 a2))) q1 (rb_O 3 (fs3.set 5 (.long a3)))) q1 (rb_O 3 (fs4.set 6 (.int (0 : Int32))))) q1 (rb_O 3 (fs5.set 7 (.int a5)))) q14 ci18 ∧ rb_AS ci18 t15 ∧ (∃ (v19 : Value), rb_rd (rb_up (rb_up (rb_up (rb_up (rb_up M q1 (rb_O 3 (fs2.set 4 a2))) q1 (rb_O 3 (fs3.set 5 (.long a3)))) q1 (rb_O 3 (fs4.set 6 (.int (0 : Int32))))) q1 (rb_O 3 (fs5.set 7 (.int a5)))) q13 (rb_R t15 N16 (va_up f17 (x12).toNatClampNeg (some q14)))) a0 0 25 (v19) ∧ rb_isR v19 ∧ (∃ (x20 : Int32), rb_rd (rb_up (rb_up (rb_up (rb_up (rb_up M q1 (rb_O 3 (fs2.set 4 a2))) q1 (rb_O 3 (fs3.set 5 (.long a3)))) q1 (rb_O 3 (fs4.set 6 (.int (0 : Int32))))) q1 (rb_O 3 (fs5.set 7 (.int a5)))) q13 (rb_R t15 N16 (va_up f17 (x12).toNatClampNeg (some q14)))) a0 0 26 (.int x20) ∧ (∃ q21, v19 = .ref q21 ∧ (∃ (N22 : Nat) (f23 : Nat → Int32), (rb_up (rb_up (rb_up (rb_up (rb_up M q1 (rb_O 3 (fs2.set 4 a2))) q1 (rb_O 3 (fs3.set 5 (.long a3)))) q1 (rb_O 3 (fs4.set 6 (.int (0 : Int32))))) q1 (rb_O 3 (fs5.set 7 (.int a5)))) q13 (rb_R t15 N16 (va_up f17 (x12).toNatClampNeg (some q14)))).2 q21 = some (rb_I N22 f23) ∧ vp_in x20 N22 ∧ (∃ (x24 : Int32), rb_rd (rb_up (rb_up (rb_up (rb_up (rb_up (rb_up M q1 (rb_O 3 (fs2.set 4 a2))) q1 (rb_O 3 (fs3.set 5 (.long a3)))) q1 (rb_O 3 (fs4.set 6 (.int (0 : Int32))))) q1 (rb_O 3 (fs5.set 7 (.int a5)))) q13 (rb_R t15 N16 (va_up f17 (x12).toNatClampNeg (some q14)))) q21 (rb_I N22 (va_up f23 (x20).toNatClampNeg a5))) a0 0 26 (.int x24) ∧ (∃ fs25, (rb_up (rb_up (rb_up (rb_up (rb_up (rb_up M q1 (rb_O 3 (fs2.set 4 a2))) q1 (rb_O 3 (fs3.set 5 (.long a3)))) q1 (rb_O 3 (fs4.set 6 (.int (0 : Int32))))) q1 (rb_O 3 (fs5.set 7 (.int a5)))) q13 (rb_R t15 N16 (va_up f17 (x12).toNatClampNeg (some q14)))) q21 (rb_I N22 (va_up f23 (x20).toNatClampNeg a5))).2 a0 = some (rb_O 0 fs25) ∧ 26 < fs25.length ∧ (∃ (x26 : Int32), rb_rd (rb_up (rb_up (rb_up (rb_up (rb_up (rb_up (rb_up M q1 (rb_O 3 (fs2.set 4 a2))) q1 (rb_O 3 (fs3.set 5 (.long a3)))) q1 (rb_O 3 (fs4.set 6 (.int (0 : Int32))))) q1 (rb_O 3 (fs5.set 7 (.int a5)))) q13 (rb_R t15 N16 (va_up f17 (x12).toNatClampNeg (some q14)))) q21 (rb_I N22 (va_up f23 (x20).toNatClampNeg a5))) a0 (rb_O 0 (fs25.set 26 (.int (x24 + (1 : Int32)))))) q14 6 3 (.int x26) ∧ ((x26 = (-9 : Int32) → rb_Bd κ mX0_goes n (rb_up (rb_up (rb_up (rb_up (rb_up (rb_up (rb_up M q1 (rb_O 3 (fs2.set 4 a2))) q1 (rb_O 3 (fs3.set 5 (.long a3)))) q1 (rb_O 3 (fs4.set 6 (.int (0 : Int32))))) q1 (rb_O 3 (fs5.set 7 (.int a5)))) q13 (rb_R t15 N16 (va_up f17 (x12).toNatClampNeg (some q14)))) q21 (rb_I N22 (va_up f23 (x20).toNatClampNeg a5))) a0 (rb_O 0 (fs25.set 26 (.int (x24 + (1 : Int32)))))) 80 [some (.ref a0), some (.ref q1), some (.ref q14), some (.long a3), none, some (.int a5), some (.long a3), none, some (.int (0 : Int32)), none, none] []) ∧ (¬ x26 = (-9 : Int32) → rb_Bd κ mX0_goes n (rb_up (rb_up (rb_up (rb_up (rb_up (rb_up (rb_up M q1 (rb_O 3 (fs2.set 4 a2))) q1 (rb_O 3 (fs3.set 5 (.long a3)))) q1 (rb_O 3 (fs4.set 6 (.int (0 : Int32))))) q1 (rb_O 3 (fs5.set 7 (.int a5)))) q13 (rb_R t15 N16 (va_up f17 (x12).toNatClampNeg (some q14)))) q21 (rb_I N22 (va_up f23 (x20).toNatClampNeg a5))) a0 (rb_O 0 (fs25.set 26 (.int (x24 + (1 : Int32)))))) 80 [some (.ref a0), some (.ref q1), some (.ref q14), some (.long a3), none, some (.int a5), some (.long a3), none, some (.int (1 : Int32)), none, none] []))))))))))))))))))))))) : rb_Bd κ mX0_goes n M 0 [some (.ref a0), some a1, some a2, some (.long a3), none, some (.int a5), none, none, none, none, none] [] := by
  refine rb_aload_n 1 rfl rfl ha1 dX0_goes_0 ?_
  refine rb_aload_n 2 rfl rfl ha2 dX0_goes_1 ?_
  obtain ⟨q1, eq1, Kq1⟩ := K
  subst eq1
  obtain ⟨fs2, hMfs2, hlfs2, Kfs2⟩ := Kq1
  refine rb_put fl_X0_17_3 (fun q hq => by cases hq; exact Or.inl rfl) (rb_nfR ha2 _).1 (rb_nfR ha2 _).2 hMfs2 hlfs2 dX0_goes_2 ?_
  refine rb_aload_n 1 rfl rfl (rb_isR_ref _) dX0_goes_5 ?_
  refine rb_lload_n 3 rfl rfl dX0_goes_6 ?_
  obtain ⟨fs3, hMfs3, hlfs3, Kfs3⟩ := Kfs2
  refine rb_put fl_X0_410_3 (fun q hq => by cases hq; exact Or.inl rfl) rfl rfl hMfs3 hlfs3 dX0_goes_7 ?_
  refine rb_aload_n 1 rfl rfl (rb_isR_ref _) dX0_goes_10 ?_
  refine rb_iconst (v := (0 : Int32)) (by decide) dX0_goes_11 ?_
  obtain ⟨fs4, hMfs4, hlfs4, Kfs4⟩ := Kfs3
  refine rb_put fl_X0_30_3 (fun q hq => by cases hq; exact Or.inl rfl) rfl rfl hMfs4 hlfs4 dX0_goes_12 ?_
  refine rb_aload_n 1 rfl rfl (rb_isR_ref _) dX0_goes_15 ?_
  refine rb_iload rfl dX0_goes_16 ?_
  obtain ⟨fs5, hMfs5, hlfs5, Kfs5⟩ := Kfs4
  refine rb_put fl_X0_413_3 (fun q hq => by cases hq; exact Or.inl rfl) rfl rfl hMfs5 hlfs5 dX0_goes_18 ?_
  refine rb_aload_n 0 rfl rfl (rb_isR_ref _) dX0_goes_21 ?_
  obtain ⟨x6, hrx6, Kx6⟩ := Kfs5
  refine rc_get fl_X0_367_0 hrx6 dX0_goes_22 ?_
  refine rb_bipush (v := (60 : Int32)) (by decide) dX0_goes_25 ?_
  refine rb_icge 61 (by decide) dX0_goes_27 (fun c7 => ?_) (fun c7 => ?_)
  · skip
    refine rb_lload_n 3 rfl rfl dX0_goes_61 ?_
    refine rb_lstore (ls' := [some (.ref a0), some (.ref q1), some a2, some (.long a3), none, some (.int a5), some (.long a3), none, none, none, none]) (by decide) rfl rfl dX0_goes_62 ?_
    refine rb_aload_n 2 rfl rfl ha2 dX0_goes_64 ?_
    obtain ⟨q8, eq8, Kq8⟩ := ((Kx6).1 c7)
    subst eq8
    obtain ⟨x9, hrx9, Kx9⟩ := Kq8
    refine rc_get fl_X0_416_6 hrx9 dX0_goes_65 ?_
    refine rb_bipush (v := (-9 : Int32)) (by decide) dX0_goes_68 ?_
    refine rb_iceq 77 (by decide) dX0_goes_70 (fun c10 => ?_) (fun c10 => ?_)
    · skip
      refine rb_iconst (v := (0 : Int32)) (by decide) dX0_goes_77 ?_
      refine rb_istore (ls' := [some (.ref a0), some (.ref q1), some (.ref q8), some (.long a3), none, some (.int a5), some (.long a3), none, some (.int (0 : Int32)), none, none]) (by decide) rfl rfl dX0_goes_78 ?_
      exact ((Kx9).1 c10)
    · skip
      refine rb_iconst (v := (1 : Int32)) (by decide) dX0_goes_73 ?_
      refine rb_goto 78 (by decide) dX0_goes_74 ?_
      refine rb_istore (ls' := [some (.ref a0), some (.ref q1), some (.ref q8), some (.long a3), none, some (.int a5), some (.long a3), none, some (.int (1 : Int32)), none, none]) (by decide) rfl rfl dX0_goes_78 ?_
      exact ((Kx9).2 c10)
  · skip
    refine rb_aload_n 0 rfl rfl (rb_isR_ref _) dX0_goes_30 ?_
    obtain ⟨v11, hrv11, hv11, Kv11⟩ := ((Kx6).2 c7)
    refine rc_get fl_X0_181_0 hrv11 dX0_goes_31 ?_
    refine rb_aload_n 0 rfl rfl (rb_isR_ref _) dX0_goes_34 ?_
    obtain ⟨x12, hrx12, Kx12⟩ := Kv11
    refine rc_get fl_X0_367_0 hrx12 dX0_goes_35 ?_
    refine rb_aload_n 2 rfl rfl ha2 dX0_goes_38 ?_
    obtain ⟨q13, eq13, Kq13⟩ := Kx12
    subst eq13
    obtain ⟨q14, eq14, Kq14⟩ := Kq13
    subst eq14
    obtain ⟨t15, N16, ci18, f17, hMf17, htf17, hif17, ⟨fsf17, hof17⟩, haf17, Kf17⟩ := Kq14
    refine rb_aast hMf17 htf17.1 htf17.2 hof17 haf17 hif17 dX0_goes_39 ?_
    refine rb_aload_n 0 rfl rfl (rb_isR_ref _) dX0_goes_40 ?_
    obtain ⟨v19, hrv19, hv19, Kv19⟩ := Kf17
    refine rc_get fl_X0_185_0 hrv19 dX0_goes_41 ?_
    refine rb_aload_n 0 rfl rfl (rb_isR_ref _) dX0_goes_44 ?_
    obtain ⟨x20, hrx20, Kx20⟩ := Kv19
    refine rc_get fl_X0_367_0 hrx20 dX0_goes_45 ?_
    refine rb_iload rfl dX0_goes_48 ?_
    obtain ⟨q21, eq21, Kq21⟩ := Kx20
    subst eq21
    obtain ⟨N22, f23, hMf23, hif23, Kf23⟩ := Kq21
    refine rb_iast hMf23 hif23 dX0_goes_50 ?_
    refine rb_aload_n 0 rfl rfl (rb_isR_ref _) dX0_goes_51 ?_
    refine rb_dup rfl dX0_goes_52 ?_
    obtain ⟨x24, hrx24, Kx24⟩ := Kf23
    refine rc_get fl_X0_367_0 hrx24 dX0_goes_53 ?_
    refine rb_iconst (v := (1 : Int32)) (by decide) dX0_goes_56 ?_
    refine rb_iadd (z := (x24 + (1 : Int32))) rfl dX0_goes_57 ?_
    obtain ⟨fs25, hMfs25, hlfs25, Kfs25⟩ := Kx24
    refine rb_put fl_X0_367_0 (fun q hq => by cases hq; exact Or.inl rfl) rfl rfl hMfs25 hlfs25 dX0_goes_58 ?_
    refine rb_lload_n 3 rfl rfl dX0_goes_61 ?_
    refine rb_lstore (ls' := [some (.ref a0), some (.ref q1), some (.ref q14), some (.long a3), none, some (.int a5), some (.long a3), none, none, none, none]) (by decide) rfl rfl dX0_goes_62 ?_
    refine rb_aload_n 2 rfl rfl (rb_isR_ref _) dX0_goes_64 ?_
    obtain ⟨x26, hrx26, Kx26⟩ := Kfs25
    refine rc_get fl_X0_416_6 hrx26 dX0_goes_65 ?_
    refine rb_bipush (v := (-9 : Int32)) (by decide) dX0_goes_68 ?_
    refine rb_iceq 77 (by decide) dX0_goes_70 (fun c27 => ?_) (fun c27 => ?_)
    · skip
      refine rb_iconst (v := (0 : Int32)) (by decide) dX0_goes_77 ?_
      refine rb_istore (ls' := [some (.ref a0), some (.ref q1), some (.ref q14), some (.long a3), none, some (.int a5), some (.long a3), none, some (.int (0 : Int32)), none, none]) (by decide) rfl rfl dX0_goes_78 ?_
      exact ((Kx26).1 c27)
    · skip
      refine rb_iconst (v := (1 : Int32)) (by decide) dX0_goes_73 ?_
      refine rb_goto 78 (by decide) dX0_goes_74 ?_
      refine rb_istore (ls' := [some (.ref a0), some (.ref q1), some (.ref q14), some (.long a3), none, some (.int a5), some (.long a3), none, some (.int (1 : Int32)), none, none]) (by decide) rfl rfl dX0_goes_78 ?_
      exact ((Kx26).2 c27)
theorem sgX0_goes_80 {κ : rb_K} {n : Nat × Nat} {M : rb_H} {a0 : Nat} {a1 : Value} {a2 : Value} {a3 : Int64} {a5 : Int32} {a6 : Int64} {a8 : Int32} (ha1 : rb_isR a1) (ha2 : rb_isR a2) (K : (∃ q1, a1 = .ref q1 ∧ (∃ (x2 : Int32), rb_rd M q1 3 6 (.int x2) ∧ (∃ q3, a2 = .ref q3 ∧ (∃ (v4 : Value), rb_rd M q3 6 4 (v4) ∧ rb_isR v4 ∧ (∃ q5, v4 = .ref q5 ∧ (∃ (d6 : Nat) (n7 : Nat × Nat) (Q8 : Outcome → rb_H → Prop), rb_Ct κ.1 yJ4_size wJ4_size d6 n7 [.ref q5] M Q8 ∧ rb_dp κ d6 ∧ rb_rom κ (n.1 + n7.1, n.2 + n7.2) ∧ rb_ob M q5 7 ∧ ∀ (o : Outcome) (M10 : rb_H), Q8 o M10 → (∃ (x9 : Int32), o = .returned (some (.int x9)) ∧ ((x9 ≤ x2 → (rb_fin κ (n.1 + n7.1, n.2 + n7.2) ∧ κ.2.2.1 (.returned (some (.long a6))) M10)) ∧ (x2 < x9 → (∃ (x12 : Int32), rb_rd M10 a0 0 23 (.int x12) ∧ ((¬ x12 = (1500 : Int32) → (∃ (x14 : Int32), rb_rd M10 a0 0 23 (.int x14) ∧ (∃ fs15, M10.2 a0 = some (rb_O 0 fs15) ∧ 23 < fs15.length ∧ (∃ (v16 : Value), rb_rd (rb_up M10 a0 (rb_O 0 (fs15.set 23 (.int (x14 + (1 : Int32)))))) q3 6 4 (v16) ∧ rb_isR v16 ∧ (∃ (x17 : Int32), rb_rd (rb_up M10 a0 (rb_O 0 (fs15.set 23 (.int (x14 + (1 : Int32)))))) q1 3 6 (.int x17) ∧ (∃ q18, v16 = .ref q18 ∧ (∃ (d19 : Nat) (n20 : Nat × Nat) (Q21 : Outcome → rb_H → Prop), rb_Ct κ.1 yJ4_get wJ4_get d19 n20 [.ref q18, .int x17] (rb_up M10 a0 (rb_O 0 (fs15.set 23 (.int (x14 + (1 : Int32)))))) Q21 ∧ rb_dp κ d19 ∧ rb_rom κ (n.1 + n7.1 + n20.1, n.2 + n7.2 + n20.2) ∧ rb_ob (rb_up M10 a0 (rb_O 0 (fs15.set 23 (.int (x14 + (1 : Int32)))))) q18 7 ∧ ∀ (o : Outcome) (M23 : rb_H), Q21 o M23 → (∃ (v22 : Value), o = .returned (some v22) ∧ rb_isR v22 ∧ (∃ q24, v22 = .ref q24 ∧ (∃ ci25, rb_ob M23 q24 ci25 ∧ rb_CC ci25 "RoleLoom$Act" ∧ (∃ (x26 : Int32), rb_rd M23 q1 3 6 (.int x26) ∧ (∃ fs27, M23.2 q1 = some (rb_O 3 fs27) ∧ 6 < fs27.length ∧ (∃ (ci33 : Nat) (y34 : MethodName) (w35 : Cond) (d28 : Nat) (n29 : Nat × Nat) (Q30 : Outcome → rb_H → Prop), rb_Go "RoleLoom" (.invokevirtual 421) 3 y34 w35 (some ci33) 3 ∧ rb_Ct κ.1 y34 w35 d28 n29 [.ref q24, .ref q1, .long a6] (rb_up M23 q1 (rb_O 3 (fs27.set 6 (.int (x26 + (1 : Int32)))))) Q30 ∧ rb_dp κ d28 ∧ rb_rom κ (n.1 + n7.1 + n20.1 + n29.1, n.2 + n7.2 + n20.2 + n29.2) ∧ rb_ob (rb_up M23 q1 (rb_O 3 (fs27.set 6 (.int (x26 + (1 : Int32)))))) q24 ci33 ∧ ∀ (o : Outcome) (M32 : rb_H), Q30 o M32 → ((∃ (x31 : Int64), o = .returned (some (.long x31)) ∧ rb_Bd κ mX0_goes (n.1 + n7.1 + n20.1 + n29.1, n.2 + n7.2 + n20.2 + n29.2) M32 80 [some (.ref a0), some (.ref q1), some (.ref q3), some (.long a3), none, some (.int a5), some (.long x31), none, some (.int a8), some (.ref q24), none] []) ∨ (∃ x31t, o = .threw x31t ∧ rb_Th κ mX0_goes (n.1 + n7.1 + n20.1 + n29.1, n.2 + n7.2 + n20.2 + n29.2) M32 151 [some (.ref a0), some (.ref q1), some (.ref q3), some (.long a3), none, some (.int a5), some (.long a6), none, some (.int a8), some (.ref q24), none] x31t))))))))))))))) ∧ (x12 = (1500 : Int32) → (∃ (d36 : Nat) (n37 : Nat × Nat) (Q38 : Outcome → rb_H → Prop), rb_Ct κ.1 yX0_stops wX0_stops d36 n37 [.ref a0, .int (3 : Int32)] M10 Q38 ∧ rb_dp κ d36 ∧ rb_rom κ (n.1 + n7.1 + n37.1, n.2 + n7.2 + n37.2) ∧ rb_ob M10 a0 0 ∧ ∀ (o : Outcome) (M40 : rb_H), Q38 o M40 → (∃ (v39 : Value), o = .returned (some v39) ∧ rb_isR v39 ∧ (∃ q41, v39 = .ref q41 ∧ (rb_fin κ (n.1 + n7.1 + n37.1, n.2 + n7.2 + n37.2) ∧ κ.2.2.1 (.threw q41) M40))))))))))))))))) : rb_Bd κ mX0_goes n M 80 [some (.ref a0), some a1, some a2, some (.long a3), none, some (.int a5), some (.long a6), none, some (.int a8), none, none] [] := by
  refine rb_aload_n 1 rfl rfl ha1 dX0_goes_80 ?_
  obtain ⟨q1, eq1, Kq1⟩ := K
  subst eq1
  obtain ⟨x2, hrx2, Kx2⟩ := Kq1
  refine rc_get fl_X0_30_3 hrx2 dX0_goes_81 ?_
  refine rb_aload_n 2 rfl rfl ha2 dX0_goes_84 ?_
  obtain ⟨q3, eq3, Kq3⟩ := Kx2
  subst eq3
  obtain ⟨v4, hrv4, hv4, Kv4⟩ := Kq3
  refine rc_get fl_X0_260_6 hrv4 dX0_goes_85 ?_
  obtain ⟨q5, eq5, Kq5⟩ := Kv4
  subst eq5
  obtain ⟨d6, n7, Q8, h1x9, hdx9, hnx9, hox9, Kx9⟩ := Kq5
  refine rb_call st_X0_201_7 (rest := [.int x2]) h1x9 rfl rfl (rc_rc rfl hox9) (Nat.le_of_ble_eq_true rfl) hdx9.1 hdx9.2 hnx9.1 hnx9.2 dX0_goes_88 (fun o M10 hpx9 => ?_)
  obtain ⟨x9, eo, KKx9⟩ := Kx9 o M10 hpx9
  subst eo
  show rb_Bd κ mX0_goes (n.1 + n7.1, n.2 + n7.2) M10 91 [some (.ref a0), some (.ref q1), some (.ref q3), some (.long a3), none, some (.int a5), some (.long a6), none, some (.int a8), none, none] [.int x9, .int x2]
  refine rb_icge 194 (by decide) dX0_goes_91 (fun c11 => ?_) (fun c11 => ?_)
  · skip
    refine rb_lload rfl dX0_goes_194 ?_
    exact rb_lret rfl (((KKx9).1 c11)).1.1 (((KKx9).1 c11)).1.2 dX0_goes_196 (((KKx9).1 c11)).2
  · skip
    refine rb_aload_n 0 rfl rfl (rb_isR_ref _) dX0_goes_94 ?_
    obtain ⟨x12, hrx12, Kx12⟩ := ((KKx9).2 c11)
    refine rc_get fl_X0_364_0 hrx12 dX0_goes_95 ?_
    refine rb_sipush (v := (1500 : Int32)) (by decide) dX0_goes_98 ?_
    refine rb_icne 110 (by decide) dX0_goes_101 (fun c13 => ?_) (fun c13 => ?_)
    · skip
      refine rb_aload_n 0 rfl rfl (rb_isR_ref _) dX0_goes_110 ?_
      refine rb_dup rfl dX0_goes_111 ?_
      obtain ⟨x14, hrx14, Kx14⟩ := ((Kx12).1 c13)
      refine rc_get fl_X0_364_0 hrx14 dX0_goes_112 ?_
      refine rb_iconst (v := (1 : Int32)) (by decide) dX0_goes_115 ?_
      refine rb_iadd (z := (x14 + (1 : Int32))) rfl dX0_goes_116 ?_
      obtain ⟨fs15, hMfs15, hlfs15, Kfs15⟩ := Kx14
      refine rb_put fl_X0_364_0 (fun q hq => by cases hq; exact Or.inl rfl) rfl rfl hMfs15 hlfs15 dX0_goes_117 ?_
      refine rb_aload_n 2 rfl rfl (rb_isR_ref _) dX0_goes_120 ?_
      obtain ⟨v16, hrv16, hv16, Kv16⟩ := Kfs15
      refine rc_get fl_X0_260_6 hrv16 dX0_goes_121 ?_
      refine rb_aload_n 1 rfl rfl (rb_isR_ref _) dX0_goes_124 ?_
      obtain ⟨x17, hrx17, Kx17⟩ := Kv16
      refine rc_get fl_X0_30_3 hrx17 dX0_goes_125 ?_
      obtain ⟨q18, eq18, Kq18⟩ := Kx17
      subst eq18
      obtain ⟨d19, n20, Q21, h1v22, hdv22, hnv22, hov22, Kv22⟩ := Kq18
      refine rb_call st_X0_218_7 (rest := []) h1v22 rfl rfl (rc_rc rfl hov22) (Nat.le_of_ble_eq_true rfl) hdv22.1 hdv22.2 hnv22.1 hnv22.2 dX0_goes_128 (fun o M23 hpv22 => ?_)
      obtain ⟨v22, eo, hv22, KKv22⟩ := Kv22 o M23 hpv22
      subst eo
      show rb_Bd κ mX0_goes (n.1 + n7.1 + n20.1, n.2 + n7.2 + n20.2) M23 131 [some (.ref a0), some (.ref q1), some (.ref q3), some (.long a3), none, some (.int a5), some (.long a6), none, some (.int a8), none, none] [v22]
      obtain ⟨q24, eq24, Kq24⟩ := KKv22
      subst eq24
      obtain ⟨ci25, ⟨fsci25, hoci25⟩, hcci25, Kci25⟩ := Kq24
      refine rb_cast q1288 hoci25 hcci25 dX0_goes_131 ?_
      refine rb_astore (ls' := [some (.ref a0), some (.ref q1), some (.ref q3), some (.long a3), none, some (.int a5), some (.long a6), none, some (.int a8), some (.ref q24), none]) (by decide) rfl rfl (rb_isR_ref _) dX0_goes_134 ?_
      refine rb_aload_n 1 rfl rfl (rb_isR_ref _) dX0_goes_136 ?_
      refine rb_dup rfl dX0_goes_137 ?_
      obtain ⟨x26, hrx26, Kx26⟩ := Kci25
      refine rc_get fl_X0_30_3 hrx26 dX0_goes_138 ?_
      refine rb_iconst (v := (1 : Int32)) (by decide) dX0_goes_141 ?_
      refine rb_iadd (z := (x26 + (1 : Int32))) rfl dX0_goes_142 ?_
      obtain ⟨fs27, hMfs27, hlfs27, Kfs27⟩ := Kx26
      refine rb_put fl_X0_30_3 (fun q hq => by cases hq; exact Or.inl rfl) rfl rfl hMfs27 hlfs27 dX0_goes_143 ?_
      refine rb_aload rfl (rb_isR_ref _) dX0_goes_146 ?_
      refine rb_aload_n 1 rfl rfl (rb_isR_ref _) dX0_goes_148 ?_
      refine rb_lload rfl dX0_goes_149 ?_
      obtain ⟨ci33, y34, w35, d28, n29, Q30, hgx31, h1x31, hdx31, hnx31, hox31, Kx31⟩ := Kfs27
      refine rb_call hgx31 (rest := []) h1x31 rfl rfl (rc_rc rfl hox31) (Nat.le_of_ble_eq_true rfl) hdx31.1 hdx31.2 hnx31.1 hnx31.2 dX0_goes_151 (fun o M32 hpx31 => ?_)
      rcases Kx31 o M32 hpx31 with ⟨x31, eo, KKx31⟩ | ⟨x31t, eo, KKx31⟩
      · subst eo
        show rb_Bd κ mX0_goes (n.1 + n7.1 + n20.1 + n29.1, n.2 + n7.2 + n20.2 + n29.2) M32 154 [some (.ref a0), some (.ref q1), some (.ref q3), some (.long a3), none, some (.int a5), some (.long a6), none, some (.int a8), some (.ref q24), none] [.long x31]
        refine rb_lstore (ls' := [some (.ref a0), some (.ref q1), some (.ref q3), some (.long a3), none, some (.int a5), some (.long x31), none, some (.int a8), some (.ref q24), none]) (by decide) rfl rfl dX0_goes_154 ?_
        refine rb_goto 191 (by decide) dX0_goes_156 ?_
        refine rb_goto 80 (by decide) dX0_goes_191 ?_
        exact KKx31
      · subst eo
        exact KKx31
    · skip
      refine rb_aload_n 0 rfl rfl (rb_isR_ref _) dX0_goes_104 ?_
      refine rb_iconst (v := (3 : Int32)) (by decide) dX0_goes_105 ?_
      obtain ⟨d36, n37, Q38, h1v39, hdv39, hnv39, hov39, Kv39⟩ := ((Kx12).2 c13)
      refine rb_call st_X0_373_0 (rest := []) h1v39 rfl rfl (rc_rc rfl hov39) (Nat.le_of_ble_eq_true rfl) hdv39.1 hdv39.2 hnv39.1 hnv39.2 dX0_goes_106 (fun o M40 hpv39 => ?_)
      obtain ⟨v39, eo, hv39, KKv39⟩ := Kv39 o M40 hpv39
      subst eo
      show rb_Bd κ mX0_goes (n.1 + n7.1 + n37.1, n.2 + n7.2 + n37.2) M40 109 [some (.ref a0), some (.ref q1), some (.ref q3), some (.long a3), none, some (.int a5), some (.long a6), none, some (.int a8), none, none] [v39]
      obtain ⟨q41, eq41, Kq41⟩ := KKv39
      subst eq41
      exact rb_athrow (by decide) (Kq41).1.1 (Kq41).1.2 dX0_goes_109 (Kq41).2
theorem sgX0_goes_159 {κ : rb_K} {n : Nat × Nat} {M : rb_H} {a0 : Nat} {a1 : Value} {a2 : Value} {a3 : Int64} {a5 : Int32} {a6 : Int64} {a8 : Int32} {a9 : Value} {s0 : Value} (ha1 : rb_isR a1) (ha2 : rb_isR a2) (ha9 : rb_isR a9) (hs0 : rb_isR s0) (K : ((a8 = 0 → (∃ q2, s0 = .ref q2 ∧ (rb_fin κ n ∧ κ.2.2.1 (.threw q2) M))) ∧ (¬ a8 = 0 → (∃ q3, s0 = .ref q3 ∧ (∃ (x4 : Int32), rb_rd M q3 1 6 (.int x4) ∧ (∃ q5, a2 = .ref q5 ∧ (∃ (x6 : Int32), rb_rd M q5 6 3 (.int x6) ∧ ((x4 = x6 → (∃ (x8 : Int64), rb_rd M q3 1 7 (.long x8) ∧ rb_Bd κ mX0_goes n M 80 [some (.ref a0), some a1, some (.ref q5), some (.long a3), none, some (.int a5), some (.long x8), none, some (.int (0 : Int32)), some a9, some (.ref q3)] [])) ∧ (¬ x4 = x6 → (rb_fin κ n ∧ κ.2.2.1 (.threw q3) M)))))))))) : rb_Bd κ mX0_goes n M 159 [some (.ref a0), some a1, some a2, some (.long a3), none, some (.int a5), some (.long a6), none, some (.int a8), some a9, none] [s0] := by
  refine rb_astore (ls' := [some (.ref a0), some a1, some a2, some (.long a3), none, some (.int a5), some (.long a6), none, some (.int a8), some a9, some s0]) (by decide) (by simp [rb_o1, rb_isR_cat ha9]) rfl hs0 dX0_goes_159 ?_
  refine rb_iload rfl dX0_goes_161 ?_
  refine rb_ifeq 178 (by decide) dX0_goes_163 (fun c1 => ?_) (fun c1 => ?_)
  · skip
    refine rb_aload rfl hs0 dX0_goes_178 ?_
    obtain ⟨q2, eq2, Kq2⟩ := ((K).1 c1)
    subst eq2
    exact rb_athrow (by decide) (Kq2).1.1 (Kq2).1.2 dX0_goes_180 (Kq2).2
  · skip
    refine rb_aload rfl hs0 dX0_goes_166 ?_
    obtain ⟨q3, eq3, Kq3⟩ := ((K).2 c1)
    subst eq3
    obtain ⟨x4, hrx4, Kx4⟩ := Kq3
    refine rc_get fl_X0_7_1 hrx4 dX0_goes_168 ?_
    refine rb_aload_n 2 rfl rfl ha2 dX0_goes_171 ?_
    obtain ⟨q5, eq5, Kq5⟩ := Kx4
    subst eq5
    obtain ⟨x6, hrx6, Kx6⟩ := Kq5
    refine rc_get fl_X0_416_6 hrx6 dX0_goes_172 ?_
    refine rb_iceq 181 (by decide) dX0_goes_175 (fun c7 => ?_) (fun c7 => ?_)
    · skip
      refine rb_iconst (v := (0 : Int32)) (by decide) dX0_goes_181 ?_
      refine rb_istore (ls' := [some (.ref a0), some a1, some (.ref q5), some (.long a3), none, some (.int a5), some (.long a6), none, some (.int (0 : Int32)), some a9, some (.ref q3)]) (by decide) rfl rfl dX0_goes_182 ?_
      refine rb_aload rfl (rb_isR_ref _) dX0_goes_184 ?_
      obtain ⟨x8, hrx8, Kx8⟩ := ((Kx6).1 c7)
      refine rc_get fl_X0_13_1 hrx8 dX0_goes_186 ?_
      refine rb_lstore (ls' := [some (.ref a0), some a1, some (.ref q5), some (.long a3), none, some (.int a5), some (.long x8), none, some (.int (0 : Int32)), some a9, some (.ref q3)]) (by decide) rfl rfl dX0_goes_189 ?_
      refine rb_goto 80 (by decide) dX0_goes_191 ?_
      exact Kx8
    · skip
      refine rb_aload rfl (rb_isR_ref _) dX0_goes_178 ?_
      exact rb_athrow (by decide) (((Kx6).2 c7)).1.1 (((Kx6).2 c7)).1.2 dX0_goes_180 (((Kx6).2 c7)).2
theorem sgX0_stops_0 {κ : rb_K} {n : Nat × Nat} {M : rb_H} {a0 : Nat} {a1 : Int32} (K : (∃ (v1 : Value), rb_rd M a0 0 1 (v1) ∧ rb_isR v1 ∧ (∃ q2, v1 = .ref q2 ∧ (∃ fs3, M.2 q2 = some (rb_O 2 fs3) ∧ 6 < fs3.length ∧ (∃ (v4 : Value), rb_rd (rb_up M q2 (rb_O 2 (fs3.set 6 (.int a1)))) a0 0 1 (v4) ∧ rb_isR v4 ∧ (rb_fin κ n ∧ κ.2.2.1 (.returned (some v4)) (rb_up M q2 (rb_O 2 (fs3.set 6 (.int a1)))))))))) : rb_Bd κ mX0_stops n M 0 [some (.ref a0), some (.int a1)] [] := by
  refine rb_aload_n 0 rfl rfl (rb_isR_ref _) dX0_stops_0 ?_
  obtain ⟨v1, hrv1, hv1, Kv1⟩ := K
  refine rc_get fl_X0_36_0 hrv1 dX0_stops_1 ?_
  refine rb_iload_n 1 rfl rfl dX0_stops_4 ?_
  obtain ⟨q2, eq2, Kq2⟩ := Kv1
  subst eq2
  obtain ⟨fs3, hMfs3, hlfs3, Kfs3⟩ := Kq2
  refine rb_put fl_X0_40_2 (fun q hq => by cases hq; exact Or.inl rfl) rfl rfl hMfs3 hlfs3 dX0_stops_5 ?_
  refine rb_aload_n 0 rfl rfl (rb_isR_ref _) dX0_stops_8 ?_
  obtain ⟨v4, hrv4, hv4, Kv4⟩ := Kfs3
  refine rc_get fl_X0_36_0 hrv4 dX0_stops_9 ?_
  exact rb_aret rfl (Or.inl ⟨_, rfl⟩) hv4 (Kv4).1.1 (Kv4).1.2 dX0_stops_12 (Kv4).2
theorem sgX0_thrown_0 {κ : rb_K} {n : Nat × Nat} {M : rb_H} {a0 : Nat} {a1 : Value} {a2 : Int32} {a3 : Int64} (ha1 : rb_isR a1) (K : (∃ (v1 : Value), rb_rd M a0 0 0 (v1) ∧ rb_isR v1 ∧ (∃ q2, v1 = .ref q2 ∧ (∃ fs3, M.2 q2 = some (rb_O 1 fs3) ∧ 6 < fs3.length ∧ (∃ (v4 : Value), rb_rd (rb_up M q2 (rb_O 1 (fs3.set 6 (.int a2)))) a0 0 0 (v4) ∧ rb_isR v4 ∧ (∃ q5, v4 = .ref q5 ∧ (∃ fs6, (rb_up M q2 (rb_O 1 (fs3.set 6 (.int a2)))).2 q5 = some (rb_O 1 fs6) ∧ 7 < fs6.length ∧ (∃ (v7 : Value), rb_rd (rb_up (rb_up M q2 (rb_O 1 (fs3.set 6 (.int a2)))) q5 (rb_O 1 (fs6.set 7 (.long a3)))) a0 0 0 (v7) ∧ rb_isR v7 ∧ (∃ q8, a1 = .ref q8 ∧ (∃ (v9 : Value), rb_rd (rb_up (rb_up M q2 (rb_O 1 (fs3.set 6 (.int a2)))) q5 (rb_O 1 (fs6.set 7 (.long a3)))) q8 3 4 (v9) ∧ rb_isR v9 ∧ (∃ q10, v9 = .ref q10 ∧ (∃ (v11 : Value), rb_rd (rb_up (rb_up M q2 (rb_O 1 (fs3.set 6 (.int a2)))) q5 (rb_O 1 (fs6.set 7 (.long a3)))) q10 6 0 (v11) ∧ rb_isR v11 ∧ (∃ q12, v7 = .ref q12 ∧ (∃ fs13, (rb_up (rb_up M q2 (rb_O 1 (fs3.set 6 (.int a2)))) q5 (rb_O 1 (fs6.set 7 (.long a3)))).2 q12 = some (rb_O 1 fs13) ∧ 8 < fs13.length ∧ (∃ (v14 : Value), rb_rd (rb_up (rb_up (rb_up M q2 (rb_O 1 (fs3.set 6 (.int a2)))) q5 (rb_O 1 (fs6.set 7 (.long a3)))) q12 (rb_O 1 (fs13.set 8 v11))) a0 0 0 (v14) ∧ rb_isR v14 ∧ (∃ (x15 : Int32), rb_rd (rb_up (rb_up (rb_up M q2 (rb_O 1 (fs3.set 6 (.int a2)))) q5 (rb_O 1 (fs6.set 7 (.long a3)))) q12 (rb_O 1 (fs13.set 8 v11))) q8 3 6 (.int x15) ∧ (∃ q16, v14 = .ref q16 ∧ (∃ fs17, (rb_up (rb_up (rb_up M q2 (rb_O 1 (fs3.set 6 (.int a2)))) q5 (rb_O 1 (fs6.set 7 (.long a3)))) q12 (rb_O 1 (fs13.set 8 v11))).2 q16 = some (rb_O 1 fs17) ∧ 9 < fs17.length ∧ (∃ (v18 : Value), rb_rd (rb_up (rb_up (rb_up (rb_up M q2 (rb_O 1 (fs3.set 6 (.int a2)))) q5 (rb_O 1 (fs6.set 7 (.long a3)))) q12 (rb_O 1 (fs13.set 8 v11))) q16 (rb_O 1 (fs17.set 9 (.int (x15 - (1 : Int32)))))) a0 0 0 (v18) ∧ rb_isR v18 ∧ (rb_fin κ n ∧ κ.2.2.1 (.returned (some v18)) (rb_up (rb_up (rb_up (rb_up M q2 (rb_O 1 (fs3.set 6 (.int a2)))) q5 (rb_O 1 (fs6.set 7 (.long a3)))) q12 (rb_O 1 (fs13.set 8 v11))) q16 (rb_O 1 (fs17.set 9 (.int (x15 - (1 : Int32)))))))))))))))))))))))))) : rb_Bd κ mX0_thrown n M 0 [some (.ref a0), some a1, some (.int a2), some (.long a3), none] [] := by
  refine rb_aload_n 0 rfl rfl (rb_isR_ref _) dX0_thrown_0 ?_
  obtain ⟨v1, hrv1, hv1, Kv1⟩ := K
  refine rc_get fl_X0_1_0 hrv1 dX0_thrown_1 ?_
  refine rb_iload_n 2 rfl rfl dX0_thrown_4 ?_
  obtain ⟨q2, eq2, Kq2⟩ := Kv1
  subst eq2
  obtain ⟨fs3, hMfs3, hlfs3, Kfs3⟩ := Kq2
  refine rb_put fl_X0_7_1 (fun q hq => by cases hq; exact Or.inl rfl) rfl rfl hMfs3 hlfs3 dX0_thrown_5 ?_
  refine rb_aload_n 0 rfl rfl (rb_isR_ref _) dX0_thrown_8 ?_
  obtain ⟨v4, hrv4, hv4, Kv4⟩ := Kfs3
  refine rc_get fl_X0_1_0 hrv4 dX0_thrown_9 ?_
  refine rb_lload_n 3 rfl rfl dX0_thrown_12 ?_
  obtain ⟨q5, eq5, Kq5⟩ := Kv4
  subst eq5
  obtain ⟨fs6, hMfs6, hlfs6, Kfs6⟩ := Kq5
  refine rb_put fl_X0_13_1 (fun q hq => by cases hq; exact Or.inl rfl) rfl rfl hMfs6 hlfs6 dX0_thrown_13 ?_
  refine rb_aload_n 0 rfl rfl (rb_isR_ref _) dX0_thrown_16 ?_
  obtain ⟨v7, hrv7, hv7, Kv7⟩ := Kfs6
  refine rc_get fl_X0_1_0 hrv7 dX0_thrown_17 ?_
  refine rb_aload_n 1 rfl rfl ha1 dX0_thrown_20 ?_
  obtain ⟨q8, eq8, Kq8⟩ := Kv7
  subst eq8
  obtain ⟨v9, hrv9, hv9, Kv9⟩ := Kq8
  refine rc_get fl_X0_17_3 hrv9 dX0_thrown_21 ?_
  obtain ⟨q10, eq10, Kq10⟩ := Kv9
  subst eq10
  obtain ⟨v11, hrv11, hv11, Kv11⟩ := Kq10
  refine rc_get fl_X0_23_6 hrv11 dX0_thrown_24 ?_
  obtain ⟨q12, eq12, Kq12⟩ := Kv11
  subst eq12
  obtain ⟨fs13, hMfs13, hlfs13, Kfs13⟩ := Kq12
  refine rb_put fl_X0_29_1 (fun q hq => by cases hq; exact Or.inl rfl) (rb_nfR hv11 _).1 (rb_nfR hv11 _).2 hMfs13 hlfs13 dX0_thrown_27 ?_
  refine rb_aload_n 0 rfl rfl (rb_isR_ref _) dX0_thrown_30 ?_
  obtain ⟨v14, hrv14, hv14, Kv14⟩ := Kfs13
  refine rc_get fl_X0_1_0 hrv14 dX0_thrown_31 ?_
  refine rb_aload_n 1 rfl rfl (rb_isR_ref _) dX0_thrown_34 ?_
  obtain ⟨x15, hrx15, Kx15⟩ := Kv14
  refine rc_get fl_X0_30_3 hrx15 dX0_thrown_35 ?_
  refine rb_iconst (v := (1 : Int32)) (by decide) dX0_thrown_38 ?_
  refine rb_isub (z := (x15 - (1 : Int32))) rfl dX0_thrown_39 ?_
  obtain ⟨q16, eq16, Kq16⟩ := Kx15
  subst eq16
  obtain ⟨fs17, hMfs17, hlfs17, Kfs17⟩ := Kq16
  refine rb_put fl_X0_33_1 (fun q hq => by cases hq; exact Or.inl rfl) rfl rfl hMfs17 hlfs17 dX0_thrown_40 ?_
  refine rb_aload_n 0 rfl rfl (rb_isR_ref _) dX0_thrown_43 ?_
  obtain ⟨v18, hrv18, hv18, Kv18⟩ := Kfs17
  refine rc_get fl_X0_1_0 hrv18 dX0_thrown_44 ?_
  exact rb_aret rfl (Or.inl ⟨_, rfl⟩) hv18 (Kv18).1.1 (Kv18).1.2 dX0_thrown_47 (Kv18).2
