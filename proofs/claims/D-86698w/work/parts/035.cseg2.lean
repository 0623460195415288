set_option maxRecDepth 100000
theorem sgX0_run_0 {κ : rb_K} {n : Nat × Nat} {M : rb_H} {a0 : Nat} {a1 : Value} {a2 : Value} {a3 : Int32} {a4 : Int64} {a6 : Int32} (ha1 : rb_isR a1) (ha2 : rb_isR a2) (K : (∃ q1, a2 = .ref q1 ∧ (∃ (d2 : Nat) (n3 : Nat × Nat) (Q4 : Outcome → rb_H → Prop), rb_Ct κ.1 yJ4_get wJ4_get d2 n3 [.ref q1, .int a3] M Q4 ∧ rb_dp κ d2 ∧ rb_rom κ (n.1 + n3.1, n.2 + n3.2) ∧ rb_ob M q1 7 ∧ ∀ (o : Outcome) (M6 : rb_H), Q4 o M6 → (∃ (v5 : Value), o = .returned (some v5) ∧ rb_isR v5 ∧ (∃ q7, v5 = .ref q7 ∧ (∃ ci8, rb_ob M6 q7 ci8 ∧ rb_CC ci8 "RoleLoom$Body" ∧ ((a6 ≤ (40 : Int32) → (∃ (v10 : Value), rb_rd M6 a0 0 22 (v10) ∧ rb_isR v10 ∧ (∃ q11, v10 = .ref q11 ∧ (∃ (t15 N12 : Nat) (f13 : Nat → Option Nat) (v14 : Value), M6.2 q11 = some (rb_R t15 N12 f13) ∧ (3 ≤ t15 ∧ t15 ≤ 6) ∧ vp_in a6 N12 ∧ va_rf (f13 (a6).toNatClampNeg) = v14 ∧ (∃ q16, v14 = .ref q16 ∧ (∃ fs17, M6.2 q16 = some (rb_O 3 fs17) ∧ 0 < fs17.length ∧ (∃ q18, a1 = .ref q18 ∧ (∃ (v19 : Value), rb_rd (rb_up M6 q16 (rb_O 3 (fs17.set 0 a1))) q18 29 2 (v19) ∧ rb_isR v19 ∧ (∃ (v20 : Value), rb_rd (rb_up M6 q16 (rb_O 3 (fs17.set 0 a1))) q18 29 1 (v20) ∧ rb_isR v20 ∧ (∃ q21, v20 = .ref q21 ∧ (∃ (v22 : Value), rb_rd (rb_up M6 q16 (rb_O 3 (fs17.set 0 a1))) q21 27 1 (v22) ∧ rb_isR v22 ∧ (∃ (v23 : Value), rb_rd (rb_up M6 q16 (rb_O 3 (fs17.set 0 a1))) q7 6 0 (v23) ∧ rb_isR v23 ∧ (∃ q24, v22 = .ref q24 ∧ (∃ (d25 : Nat) (n26 : Nat × Nat) (Q27 : Outcome → rb_H → Prop), rb_Ct κ.1 yJ4_indexOf wJ4_indexOf d25 n26 [.ref q24, v23] (rb_up M6 q16 (rb_O 3 (fs17.set 0 a1))) Q27 ∧ rb_dp κ d25 ∧ rb_rom κ (n.1 + n3.1 + n26.1, n.2 + n3.2 + n26.2) ∧ rb_ob (rb_up M6 q16 (rb_O 3 (fs17.set 0 a1))) q24 7 ∧ ∀ (o : Outcome) (M29 : rb_H), Q27 o M29 → (∃ (x28 : Int32), o = .returned (some (.int x28)) ∧ (∃ q30, v19 = .ref q30 ∧ (∃ (d31 : Nat) (n32 : Nat × Nat) (Q33 : Outcome → rb_H → Prop), rb_Ct κ.1 yJ4_get wJ4_get d31 n32 [.ref q30, .int x28] M29 Q33 ∧ rb_dp κ d31 ∧ rb_rom κ (n.1 + n3.1 + n26.1 + n32.1, n.2 + n3.2 + n26.2 + n32.2) ∧ rb_ob M29 q30 7 ∧ ∀ (o : Outcome) (M35 : rb_H), Q33 o M35 → (∃ (v34 : Value), o = .returned (some v34) ∧ rb_isR v34 ∧ (∃ q36, v34 = .ref q36 ∧ (∃ ci37, rb_ob M35 q36 ci37 ∧ rb_CC ci37 "RoleLoom$State" ∧ (∃ fs38, M35.2 q16 = some (rb_O 3 fs38) ∧ 1 < fs38.length ∧ (∃ fs39, (rb_up M35 q16 (rb_O 3 (fs38.set 1 (.ref q36)))).2 q16 = some (rb_O 3 fs39) ∧ 2 < fs39.length ∧ (∃ fs40, (rb_up (rb_up M35 q16 (rb_O 3 (fs38.set 1 (.ref q36)))) q16 (rb_O 3 (fs39.set 2 (.ref q1)))).2 q16 = some (rb_O 3 fs40) ∧ 3 < fs40.length ∧ (∃ (d41 : Nat) (n42 : Nat × Nat) (Q43 : Outcome → rb_H → Prop), rb_Ct κ.1 yX0_goes wX0_goes d41 n42 [.ref a0, .ref q16, .ref q7, .long a4, .int a6] (rb_up (rb_up (rb_up M35 q16 (rb_O 3 (fs38.set 1 (.ref q36)))) q16 (rb_O 3 (fs39.set 2 (.ref q1)))) q16 (rb_O 3 (fs40.set 3 (.int a3)))) Q43 ∧ rb_dp κ d41 ∧ rb_rom κ (n.1 + n3.1 + n26.1 + n32.1 + n42.1, n.2 + n3.2 + n26.2 + n32.2 + n42.2) ∧ rb_ob (rb_up (rb_up (rb_up M35 q16 (rb_O 3 (fs38.set 1 (.ref q36)))) q16 (rb_O 3 (fs39.set 2 (.ref q1)))) q16 (rb_O 3 (fs40.set 3 (.int a3)))) a0 0 ∧ ∀ (o : Outcome) (M45 : rb_H), Q43 o M45 → ((∃ (x44 : Int64), o = .returned (some (.long x44)) ∧ (rb_fin κ (n.1 + n3.1 + n26.1 + n32.1 + n42.1, n.2 + n3.2 + n26.2 + n32.2 + n42.2) ∧ κ.2.2.1 (.returned (some (.long x44))) M45)) ∨ (∃ x44t, o = .threw x44t ∧ rb_Th κ mX0_run (n.1 + n3.1 + n26.1 + n32.1 + n42.1, n.2 + n3.2 + n26.2 + n32.2 + n42.2) M45 89 [some (.ref a0), some (.ref q18), some (.ref q1), some (.int a3), some (.long a4), none, some (.int a6), some (.ref q7), some (.ref q16)] x44t)))))))))))))))))))))))))) ∧ ((40 : Int32) < a6 → (∃ (d46 : Nat) (n47 : Nat × Nat) (Q48 : Outcome → rb_H → Prop), rb_Ct κ.1 yX0_stops wX0_stops d46 n47 [.ref a0, .int (4 : Int32)] M6 Q48 ∧ rb_dp κ d46 ∧ rb_rom κ (n.1 + n3.1 + n47.1, n.2 + n3.2 + n47.2) ∧ rb_ob M6 a0 0 ∧ ∀ (o : Outcome) (M50 : rb_H), Q48 o M50 → (∃ (v49 : Value), o = .returned (some v49) ∧ rb_isR v49 ∧ (∃ q51, v49 = .ref q51 ∧ (rb_fin κ (n.1 + n3.1 + n47.1, n.2 + n3.2 + n47.2) ∧ κ.2.2.1 (.threw q51) M50)))))))))))) : rb_Bd κ mX0_run n M 0 [some (.ref a0), some a1, some a2, some (.int a3), some (.long a4), none, some (.int a6), none, none] [] := by
  refine rb_aload_n 2 rfl rfl ha2 dX0_run_0 ?_
  refine rb_iload_n 3 rfl rfl dX0_run_1 ?_
  obtain ⟨q1, eq1, Kq1⟩ := K
  subst eq1
  obtain ⟨d2, n3, Q4, h1v5, hdv5, hnv5, hov5, Kv5⟩ := Kq1
  refine rb_call st_X0_218_7 (rest := []) h1v5 rfl rfl (rc_rc rfl hov5) (Nat.le_of_ble_eq_true rfl) hdv5.1 hdv5.2 hnv5.1 hnv5.2 dX0_run_2 (fun o M6 hpv5 => ?_)
  obtain ⟨v5, eo, hv5, KKv5⟩ := Kv5 o M6 hpv5
  subst eo
  show rb_Bd κ mX0_run (n.1 + n3.1, n.2 + n3.2) M6 5 [some (.ref a0), some a1, some (.ref q1), some (.int a3), some (.long a4), none, some (.int a6), none, none] [v5]
  obtain ⟨q7, eq7, Kq7⟩ := KKv5
  subst eq7
  obtain ⟨ci8, ⟨fsci8, hoci8⟩, hcci8, Kci8⟩ := Kq7
  refine rb_cast q240 hoci8 hcci8 dX0_run_5 ?_
  refine rb_astore (ls' := [some (.ref a0), some a1, some (.ref q1), some (.int a3), some (.long a4), none, some (.int a6), some (.ref q7), none]) (by decide) rfl rfl (rb_isR_ref _) dX0_run_8 ?_
  refine rb_iload rfl dX0_run_10 ?_
  refine rb_bipush (v := (40 : Int32)) (by decide) dX0_run_12 ?_
  refine rb_icle 23 (by decide) dX0_run_14 (fun c9 => ?_) (fun c9 => ?_)
  · skip
    refine rb_aload_n 0 rfl rfl (rb_isR_ref _) dX0_run_23 ?_
    obtain ⟨v10, hrv10, hv10, Kv10⟩ := ((Kci8).1 c9)
    refine rc_get fl_X0_177_0 hrv10 dX0_run_24 ?_
    refine rb_iload rfl dX0_run_27 ?_
    obtain ⟨q11, eq11, Kq11⟩ := Kv10
    subst eq11
    obtain ⟨t15, N12, f13, v14, hMv14, htv14, hiv14, hxv14, Kv14⟩ := Kq11
    have hv14 := rc_isRf hxv14
    refine rc_aald hMv14 htv14 hiv14 hxv14 dX0_run_29 ?_
    refine rb_astore (ls' := [some (.ref a0), some a1, some (.ref q1), some (.int a3), some (.long a4), none, some (.int a6), some (.ref q7), some v14]) (by decide) rfl rfl hv14 dX0_run_30 ?_
    refine rb_aload rfl hv14 dX0_run_32 ?_
    refine rb_aload_n 1 rfl rfl ha1 dX0_run_34 ?_
    obtain ⟨q16, eq16, Kq16⟩ := Kv14
    subst eq16
    obtain ⟨fs17, hMfs17, hlfs17, Kfs17⟩ := Kq16
    refine rb_put fl_X0_377_3 (fun q hq => by cases hq; exact Or.inl rfl) (rb_nfR ha1 _).1 (rb_nfR ha1 _).2 hMfs17 hlfs17 dX0_run_35 ?_
    refine rb_aload rfl (rb_isR_ref _) dX0_run_38 ?_
    refine rb_aload_n 1 rfl rfl ha1 dX0_run_40 ?_
    obtain ⟨q18, eq18, Kq18⟩ := Kfs17
    subst eq18
    obtain ⟨v19, hrv19, hv19, Kv19⟩ := Kq18
    refine rc_get fl_X0_381_29 hrv19 dX0_run_41 ?_
    refine rb_aload_n 1 rfl rfl (rb_isR_ref _) dX0_run_44 ?_
    obtain ⟨v20, hrv20, hv20, Kv20⟩ := Kv19
    refine rc_get fl_X0_386_29 hrv20 dX0_run_45 ?_
    obtain ⟨q21, eq21, Kq21⟩ := Kv20
    subst eq21
    obtain ⟨v22, hrv22, hv22, Kv22⟩ := Kq21
    refine rc_get fl_X0_291_27 hrv22 dX0_run_48 ?_
    refine rb_aload rfl (rb_isR_ref _) dX0_run_51 ?_
    obtain ⟨v23, hrv23, hv23, Kv23⟩ := Kv22
    refine rc_get fl_X0_23_6 hrv23 dX0_run_53 ?_
    obtain ⟨q24, eq24, Kq24⟩ := Kv23
    subst eq24
    obtain ⟨d25, n26, Q27, h1x28, hdx28, hnx28, hox28, Kx28⟩ := Kq24
    refine rb_call st_X0_390_7 (rest := [v19, .ref q16]) h1x28 rfl rfl (rc_rc rfl hox28) (by simp [rb_isR_cat hv19, rb_cR, rb_cI, rb_cJ, rb_cN]) hdx28.1 hdx28.2 hnx28.1 hnx28.2 dX0_run_56 (fun o M29 hpx28 => ?_)
    obtain ⟨x28, eo, KKx28⟩ := Kx28 o M29 hpx28
    subst eo
    show rb_Bd κ mX0_run (n.1 + n3.1 + n26.1, n.2 + n3.2 + n26.2) M29 59 [some (.ref a0), some (.ref q18), some (.ref q1), some (.int a3), some (.long a4), none, some (.int a6), some (.ref q7), some (.ref q16)] [.int x28, v19, .ref q16]
    obtain ⟨q30, eq30, Kq30⟩ := KKx28
    subst eq30
    obtain ⟨d31, n32, Q33, h1v34, hdv34, hnv34, hov34, Kv34⟩ := Kq30
    refine rb_call st_X0_218_7 (rest := [.ref q16]) h1v34 rfl rfl (rc_rc rfl hov34) (Nat.le_of_ble_eq_true rfl) hdv34.1 hdv34.2 hnv34.1 hnv34.2 dX0_run_59 (fun o M35 hpv34 => ?_)
    obtain ⟨v34, eo, hv34, KKv34⟩ := Kv34 o M35 hpv34
    subst eo
    show rb_Bd κ mX0_run (n.1 + n3.1 + n26.1 + n32.1, n.2 + n3.2 + n26.2 + n32.2) M35 62 [some (.ref a0), some (.ref q18), some (.ref q1), some (.int a3), some (.long a4), none, some (.int a6), some (.ref q7), some (.ref q16)] [v34, .ref q16]
    obtain ⟨q36, eq36, Kq36⟩ := KKv34
    subst eq36
    obtain ⟨ci37, ⟨fsci37, hoci37⟩, hcci37, Kci37⟩ := Kq36
    refine rb_cast q1245 hoci37 hcci37 dX0_run_62 ?_
    obtain ⟨fs38, hMfs38, hlfs38, Kfs38⟩ := Kci37
    refine rb_put fl_X0_396_3 (fun q hq => by cases hq; exact Or.inl rfl) (rb_nfR (rb_isR_ref _) _).1 (rb_nfR (rb_isR_ref _) _).2 hMfs38 hlfs38 dX0_run_65 ?_
    refine rb_aload rfl (rb_isR_ref _) dX0_run_68 ?_
    refine rb_aload_n 2 rfl rfl (rb_isR_ref _) dX0_run_70 ?_
    obtain ⟨fs39, hMfs39, hlfs39, Kfs39⟩ := Kfs38
    refine rb_put fl_X0_400_3 (fun q hq => by cases hq; exact Or.inl rfl) (rb_nfR (rb_isR_ref _) _).1 (rb_nfR (rb_isR_ref _) _).2 hMfs39 hlfs39 dX0_run_71 ?_
    refine rb_aload rfl (rb_isR_ref _) dX0_run_74 ?_
    refine rb_iload_n 3 rfl rfl dX0_run_76 ?_
    obtain ⟨fs40, hMfs40, hlfs40, Kfs40⟩ := Kfs39
    refine rb_put fl_X0_403_3 (fun q hq => by cases hq; exact Or.inl rfl) rfl rfl hMfs40 hlfs40 dX0_run_77 ?_
    refine rb_aload_n 0 rfl rfl (rb_isR_ref _) dX0_run_80 ?_
    refine rb_aload rfl (rb_isR_ref _) dX0_run_81 ?_
    refine rb_aload rfl (rb_isR_ref _) dX0_run_83 ?_
    refine rb_lload rfl dX0_run_85 ?_
    refine rb_iload rfl dX0_run_87 ?_
    obtain ⟨d41, n42, Q43, h1x44, hdx44, hnx44, hox44, Kx44⟩ := Kfs40
    refine rb_call st_X0_406_0 (rest := []) h1x44 rfl rfl (rc_rc rfl hox44) (Nat.le_of_ble_eq_true rfl) hdx44.1 hdx44.2 hnx44.1 hnx44.2 dX0_run_89 (fun o M45 hpx44 => ?_)
    rcases Kx44 o M45 hpx44 with ⟨x44, eo, KKx44⟩ | ⟨x44t, eo, KKx44⟩
    · subst eo
      show rb_Bd κ mX0_run (n.1 + n3.1 + n26.1 + n32.1 + n42.1, n.2 + n3.2 + n26.2 + n32.2 + n42.2) M45 92 [some (.ref a0), some (.ref q18), some (.ref q1), some (.int a3), some (.long a4), none, some (.int a6), some (.ref q7), some (.ref q16)] [.long x44]
      exact rb_lret rfl (KKx44).1.1 (KKx44).1.2 dX0_run_92 (KKx44).2
    · subst eo
      exact KKx44
  · skip
    refine rb_aload_n 0 rfl rfl (rb_isR_ref _) dX0_run_17 ?_
    refine rb_iconst (v := (4 : Int32)) (by decide) dX0_run_18 ?_
    obtain ⟨d46, n47, Q48, h1v49, hdv49, hnv49, hov49, Kv49⟩ := ((Kci8).2 c9)
    refine rb_call st_X0_373_0 (rest := []) h1v49 rfl rfl (rc_rc rfl hov49) (Nat.le_of_ble_eq_true rfl) hdv49.1 hdv49.2 hnv49.1 hnv49.2 dX0_run_19 (fun o M50 hpv49 => ?_)
    obtain ⟨v49, eo, hv49, KKv49⟩ := Kv49 o M50 hpv49
    subst eo
    show rb_Bd κ mX0_run (n.1 + n3.1 + n47.1, n.2 + n3.2 + n47.2) M50 22 [some (.ref a0), some a1, some (.ref q1), some (.int a3), some (.long a4), none, some (.int a6), some (.ref q7), none] [v49]
    obtain ⟨q51, eq51, Kq51⟩ := KKv49
    subst eq51
    exact rb_athrow (by decide) (Kq51).1.1 (Kq51).1.2 dX0_run_22 (Kq51).2
theorem sgX0_noteThrown_0 {κ : rb_K} {n : Nat × Nat} {M : rb_H} {a0 : Nat} {a1 : Value} (ha1 : rb_isR a1) (K : (∃ q1, a1 = .ref q1 ∧ (∃ (x2 : Int32), rb_rd M q1 1 6 (.int x2) ∧ (∃ fs3, M.2 a0 = some (rb_O 0 fs3) ∧ 27 < fs3.length ∧ (∃ (v4 : Value), rb_rd (rb_up M a0 (rb_O 0 (fs3.set 27 (.int x2)))) q1 1 8 (v4) ∧ rb_isR v4 ∧ (∃ q5, v4 = .ref q5 ∧ (∃ (x6 : Int32), rb_rd (rb_up M a0 (rb_O 0 (fs3.set 27 (.int x2)))) q5 5 0 (.int x6) ∧ (∃ fs7, (rb_up M a0 (rb_O 0 (fs3.set 27 (.int x2)))).2 a0 = some (rb_O 0 fs7) ∧ 28 < fs7.length ∧ (∃ (x8 : Int32), rb_rd (rb_up (rb_up M a0 (rb_O 0 (fs3.set 27 (.int x2)))) a0 (rb_O 0 (fs7.set 28 (.int x6)))) q1 1 9 (.int x8) ∧ (∃ fs9, (rb_up (rb_up M a0 (rb_O 0 (fs3.set 27 (.int x2)))) a0 (rb_O 0 (fs7.set 28 (.int x6)))).2 a0 = some (rb_O 0 fs9) ∧ 29 < fs9.length ∧ (∃ (x10 : Int64), rb_rd (rb_up (rb_up (rb_up M a0 (rb_O 0 (fs3.set 27 (.int x2)))) a0 (rb_O 0 (fs7.set 28 (.int x6)))) a0 (rb_O 0 (fs9.set 29 (.int x8)))) q1 1 7 (.long x10) ∧ (∃ fs11, (rb_up (rb_up (rb_up M a0 (rb_O 0 (fs3.set 27 (.int x2)))) a0 (rb_O 0 (fs7.set 28 (.int x6)))) a0 (rb_O 0 (fs9.set 29 (.int x8)))).2 a0 = some (rb_O 0 fs11) ∧ 30 < fs11.length ∧ (rb_fin κ n ∧ κ.2.2.1 (.returned none) (rb_up (rb_up (rb_up (rb_up M a0 (rb_O 0 (fs3.set 27 (.int x2)))) a0 (rb_O 0 (fs7.set 28 (.int x6)))) a0 (rb_O 0 (fs9.set 29 (.int x8)))) a0 (rb_O 0 (fs11.set 30 (.long x10))))))))))))))))) : rb_Bd κ mX0_noteThrown n M 0 [some (.ref a0), some a1] [] := by
  refine rb_aload_n 0 rfl rfl (rb_isR_ref _) dX0_noteThrown_0 ?_
  refine rb_aload_n 1 rfl rfl ha1 dX0_noteThrown_1 ?_
  obtain ⟨q1, eq1, Kq1⟩ := K
  subst eq1
  obtain ⟨x2, hrx2, Kx2⟩ := Kq1
  refine rc_get fl_X0_7_1 hrx2 dX0_noteThrown_2 ?_
  obtain ⟨fs3, hMfs3, hlfs3, Kfs3⟩ := Kx2
  refine rb_put fl_X0_188_0 (fun q hq => by cases hq; exact Or.inl rfl) rfl rfl hMfs3 hlfs3 dX0_noteThrown_5 ?_
  refine rb_aload_n 0 rfl rfl (rb_isR_ref _) dX0_noteThrown_8 ?_
  refine rb_aload_n 1 rfl rfl (rb_isR_ref _) dX0_noteThrown_9 ?_
  obtain ⟨v4, hrv4, hv4, Kv4⟩ := Kfs3
  refine rc_get fl_X0_29_1 hrv4 dX0_noteThrown_10 ?_
  obtain ⟨q5, eq5, Kq5⟩ := Kv4
  subst eq5
  obtain ⟨x6, hrx6, Kx6⟩ := Kq5
  refine rc_get fl_X0_272_5 hrx6 dX0_noteThrown_13 ?_
  obtain ⟨fs7, hMfs7, hlfs7, Kfs7⟩ := Kx6
  refine rb_put fl_X0_191_0 (fun q hq => by cases hq; exact Or.inl rfl) rfl rfl hMfs7 hlfs7 dX0_noteThrown_16 ?_
  refine rb_aload_n 0 rfl rfl (rb_isR_ref _) dX0_noteThrown_19 ?_
  refine rb_aload_n 1 rfl rfl (rb_isR_ref _) dX0_noteThrown_20 ?_
  obtain ⟨x8, hrx8, Kx8⟩ := Kfs7
  refine rc_get fl_X0_33_1 hrx8 dX0_noteThrown_21 ?_
  obtain ⟨fs9, hMfs9, hlfs9, Kfs9⟩ := Kx8
  refine rb_put fl_X0_194_0 (fun q hq => by cases hq; exact Or.inl rfl) rfl rfl hMfs9 hlfs9 dX0_noteThrown_24 ?_
  refine rb_aload_n 0 rfl rfl (rb_isR_ref _) dX0_noteThrown_27 ?_
  refine rb_aload_n 1 rfl rfl (rb_isR_ref _) dX0_noteThrown_28 ?_
  obtain ⟨x10, hrx10, Kx10⟩ := Kfs9
  refine rc_get fl_X0_13_1 hrx10 dX0_noteThrown_29 ?_
  obtain ⟨fs11, hMfs11, hlfs11, Kfs11⟩ := Kx10
  refine rb_put fl_X0_370_0 (fun q hq => by cases hq; exact Or.inl rfl) rfl rfl hMfs11 hlfs11 dX0_noteThrown_32 ?_
  exact rb_vret rfl (Kfs11).1.1 (Kfs11).1.2 dX0_noteThrown_35 (Kfs11).2
theorem sgX0_call_0 {κ : rb_K} {n : Nat × Nat} {M : rb_H} {a0 : Nat} {a1 : Int32} {a2 : Int32} {a3 : Int64} (K : (∃ (d1 : Nat) (n2 : Nat × Nat) (Q3 : Outcome → rb_H → Prop), rb_Ct κ.1 yX0_isThing wX0_isThing d1 n2 [.ref a0, .int a1] M Q3 ∧ rb_dp κ d1 ∧ rb_rom κ (n.1 + n2.1, n.2 + n2.2) ∧ rb_ob M a0 0 ∧ ∀ (o : Outcome) (M5 : rb_H), Q3 o M5 → (∃ (x4 : Int32), o = .returned (some (.int x4)) ∧ ((x4 = 0 → (rb_fin κ (n.1 + n2.1, n.2 + n2.2) ∧ κ.2.2.1 (.returned (some (.int (-1 : Int32)))) M5)) ∧ (¬ x4 = 0 → (∃ (d7 : Nat) (n8 : Nat × Nat) (Q9 : Outcome → rb_H → Prop), rb_Ct κ.1 yX0_in wX0_in d7 n8 [.int a2, .int (0 : Int32), .int (11 : Int32)] M5 Q9 ∧ rb_dp κ d7 ∧ rb_rom κ (n.1 + n2.1 + n8.1, n.2 + n2.2 + n8.2) ∧ ∀ (o : Outcome) (M11 : rb_H), Q9 o M11 → (∃ (x10 : Int32), o = .returned (some (.int x10)) ∧ ((¬ x10 = 0 → (∃ (d13 : Nat) (n14 : Nat × Nat) (Q15 : Outcome → rb_H → Prop), rb_Ct κ.1 yX0_beginRun wX0_beginRun d13 n14 [.ref a0] M11 Q15 ∧ rb_dp κ d13 ∧ rb_rom κ (n.1 + n2.1 + n8.1 + n14.1, n.2 + n2.2 + n8.2 + n14.2) ∧ rb_ob M11 a0 0 ∧ ∀ (o : Outcome) (M17 : rb_H), Q15 o M17 → (o = .returned none ∧ (∃ (v18 : Value), rb_rd M17 a0 0 8 (v18) ∧ rb_isR v18 ∧ (∃ q19, v18 = .ref q19 ∧ (∃ (d20 : Nat) (n21 : Nat × Nat) (Q22 : Outcome → rb_H → Prop), rb_Ct κ.1 yJ4_get wJ4_get d20 n21 [.ref q19, .int a1] M17 Q22 ∧ rb_dp κ d20 ∧ rb_rom κ (n.1 + n2.1 + n8.1 + n14.1 + n21.1, n.2 + n2.2 + n8.2 + n14.2 + n21.2) ∧ rb_ob M17 q19 7 ∧ ∀ (o : Outcome) (M24 : rb_H), Q22 o M24 → (∃ (v23 : Value), o = .returned (some v23) ∧ rb_isR v23 ∧ (∃ q25, v23 = .ref q25 ∧ (∃ ci26, rb_ob M24 q25 ci26 ∧ rb_CC ci26 "RoleLoom$Thing" ∧ (∃ (v27 : Value), rb_rd M24 q25 29 1 (v27) ∧ rb_isR v27 ∧ (∃ q28, v27 = .ref q28 ∧ (∃ (v29 : Value), rb_rd M24 q28 27 2 (v29) ∧ rb_isR v29 ∧ (∃ q30, v29 = .ref q30 ∧ (∃ (d31 : Nat) (n32 : Nat × Nat) (Q33 : Outcome → rb_H → Prop), rb_Ct κ.1 yJ4_get wJ4_get d31 n32 [.ref q30, .int a2] M24 Q33 ∧ rb_dp κ d31 ∧ rb_rom κ (n.1 + n2.1 + n8.1 + n14.1 + n21.1 + n32.1, n.2 + n2.2 + n8.2 + n14.2 + n21.2 + n32.2) ∧ rb_ob M24 q30 7 ∧ ∀ (o : Outcome) (M35 : rb_H), Q33 o M35 → (∃ (v34 : Value), o = .returned (some v34) ∧ rb_isR v34 ∧ (∃ q36, v34 = .ref q36 ∧ (∃ ci37, rb_ob M35 q36 ci37 ∧ rb_CC ci37 "java/util/ArrayList" ∧ (∃ (d38 : Nat) (n39 : Nat × Nat) (Q40 : Outcome → rb_H → Prop), rb_Ct κ.1 yJ4_isEmpty wJ4_isEmpty d38 n39 [.ref q36] M35 Q40 ∧ rb_dp κ d38 ∧ rb_rom κ (n.1 + n2.1 + n8.1 + n14.1 + n21.1 + n32.1 + n39.1, n.2 + n2.2 + n8.2 + n14.2 + n21.2 + n32.2 + n39.2) ∧ rb_ob M35 q36 7 ∧ ∀ (o : Outcome) (M42 : rb_H), Q40 o M42 → (∃ (x41 : Int32), o = .returned (some (.int x41)) ∧ ((x41 = 0 → (∃ (d44 : Nat) (n45 : Nat × Nat) (Q46 : Outcome → rb_H → Prop), rb_Ct κ.1 yJ4_size wJ4_size d44 n45 [.ref q36] M42 Q46 ∧ rb_dp κ d44 ∧ rb_rom κ (n.1 + n2.1 + n8.1 + n14.1 + n21.1 + n32.1 + n39.1 + n45.1, n.2 + n2.2 + n8.2 + n14.2 + n21.2 + n32.2 + n39.2 + n45.2) ∧ rb_ob M42 q36 7 ∧ ∀ (o : Outcome) (M48 : rb_H), Q46 o M48 → (∃ (x47 : Int32), o = .returned (some (.int x47)) ∧ (∃ (d49 : Nat) (n50 : Nat × Nat) (Q51 : Outcome → rb_H → Prop), rb_Ct κ.1 yX0_run wX0_run d49 n50 [.ref a0, .ref q25, .ref q36, .int (x47 - (1 : Int32)), .long a3, .int (1 : Int32)] M48 Q51 ∧ rb_dp κ d49 ∧ rb_rom κ (n.1 + n2.1 + n8.1 + n14.1 + n21.1 + n32.1 + n39.1 + n45.1 + n50.1, n.2 + n2.2 + n8.2 + n14.2 + n21.2 + n32.2 + n39.2 + n45.2 + n50.2) ∧ rb_ob M48 a0 0 ∧ ∀ (o : Outcome) (M53 : rb_H), Q51 o M53 → ((∃ (x52 : Int64), o = .returned (some (.long x52)) ∧ (∃ fs54, M53.2 a0 = some (rb_O 0 fs54) ∧ 31 < fs54.length ∧ (rb_fin κ (n.1 + n2.1 + n8.1 + n14.1 + n21.1 + n32.1 + n39.1 + n45.1 + n50.1, n.2 + n2.2 + n8.2 + n14.2 + n21.2 + n32.2 + n39.2 + n45.2 + n50.2) ∧ κ.2.2.1 (.returned (some (.int (0 : Int32)))) (rb_up M53 a0 (rb_O 0 (fs54.set 31 (.long x52))))))) ∨ (∃ x52t, o = .threw x52t ∧ rb_Th κ mX0_call (n.1 + n2.1 + n8.1 + n14.1 + n21.1 + n32.1 + n39.1 + n45.1 + n50.1, n.2 + n2.2 + n8.2 + n14.2 + n21.2 + n32.2 + n39.2 + n45.2 + n50.2) M53 79 [some (.ref a0), some (.int a1), some (.int a2), some (.long a3), none, some (.ref q25), some (.ref q36), none] x52t)))))) ∧ (¬ x41 = 0 → (rb_fin κ (n.1 + n2.1 + n8.1 + n14.1 + n21.1 + n32.1 + n39.1, n.2 + n2.2 + n8.2 + n14.2 + n21.2 + n32.2 + n39.2) ∧ κ.2.2.1 (.returned (some (.int (2 : Int32)))) M42)))))))))))))))))))))) ∧ (x10 = 0 → (rb_fin κ (n.1 + n2.1 + n8.1, n.2 + n2.2 + n8.2) ∧ κ.2.2.1 (.returned (some (.int (-1 : Int32)))) M11)))))))))) : rb_Bd κ mX0_call n M 0 [some (.ref a0), some (.int a1), some (.int a2), some (.long a3), none, none, none, none] [] := by
  refine rb_aload_n 0 rfl rfl (rb_isR_ref _) dX0_call_0 ?_
  refine rb_iload_n 1 rfl rfl dX0_call_1 ?_
  obtain ⟨d1, n2, Q3, h1x4, hdx4, hnx4, hox4, Kx4⟩ := K
  refine rb_call st_X0_444_0 (rest := []) h1x4 rfl rfl (rc_rc rfl hox4) (Nat.le_of_ble_eq_true rfl) hdx4.1 hdx4.2 hnx4.1 hnx4.2 dX0_call_2 (fun o M5 hpx4 => ?_)
  obtain ⟨x4, eo, KKx4⟩ := Kx4 o M5 hpx4
  subst eo
  show rb_Bd κ mX0_call (n.1 + n2.1, n.2 + n2.2) M5 5 [some (.ref a0), some (.int a1), some (.int a2), some (.long a3), none, none, none, none] [.int x4]
  refine rb_ifeq 18 (by decide) dX0_call_5 (fun c6 => ?_) (fun c6 => ?_)
  · skip
    refine rb_iconst (v := (-1 : Int32)) (by decide) dX0_call_18 ?_
    exact rb_iret rfl rfl (((KKx4).1 c6)).1.1 (((KKx4).1 c6)).1.2 dX0_call_19 (((KKx4).1 c6)).2
  · skip
    refine rb_iload_n 2 rfl rfl dX0_call_8 ?_
    refine rb_iconst (v := (0 : Int32)) (by decide) dX0_call_9 ?_
    refine rb_bipush (v := (11 : Int32)) (by decide) dX0_call_10 ?_
    obtain ⟨d7, n8, Q9, h1x10, hdx10, hnx10, Kx10⟩ := ((KKx4).2 c6)
    refine rb_call st_X0_45 (rest := []) h1x10 rfl rfl mm_rn (Nat.le_of_ble_eq_true rfl) hdx10.1 hdx10.2 hnx10.1 hnx10.2 dX0_call_12 (fun o M11 hpx10 => ?_)
    obtain ⟨x10, eo, KKx10⟩ := Kx10 o M11 hpx10
    subst eo
    show rb_Bd κ mX0_call (n.1 + n2.1 + n8.1, n.2 + n2.2 + n8.2) M11 15 [some (.ref a0), some (.int a1), some (.int a2), some (.long a3), none, none, none, none] [.int x10]
    refine rb_ifne 20 (by decide) dX0_call_15 (fun c12 => ?_) (fun c12 => ?_)
    · skip
      refine rb_aload_n 0 rfl rfl (rb_isR_ref _) dX0_call_20 ?_
      obtain ⟨d13, n14, Q15, h1v16, hdv16, hnv16, hov16, Kv16⟩ := ((KKx10).1 c12)
      refine rb_call st_X0_434_0 (rest := []) h1v16 rfl rfl (rc_rc rfl hov16) (Nat.le_of_ble_eq_true rfl) hdv16.1 hdv16.2 hnv16.1 hnv16.2 dX0_call_21 (fun o M17 hpv16 => ?_)
      obtain ⟨eo, KKv16⟩ := Kv16 o M17 hpv16
      subst eo
      show rb_Bd κ mX0_call (n.1 + n2.1 + n8.1 + n14.1, n.2 + n2.2 + n8.2 + n14.2) M17 24 [some (.ref a0), some (.int a1), some (.int a2), some (.long a3), none, none, none, none] []
      refine rb_aload_n 0 rfl rfl (rb_isR_ref _) dX0_call_24 ?_
      obtain ⟨v18, hrv18, hv18, Kv18⟩ := KKv16
      refine rc_get fl_X0_139_0 hrv18 dX0_call_25 ?_
      refine rb_iload_n 1 rfl rfl dX0_call_28 ?_
      obtain ⟨q19, eq19, Kq19⟩ := Kv18
      subst eq19
      obtain ⟨d20, n21, Q22, h1v23, hdv23, hnv23, hov23, Kv23⟩ := Kq19
      refine rb_call st_X0_218_7 (rest := []) h1v23 rfl rfl (rc_rc rfl hov23) (Nat.le_of_ble_eq_true rfl) hdv23.1 hdv23.2 hnv23.1 hnv23.2 dX0_call_29 (fun o M24 hpv23 => ?_)
      obtain ⟨v23, eo, hv23, KKv23⟩ := Kv23 o M24 hpv23
      subst eo
      show rb_Bd κ mX0_call (n.1 + n2.1 + n8.1 + n14.1 + n21.1, n.2 + n2.2 + n8.2 + n14.2 + n21.2) M24 32 [some (.ref a0), some (.int a1), some (.int a2), some (.long a3), none, none, none, none] [v23]
      obtain ⟨q25, eq25, Kq25⟩ := KKv23
      subst eq25
      obtain ⟨ci26, ⟨fsci26, hoci26⟩, hcci26, Kci26⟩ := Kq25
      refine rb_cast q1401 hoci26 hcci26 dX0_call_32 ?_
      refine rb_astore (ls' := [some (.ref a0), some (.int a1), some (.int a2), some (.long a3), none, some (.ref q25), none, none]) (by decide) rfl rfl (rb_isR_ref _) dX0_call_35 ?_
      refine rb_aload rfl (rb_isR_ref _) dX0_call_37 ?_
      obtain ⟨v27, hrv27, hv27, Kv27⟩ := Kci26
      refine rc_get fl_X0_386_29 hrv27 dX0_call_39 ?_
      obtain ⟨q28, eq28, Kq28⟩ := Kv27
      subst eq28
      obtain ⟨v29, hrv29, hv29, Kv29⟩ := Kq28
      refine rc_get fl_X0_300_27 hrv29 dX0_call_42 ?_
      refine rb_iload_n 2 rfl rfl dX0_call_45 ?_
      obtain ⟨q30, eq30, Kq30⟩ := Kv29
      subst eq30
      obtain ⟨d31, n32, Q33, h1v34, hdv34, hnv34, hov34, Kv34⟩ := Kq30
      refine rb_call st_X0_218_7 (rest := []) h1v34 rfl rfl (rc_rc rfl hov34) (Nat.le_of_ble_eq_true rfl) hdv34.1 hdv34.2 hnv34.1 hnv34.2 dX0_call_46 (fun o M35 hpv34 => ?_)
      obtain ⟨v34, eo, hv34, KKv34⟩ := Kv34 o M35 hpv34
      subst eo
      show rb_Bd κ mX0_call (n.1 + n2.1 + n8.1 + n14.1 + n21.1 + n32.1, n.2 + n2.2 + n8.2 + n14.2 + n21.2 + n32.2) M35 49 [some (.ref a0), some (.int a1), some (.int a2), some (.long a3), none, some (.ref q25), none, none] [v34]
      obtain ⟨q36, eq36, Kq36⟩ := KKv34
      subst eq36
      obtain ⟨ci37, ⟨fsci37, hoci37⟩, hcci37, Kci37⟩ := Kq36
      refine rb_cast q212 hoci37 hcci37 dX0_call_49 ?_
      refine rb_astore (ls' := [some (.ref a0), some (.int a1), some (.int a2), some (.long a3), none, some (.ref q25), some (.ref q36), none]) (by decide) rfl rfl (rb_isR_ref _) dX0_call_52 ?_
      refine rb_aload rfl (rb_isR_ref _) dX0_call_54 ?_
      obtain ⟨d38, n39, Q40, h1x41, hdx41, hnx41, hox41, Kx41⟩ := Kci37
      refine rb_call st_X0_228_7 (rest := []) h1x41 rfl rfl (rc_rc rfl hox41) (Nat.le_of_ble_eq_true rfl) hdx41.1 hdx41.2 hnx41.1 hnx41.2 dX0_call_56 (fun o M42 hpx41 => ?_)
      obtain ⟨x41, eo, KKx41⟩ := Kx41 o M42 hpx41
      subst eo
      show rb_Bd κ mX0_call (n.1 + n2.1 + n8.1 + n14.1 + n21.1 + n32.1 + n39.1, n.2 + n2.2 + n8.2 + n14.2 + n21.2 + n32.2 + n39.2) M42 59 [some (.ref a0), some (.int a1), some (.int a2), some (.long a3), none, some (.ref q25), some (.ref q36), none] [.int x41]
      refine rb_ifeq 64 (by decide) dX0_call_59 (fun c43 => ?_) (fun c43 => ?_)
      · skip
        refine rb_aload_n 0 rfl rfl (rb_isR_ref _) dX0_call_64 ?_
        refine rb_aload_n 0 rfl rfl (rb_isR_ref _) dX0_call_65 ?_
        refine rb_aload rfl (rb_isR_ref _) dX0_call_66 ?_
        refine rb_aload rfl (rb_isR_ref _) dX0_call_68 ?_
        refine rb_aload rfl (rb_isR_ref _) dX0_call_70 ?_
        obtain ⟨d44, n45, Q46, h1x47, hdx47, hnx47, hox47, Kx47⟩ := ((KKx41).1 c43)
        refine rb_call st_X0_201_7 (rest := [.ref q36, .ref q25, .ref a0, .ref a0]) h1x47 rfl rfl (rc_rc rfl hox47) (Nat.le_of_ble_eq_true rfl) hdx47.1 hdx47.2 hnx47.1 hnx47.2 dX0_call_72 (fun o M48 hpx47 => ?_)
        obtain ⟨x47, eo, KKx47⟩ := Kx47 o M48 hpx47
        subst eo
        show rb_Bd κ mX0_call (n.1 + n2.1 + n8.1 + n14.1 + n21.1 + n32.1 + n39.1 + n45.1, n.2 + n2.2 + n8.2 + n14.2 + n21.2 + n32.2 + n39.2 + n45.2) M48 75 [some (.ref a0), some (.int a1), some (.int a2), some (.long a3), none, some (.ref q25), some (.ref q36), none] [.int x47, .ref q36, .ref q25, .ref a0, .ref a0]
        refine rb_iconst (v := (1 : Int32)) (by decide) dX0_call_75 ?_
        refine rb_isub (z := (x47 - (1 : Int32))) rfl dX0_call_76 ?_
        refine rb_lload_n 3 rfl rfl dX0_call_77 ?_
        refine rb_iconst (v := (1 : Int32)) (by decide) dX0_call_78 ?_
        obtain ⟨d49, n50, Q51, h1x52, hdx52, hnx52, hox52, Kx52⟩ := KKx47
        refine rb_call st_X0_447_0 (rest := [.ref a0]) h1x52 rfl rfl (rc_rc rfl hox52) (Nat.le_of_ble_eq_true rfl) hdx52.1 hdx52.2 hnx52.1 hnx52.2 dX0_call_79 (fun o M53 hpx52 => ?_)
        rcases Kx52 o M53 hpx52 with ⟨x52, eo, KKx52⟩ | ⟨x52t, eo, KKx52⟩
        · subst eo
          show rb_Bd κ mX0_call (n.1 + n2.1 + n8.1 + n14.1 + n21.1 + n32.1 + n39.1 + n45.1 + n50.1, n.2 + n2.2 + n8.2 + n14.2 + n21.2 + n32.2 + n39.2 + n45.2 + n50.2) M53 82 [some (.ref a0), some (.int a1), some (.int a2), some (.long a3), none, some (.ref q25), some (.ref q36), none] [.long x52, .ref a0]
          obtain ⟨fs54, hMfs54, hlfs54, Kfs54⟩ := KKx52
          refine rb_put fl_X0_451_0 (fun q hq => by cases hq; exact Or.inl rfl) rfl rfl hMfs54 hlfs54 dX0_call_82 ?_
          refine rb_iconst (v := (0 : Int32)) (by decide) dX0_call_85 ?_
          exact rb_iret rfl rfl (Kfs54).1.1 (Kfs54).1.2 dX0_call_86 (Kfs54).2
        · subst eo
          exact KKx52
      · skip
        refine rb_iconst (v := (2 : Int32)) (by decide) dX0_call_62 ?_
        exact rb_iret rfl rfl (((KKx41).2 c43)).1.1 (((KKx41).2 c43)).1.2 dX0_call_63 (((KKx41).2 c43)).2
    · skip
      refine rb_iconst (v := (-1 : Int32)) (by decide) dX0_call_18 ?_
      exact rb_iret rfl rfl (((KKx10).2 c12)).1.1 (((KKx10).2 c12)).1.2 dX0_call_19 (((KKx10).2 c12)).2
theorem sgX0_call_87 {κ : rb_K} {n : Nat × Nat} {M : rb_H} {a0 : Nat} {a1 : Int32} {a2 : Int32} {a3 : Int64} {a5 : Value} {a6 : Value} {s0 : Value} (ha5 : rb_isR a5) (ha6 : rb_isR a6) (hs0 : rb_isR s0) (K : (∃ (d1 : Nat) (n2 : Nat × Nat) (Q3 : Outcome → rb_H → Prop), rb_Ct κ.1 yX0_noteThrown wX0_noteThrown d1 n2 [.ref a0, s0] M Q3 ∧ rb_dp κ d1 ∧ rb_rom κ (n.1 + n2.1, n.2 + n2.2) ∧ rb_ob M a0 0 ∧ ∀ (o : Outcome) (M5 : rb_H), Q3 o M5 → (o = .returned none ∧ (rb_fin κ (n.1 + n2.1, n.2 + n2.2) ∧ κ.2.2.1 (.returned (some (.int (1 : Int32)))) M5)))) : rb_Bd κ mX0_call n M 87 [some (.ref a0), some (.int a1), some (.int a2), some (.long a3), none, some a5, some a6, none] [s0] := by
  refine rb_astore (ls' := [some (.ref a0), some (.int a1), some (.int a2), some (.long a3), none, some a5, some a6, some s0]) (by decide) (by simp [rb_o1, rb_isR_cat ha6]) rfl hs0 dX0_call_87 ?_
  refine rb_aload_n 0 rfl rfl (rb_isR_ref _) dX0_call_89 ?_
  refine rb_aload rfl hs0 dX0_call_90 ?_
  obtain ⟨d1, n2, Q3, h1v4, hdv4, hnv4, hov4, Kv4⟩ := K
  refine rb_call st_X0_430_0 (rest := []) h1v4 rfl rfl (rc_rc rfl hov4) (Nat.le_of_ble_eq_true rfl) hdv4.1 hdv4.2 hnv4.1 hnv4.2 dX0_call_92 (fun o M5 hpv4 => ?_)
  obtain ⟨eo, KKv4⟩ := Kv4 o M5 hpv4
  subst eo
  show rb_Bd κ mX0_call (n.1 + n2.1, n.2 + n2.2) M5 95 [some (.ref a0), some (.int a1), some (.int a2), some (.long a3), none, some a5, some a6, some s0] []
  refine rb_iconst (v := (1 : Int32)) (by decide) dX0_call_95 ?_
  exact rb_iret rfl rfl (KKv4).1.1 (KKv4).1.2 dX0_call_96 (KKv4).2
theorem sgX0_call_97 {κ : rb_K} {n : Nat × Nat} {M : rb_H} {a0 : Nat} {a1 : Int32} {a2 : Int32} {a3 : Int64} {a5 : Value} {a6 : Value} {s0 : Value} (ha5 : rb_isR a5) (ha6 : rb_isR a6) (hs0 : rb_isR s0) (K : (∃ q1, s0 = .ref q1 ∧ (∃ (x2 : Int32), rb_rd M q1 2 6 (.int x2) ∧ (rb_fin κ n ∧ κ.2.2.1 (.returned (some (.int x2))) M)))) : rb_Bd κ mX0_call n M 97 [some (.ref a0), some (.int a1), some (.int a2), some (.long a3), none, some a5, some a6, none] [s0] := by
  refine rb_astore (ls' := [some (.ref a0), some (.int a1), some (.int a2), some (.long a3), none, some a5, some a6, some s0]) (by decide) (by simp [rb_o1, rb_isR_cat ha6]) rfl hs0 dX0_call_97 ?_
  refine rb_aload rfl hs0 dX0_call_99 ?_
  obtain ⟨q1, eq1, Kq1⟩ := K
  subst eq1
  obtain ⟨x2, hrx2, Kx2⟩ := Kq1
  refine rc_get fl_X0_40_2 hrx2 dX0_call_101 ?_
  exact rb_iret rfl rfl (Kx2).1.1 (Kx2).1.2 dX0_call_104 (Kx2).2
theorem sgX0_isThing_0 {κ : rb_K} {n : Nat × Nat} {M : rb_H} {a0 : Nat} {a1 : Int32} (K : (∃ (v1 : Value), rb_rd M a0 0 8 (v1) ∧ rb_isR v1 ∧ (∃ q2, v1 = .ref q2 ∧ (∃ (d3 : Nat) (n4 : Nat × Nat) (Q5 : Outcome → rb_H → Prop), rb_Ct κ.1 yJ4_size wJ4_size d3 n4 [.ref q2] M Q5 ∧ rb_dp κ d3 ∧ rb_rom κ (n.1 + n4.1, n.2 + n4.2) ∧ rb_ob M q2 7 ∧ ∀ (o : Outcome) (M7 : rb_H), Q5 o M7 → (∃ (x6 : Int32), o = .returned (some (.int x6)) ∧ (∃ (d8 : Nat) (n9 : Nat × Nat) (Q10 : Outcome → rb_H → Prop), rb_Ct κ.1 yX0_in wX0_in d8 n9 [.int a1, .int (0 : Int32), .int (x6 - (1 : Int32))] M7 Q10 ∧ rb_dp κ d8 ∧ rb_rom κ (n.1 + n4.1 + n9.1, n.2 + n4.2 + n9.2) ∧ ∀ (o : Outcome) (M12 : rb_H), Q10 o M12 → (∃ (x11 : Int32), o = .returned (some (.int x11)) ∧ (narrow .boolean (.int x11) = .int x11 ∧ rb_fin κ (n.1 + n4.1 + n9.1, n.2 + n4.2 + n9.2) ∧ κ.2.2.1 (.returned (some (.int x11))) M12)))))))) : rb_Bd κ mX0_isThing n M 0 [some (.ref a0), some (.int a1)] [] := by
  refine rb_iload_n 1 rfl rfl dX0_isThing_0 ?_
  refine rb_iconst (v := (0 : Int32)) (by decide) dX0_isThing_1 ?_
  refine rb_aload_n 0 rfl rfl (rb_isR_ref _) dX0_isThing_2 ?_
  obtain ⟨v1, hrv1, hv1, Kv1⟩ := K
  refine rc_get fl_X0_139_0 hrv1 dX0_isThing_3 ?_
  obtain ⟨q2, eq2, Kq2⟩ := Kv1
  subst eq2
  obtain ⟨d3, n4, Q5, h1x6, hdx6, hnx6, hox6, Kx6⟩ := Kq2
  refine rb_call st_X0_201_7 (rest := [.int (0 : Int32), .int a1]) h1x6 rfl rfl (rc_rc rfl hox6) (Nat.le_of_ble_eq_true rfl) hdx6.1 hdx6.2 hnx6.1 hnx6.2 dX0_isThing_6 (fun o M7 hpx6 => ?_)
  obtain ⟨x6, eo, KKx6⟩ := Kx6 o M7 hpx6
  subst eo
  show rb_Bd κ mX0_isThing (n.1 + n4.1, n.2 + n4.2) M7 9 [some (.ref a0), some (.int a1)] [.int x6, .int (0 : Int32), .int a1]
  refine rb_iconst (v := (1 : Int32)) (by decide) dX0_isThing_9 ?_
  refine rb_isub (z := (x6 - (1 : Int32))) rfl dX0_isThing_10 ?_
  obtain ⟨d8, n9, Q10, h1x11, hdx11, hnx11, Kx11⟩ := KKx6
  refine rb_call st_X0_45 (rest := []) h1x11 rfl rfl mm_rn (Nat.le_of_ble_eq_true rfl) hdx11.1 hdx11.2 hnx11.1 hnx11.2 dX0_isThing_11 (fun o M12 hpx11 => ?_)
  obtain ⟨x11, eo, KKx11⟩ := Kx11 o M12 hpx11
  subst eo
  show rb_Bd κ mX0_isThing (n.1 + n4.1 + n9.1, n.2 + n4.2 + n9.2) M12 14 [some (.ref a0), some (.int a1)] [.int x11]
  exact rb_iret rfl (KKx11).1 (KKx11).2.1.1 (KKx11).2.1.2 dX0_isThing_14 (KKx11).2.2
theorem sgX0_answer_0 {κ : rb_K} {n : Nat × Nat} {M : rb_H} {a0 : Nat} (K : (∃ (x1 : Int64), rb_rd M a0 0 31 (.long x1) ∧ (rb_fin κ n ∧ κ.2.2.1 (.returned (some (.long x1))) M))) : rb_Bd κ mX0_answer n M 0 [some (.ref a0)] [] := by
  refine rb_aload_n 0 rfl rfl (rb_isR_ref _) dX0_answer_0 ?_
  obtain ⟨x1, hrx1, Kx1⟩ := K
  refine rc_get fl_X0_451_0 hrx1 dX0_answer_1 ?_
  exact rb_lret rfl (Kx1).1.1 (Kx1).1.2 dX0_answer_4 (Kx1).2
theorem sgX0_threw_0 {κ : rb_K} {n : Nat × Nat} {M : rb_H} {a0 : Nat} {a1 : Int32} (K : ((¬ a1 = 0 → ((¬ a1 = (1 : Int32) → ((¬ a1 = (2 : Int32) → (rb_fin κ n ∧ κ.2.2.1 (.returned (some (.int (-1 : Int32)))) M)) ∧ (a1 = (2 : Int32) → (∃ (x4 : Int32), rb_rd M a0 0 29 (.int x4) ∧ (rb_fin κ n ∧ κ.2.2.1 (.returned (some (.int x4))) M))))) ∧ (a1 = (1 : Int32) → (∃ (x5 : Int32), rb_rd M a0 0 28 (.int x5) ∧ (rb_fin κ n ∧ κ.2.2.1 (.returned (some (.int x5))) M))))) ∧ (a1 = 0 → (∃ (x6 : Int32), rb_rd M a0 0 27 (.int x6) ∧ (rb_fin κ n ∧ κ.2.2.1 (.returned (some (.int x6))) M))))) : rb_Bd κ mX0_threw n M 0 [some (.ref a0), some (.int a1)] [] := by
  refine rb_iload_n 1 rfl rfl dX0_threw_0 ?_
  refine rb_ifne 11 (by decide) dX0_threw_1 (fun c1 => ?_) (fun c1 => ?_)
  · skip
    refine rb_iload_n 1 rfl rfl dX0_threw_11 ?_
    refine rb_iconst (v := (1 : Int32)) (by decide) dX0_threw_12 ?_
    refine rb_icne 23 (by decide) dX0_threw_13 (fun c2 => ?_) (fun c2 => ?_)
    · skip
      refine rb_iload_n 1 rfl rfl dX0_threw_23 ?_
      refine rb_iconst (v := (2 : Int32)) (by decide) dX0_threw_24 ?_
      refine rb_icne 35 (by decide) dX0_threw_25 (fun c3 => ?_) (fun c3 => ?_)
      · skip
        refine rb_iconst (v := (-1 : Int32)) (by decide) dX0_threw_35 ?_
        exact rb_iret rfl rfl (((((((K).1 c1)).1 c2)).1 c3)).1.1 (((((((K).1 c1)).1 c2)).1 c3)).1.2 dX0_threw_36 (((((((K).1 c1)).1 c2)).1 c3)).2
      · skip
        refine rb_aload_n 0 rfl rfl (rb_isR_ref _) dX0_threw_28 ?_
        obtain ⟨x4, hrx4, Kx4⟩ := ((((((K).1 c1)).1 c2)).2 c3)
        refine rc_get fl_X0_194_0 hrx4 dX0_threw_29 ?_
        refine rb_goto 36 (by decide) dX0_threw_32 ?_
        exact rb_iret rfl rfl (Kx4).1.1 (Kx4).1.2 dX0_threw_36 (Kx4).2
    · skip
      refine rb_aload_n 0 rfl rfl (rb_isR_ref _) dX0_threw_16 ?_
      obtain ⟨x5, hrx5, Kx5⟩ := ((((K).1 c1)).2 c2)
      refine rc_get fl_X0_191_0 hrx5 dX0_threw_17 ?_
      refine rb_goto 36 (by decide) dX0_threw_20 ?_
      exact rb_iret rfl rfl (Kx5).1.1 (Kx5).1.2 dX0_threw_36 (Kx5).2
  · skip
    refine rb_aload_n 0 rfl rfl (rb_isR_ref _) dX0_threw_4 ?_
    obtain ⟨x6, hrx6, Kx6⟩ := ((K).2 c1)
    refine rc_get fl_X0_188_0 hrx6 dX0_threw_5 ?_
    refine rb_goto 36 (by decide) dX0_threw_8 ?_
    exact rb_iret rfl rfl (Kx6).1.1 (Kx6).1.2 dX0_threw_36 (Kx6).2
theorem sgX0_with_0 {κ : rb_K} {n : Nat × Nat} {M : rb_H} {a0 : Nat} (K : (∃ (x1 : Int64), rb_rd M a0 0 30 (.long x1) ∧ (rb_fin κ n ∧ κ.2.2.1 (.returned (some (.long x1))) M))) : rb_Bd κ mX0_with n M 0 [some (.ref a0)] [] := by
  refine rb_aload_n 0 rfl rfl (rb_isR_ref _) dX0_with_0 ?_
  obtain ⟨x1, hrx1, Kx1⟩ := K
  refine rc_get fl_X0_370_0 hrx1 dX0_with_1 ?_
  exact rb_lret rfl (Kx1).1.1 (Kx1).1.2 dX0_with_4 (Kx1).2
theorem sgX0_ran_0 {κ : rb_K} {n : Nat × Nat} {M : rb_H} {a0 : Nat} {a1 : Int32} {a2 : Int32} (K : (∃ (d1 : Nat) (n2 : Nat × Nat) (Q3 : Outcome → rb_H → Prop), rb_Ct κ.1 yX0_in wX0_in d1 n2 [.int a2, .int (0 : Int32), .int (3 : Int32)] M Q3 ∧ rb_dp κ d1 ∧ rb_rom κ (n.1 + n2.1, n.2 + n2.2) ∧ ∀ (o : Outcome) (M5 : rb_H), Q3 o M5 → (∃ (x4 : Int32), o = .returned (some (.int x4)) ∧ ((¬ x4 = 0 → (∃ (x7 : Int32), rb_rd M5 a0 0 26 (.int x7) ∧ (∃ (d8 : Nat) (n9 : Nat × Nat) (Q10 : Outcome → rb_H → Prop), rb_Ct κ.1 yX0_in wX0_in d8 n9 [.int a1, .int (0 : Int32), .int (x7 - (1 : Int32))] M5 Q10 ∧ rb_dp κ d8 ∧ rb_rom κ (n.1 + n2.1 + n9.1, n.2 + n2.2 + n9.2) ∧ ∀ (o : Outcome) (M12 : rb_H), Q10 o M12 → (∃ (x11 : Int32), o = .returned (some (.int x11)) ∧ ((¬ x11 = 0 → (∃ (v14 : Value), rb_rd M12 a0 0 24 (v14) ∧ rb_isR v14 ∧ (∃ q15, v14 = .ref q15 ∧ (∃ (t19 N16 : Nat) (f17 : Nat → Option Nat) (v18 : Value), M12.2 q15 = some (rb_R t19 N16 f17) ∧ (3 ≤ t19 ∧ t19 ≤ 6) ∧ vp_in a1 N16 ∧ va_rf (f17 (a1).toNatClampNeg) = v18 ∧ ((¬ a2 = 0 → ((¬ a2 = (1 : Int32) → ((¬ a2 = (2 : Int32) → (∃ (v23 : Value), rb_rd M12 a0 0 25 (v23) ∧ rb_isR v23 ∧ (∃ q24, v23 = .ref q24 ∧ (∃ (N25 : Nat) (f26 : Nat → Int32) (x27 : Int32), M12.2 q24 = some (rb_I N25 f26) ∧ vp_in a1 N25 ∧ f26 (a1).toNatClampNeg = x27 ∧ (rb_fin κ (n.1 + n2.1 + n9.1, n.2 + n2.2 + n9.2) ∧ κ.2.2.1 (.returned (some (.int x27))) M12))))) ∧ (a2 = (2 : Int32) → (∃ q28, v18 = .ref q28 ∧ (∃ (x29 : Int32), rb_rd M12 q28 6 2 (.int x29) ∧ (rb_fin κ (n.1 + n2.1 + n9.1, n.2 + n2.2 + n9.2) ∧ κ.2.2.1 (.returned (some (.int x29))) M12)))))) ∧ (a2 = (1 : Int32) → (∃ q30, v18 = .ref q30 ∧ (∃ (x31 : Int32), rb_rd M12 q30 6 1 (.int x31) ∧ (rb_fin κ (n.1 + n2.1 + n9.1, n.2 + n2.2 + n9.2) ∧ κ.2.2.1 (.returned (some (.int x31))) M12)))))) ∧ (a2 = 0 → (∃ q32, v18 = .ref q32 ∧ (∃ (v33 : Value), rb_rd M12 q32 6 0 (v33) ∧ rb_isR v33 ∧ (∃ q34, v33 = .ref q34 ∧ (∃ (x35 : Int32), rb_rd M12 q34 5 0 (.int x35) ∧ (rb_fin κ (n.1 + n2.1 + n9.1, n.2 + n2.2 + n9.2) ∧ κ.2.2.1 (.returned (some (.int x35))) M12))))))))))) ∧ (x11 = 0 → (rb_fin κ (n.1 + n2.1 + n9.1, n.2 + n2.2 + n9.2) ∧ κ.2.2.1 (.returned (some (.int (-9 : Int32)))) M12))))))) ∧ (x4 = 0 → (rb_fin κ (n.1 + n2.1, n.2 + n2.2) ∧ κ.2.2.1 (.returned (some (.int (-1 : Int32)))) M5)))))) : rb_Bd κ mX0_ran n M 0 [some (.ref a0), some (.int a1), some (.int a2), none] [] := by
  refine rb_iload_n 2 rfl rfl dX0_ran_0 ?_
  refine rb_iconst (v := (0 : Int32)) (by decide) dX0_ran_1 ?_
  refine rb_iconst (v := (3 : Int32)) (by decide) dX0_ran_2 ?_
  obtain ⟨d1, n2, Q3, h1x4, hdx4, hnx4, Kx4⟩ := K
  refine rb_call st_X0_45 (rest := []) h1x4 rfl rfl mm_rn (Nat.le_of_ble_eq_true rfl) hdx4.1 hdx4.2 hnx4.1 hnx4.2 dX0_ran_3 (fun o M5 hpx4 => ?_)
  obtain ⟨x4, eo, KKx4⟩ := Kx4 o M5 hpx4
  subst eo
  show rb_Bd κ mX0_ran (n.1 + n2.1, n.2 + n2.2) M5 6 [some (.ref a0), some (.int a1), some (.int a2), none] [.int x4]
  refine rb_ifne 11 (by decide) dX0_ran_6 (fun c6 => ?_) (fun c6 => ?_)
  · skip
    refine rb_iload_n 1 rfl rfl dX0_ran_11 ?_
    refine rb_iconst (v := (0 : Int32)) (by decide) dX0_ran_12 ?_
    refine rb_aload_n 0 rfl rfl (rb_isR_ref _) dX0_ran_13 ?_
    obtain ⟨x7, hrx7, Kx7⟩ := ((KKx4).1 c6)
    refine rc_get fl_X0_367_0 hrx7 dX0_ran_14 ?_
    refine rb_iconst (v := (1 : Int32)) (by decide) dX0_ran_17 ?_
    refine rb_isub (z := (x7 - (1 : Int32))) rfl dX0_ran_18 ?_
    obtain ⟨d8, n9, Q10, h1x11, hdx11, hnx11, Kx11⟩ := Kx7
    refine rb_call st_X0_45 (rest := []) h1x11 rfl rfl mm_rn (Nat.le_of_ble_eq_true rfl) hdx11.1 hdx11.2 hnx11.1 hnx11.2 dX0_ran_19 (fun o M12 hpx11 => ?_)
    obtain ⟨x11, eo, KKx11⟩ := Kx11 o M12 hpx11
    subst eo
    show rb_Bd κ mX0_ran (n.1 + n2.1 + n9.1, n.2 + n2.2 + n9.2) M12 22 [some (.ref a0), some (.int a1), some (.int a2), none] [.int x11]
    refine rb_ifne 28 (by decide) dX0_ran_22 (fun c13 => ?_) (fun c13 => ?_)
    · skip
      refine rb_aload_n 0 rfl rfl (rb_isR_ref _) dX0_ran_28 ?_
      obtain ⟨v14, hrv14, hv14, Kv14⟩ := ((KKx11).1 c13)
      refine rc_get fl_X0_181_0 hrv14 dX0_ran_29 ?_
      refine rb_iload_n 1 rfl rfl dX0_ran_32 ?_
      obtain ⟨q15, eq15, Kq15⟩ := Kv14
      subst eq15
      obtain ⟨t19, N16, f17, v18, hMv18, htv18, hiv18, hxv18, Kv18⟩ := Kq15
      have hv18 := rc_isRf hxv18
      refine rc_aald hMv18 htv18 hiv18 hxv18 dX0_ran_33 ?_
      refine rb_astore_n 3 rfl (ls' := [some (.ref a0), some (.int a1), some (.int a2), some v18]) (by decide) rfl rfl hv18 dX0_ran_34 ?_
      refine rb_iload_n 2 rfl rfl dX0_ran_35 ?_
      refine rb_ifne 49 (by decide) dX0_ran_36 (fun c20 => ?_) (fun c20 => ?_)
      · skip
        refine rb_iload_n 2 rfl rfl dX0_ran_49 ?_
        refine rb_iconst (v := (1 : Int32)) (by decide) dX0_ran_50 ?_
        refine rb_icne 61 (by decide) dX0_ran_51 (fun c21 => ?_) (fun c21 => ?_)
        · skip
          refine rb_iload_n 2 rfl rfl dX0_ran_61 ?_
          refine rb_iconst (v := (2 : Int32)) (by decide) dX0_ran_62 ?_
          refine rb_icne 73 (by decide) dX0_ran_63 (fun c22 => ?_) (fun c22 => ?_)
          · skip
            refine rb_aload_n 0 rfl rfl (rb_isR_ref _) dX0_ran_73 ?_
            obtain ⟨v23, hrv23, hv23, Kv23⟩ := ((((((Kv18).1 c20)).1 c21)).1 c22)
            refine rc_get fl_X0_185_0 hrv23 dX0_ran_74 ?_
            refine rb_iload_n 1 rfl rfl dX0_ran_77 ?_
            obtain ⟨q24, eq24, Kq24⟩ := Kv23
            subst eq24
            obtain ⟨N25, f26, x27, hMx27, hix27, hxx27, Kx27⟩ := Kq24
            refine rc_iald hMx27 hix27 hxx27 dX0_ran_78 ?_
            exact rb_iret rfl rfl (Kx27).1.1 (Kx27).1.2 dX0_ran_79 (Kx27).2
          · skip
            refine rb_aload_n 3 rfl rfl hv18 dX0_ran_66 ?_
            obtain ⟨q28, eq28, Kq28⟩ := ((((((Kv18).1 c20)).1 c21)).2 c22)
            subst eq28
            obtain ⟨x29, hrx29, Kx29⟩ := Kq28
            refine rc_get fl_X0_454_6 hrx29 dX0_ran_67 ?_
            refine rb_goto 79 (by decide) dX0_ran_70 ?_
            exact rb_iret rfl rfl (Kx29).1.1 (Kx29).1.2 dX0_ran_79 (Kx29).2
        · skip
          refine rb_aload_n 3 rfl rfl hv18 dX0_ran_54 ?_
          obtain ⟨q30, eq30, Kq30⟩ := ((((Kv18).1 c20)).2 c21)
          subst eq30
          obtain ⟨x31, hrx31, Kx31⟩ := Kq30
          refine rc_get fl_X0_303_6 hrx31 dX0_ran_55 ?_
          refine rb_goto 79 (by decide) dX0_ran_58 ?_
          exact rb_iret rfl rfl (Kx31).1.1 (Kx31).1.2 dX0_ran_79 (Kx31).2
      · skip
        refine rb_aload_n 3 rfl rfl hv18 dX0_ran_39 ?_
        obtain ⟨q32, eq32, Kq32⟩ := ((Kv18).2 c20)
        subst eq32
        obtain ⟨v33, hrv33, hv33, Kv33⟩ := Kq32
        refine rc_get fl_X0_23_6 hrv33 dX0_ran_40 ?_
        obtain ⟨q34, eq34, Kq34⟩ := Kv33
        subst eq34
        obtain ⟨x35, hrx35, Kx35⟩ := Kq34
        refine rc_get fl_X0_272_5 hrx35 dX0_ran_43 ?_
        refine rb_goto 79 (by decide) dX0_ran_46 ?_
        exact rb_iret rfl rfl (Kx35).1.1 (Kx35).1.2 dX0_ran_79 (Kx35).2
    · skip
      refine rb_bipush (v := (-9 : Int32)) (by decide) dX0_ran_25 ?_
      exact rb_iret rfl rfl (((KKx11).2 c13)).1.1 (((KKx11).2 c13)).1.2 dX0_ran_27 (((KKx11).2 c13)).2
  · skip
    refine rb_iconst (v := (-1 : Int32)) (by decide) dX0_ran_9 ?_
    exact rb_iret rfl rfl (((KKx4).2 c6)).1.1 (((KKx4).2 c6)).1.2 dX0_ran_10 (((KKx4).2 c6)).2
theorem sgX0_marks_0 {κ : rb_K} {n : Nat × Nat} {M : rb_H} {a0 : Nat} (K : (∃ (x1 : Int32), rb_rd M a0 0 35 (.int x1) ∧ (rb_fin κ n ∧ κ.2.2.1 (.returned (some (.int x1))) M))) : rb_Bd κ mX0_marks n M 0 [some (.ref a0)] [] := by
  refine rb_aload_n 0 rfl rfl (rb_isR_ref _) dX0_marks_0 ?_
  obtain ⟨x1, hrx1, Kx1⟩ := K
  refine rc_get fl_X0_457_0 hrx1 dX0_marks_1 ?_
  exact rb_iret rfl rfl (Kx1).1.1 (Kx1).1.2 dX0_marks_4 (Kx1).2
theorem sgX0_mark_0 {κ : rb_K} {n : Nat × Nat} {M : rb_H} {a0 : Nat} {a1 : Int32} (K : (∃ (x1 : Int32), rb_rd M a0 0 35 (.int x1) ∧ (∃ (d2 : Nat) (n3 : Nat × Nat) (Q4 : Outcome → rb_H → Prop), rb_Ct κ.1 yJ6_min wJ6_min d2 n3 [.int x1, .int (100 : Int32)] M Q4 ∧ rb_dp κ d2 ∧ rb_rom κ (n.1 + n3.1, n.2 + n3.2) ∧ ∀ (o : Outcome) (M6 : rb_H), Q4 o M6 → (∃ (x5 : Int32), o = .returned (some (.int x5)) ∧ (∃ (d7 : Nat) (n8 : Nat × Nat) (Q9 : Outcome → rb_H → Prop), rb_Ct κ.1 yX0_in wX0_in d7 n8 [.int a1, .int (0 : Int32), .int (x5 - (1 : Int32))] M6 Q9 ∧ rb_dp κ d7 ∧ rb_rom κ (n.1 + n3.1 + n8.1, n.2 + n3.2 + n8.2) ∧ ∀ (o : Outcome) (M11 : rb_H), Q9 o M11 → (∃ (x10 : Int32), o = .returned (some (.int x10)) ∧ ((x10 = 0 → (rb_fin κ (n.1 + n3.1 + n8.1, n.2 + n3.2 + n8.2) ∧ κ.2.2.1 (.returned (some (.int (-9 : Int32)))) M11)) ∧ (¬ x10 = 0 → (∃ (v13 : Value), rb_rd M11 a0 0 34 (v13) ∧ rb_isR v13 ∧ (∃ q14, v13 = .ref q14 ∧ (∃ (N15 : Nat) (f16 : Nat → Int64) (x17 : Int64), M11.2 q14 = some (rb_L N15 f16) ∧ vp_in a1 N15 ∧ f16 (a1).toNatClampNeg = x17 ∧ (∃ (d18 : Nat) (n19 : Nat × Nat) (Q20 : Outcome → rb_H → Prop), rb_Ct κ.1 yX0_tells wX0_tells d18 n19 [.ref a0, .long x17] M11 Q20 ∧ rb_dp κ d18 ∧ rb_rom κ (n.1 + n3.1 + n8.1 + n19.1, n.2 + n3.2 + n8.2 + n19.2) ∧ rb_ob M11 a0 0 ∧ ∀ (o : Outcome) (M22 : rb_H), Q20 o M22 → (∃ (x21 : Int32), o = .returned (some (.int x21)) ∧ (rb_fin κ (n.1 + n3.1 + n8.1 + n19.1, n.2 + n3.2 + n8.2 + n19.2) ∧ κ.2.2.1 (.returned (some (.int x21))) M22)))))))))))))) : rb_Bd κ mX0_mark n M 0 [some (.ref a0), some (.int a1)] [] := by
  refine rb_iload_n 1 rfl rfl dX0_mark_0 ?_
  refine rb_iconst (v := (0 : Int32)) (by decide) dX0_mark_1 ?_
  refine rb_aload_n 0 rfl rfl (rb_isR_ref _) dX0_mark_2 ?_
  obtain ⟨x1, hrx1, Kx1⟩ := K
  refine rc_get fl_X0_457_0 hrx1 dX0_mark_3 ?_
  refine rb_bipush (v := (100 : Int32)) (by decide) dX0_mark_6 ?_
  obtain ⟨d2, n3, Q4, h1x5, hdx5, hnx5, Kx5⟩ := Kx1
  refine rb_call st_X0_463 (rest := [.int (0 : Int32), .int a1]) h1x5 rfl rfl mm_rn (Nat.le_of_ble_eq_true rfl) hdx5.1 hdx5.2 hnx5.1 hnx5.2 dX0_mark_8 (fun o M6 hpx5 => ?_)
  obtain ⟨x5, eo, KKx5⟩ := Kx5 o M6 hpx5
  subst eo
  show rb_Bd κ mX0_mark (n.1 + n3.1, n.2 + n3.2) M6 11 [some (.ref a0), some (.int a1)] [.int x5, .int (0 : Int32), .int a1]
  refine rb_iconst (v := (1 : Int32)) (by decide) dX0_mark_11 ?_
  refine rb_isub (z := (x5 - (1 : Int32))) rfl dX0_mark_12 ?_
  obtain ⟨d7, n8, Q9, h1x10, hdx10, hnx10, Kx10⟩ := KKx5
  refine rb_call st_X0_45 (rest := []) h1x10 rfl rfl mm_rn (Nat.le_of_ble_eq_true rfl) hdx10.1 hdx10.2 hnx10.1 hnx10.2 dX0_mark_13 (fun o M11 hpx10 => ?_)
  obtain ⟨x10, eo, KKx10⟩ := Kx10 o M11 hpx10
  subst eo
  show rb_Bd κ mX0_mark (n.1 + n3.1 + n8.1, n.2 + n3.2 + n8.2) M11 16 [some (.ref a0), some (.int a1)] [.int x10]
  refine rb_ifeq 32 (by decide) dX0_mark_16 (fun c12 => ?_) (fun c12 => ?_)
  · skip
    refine rb_bipush (v := (-9 : Int32)) (by decide) dX0_mark_32 ?_
    exact rb_iret rfl rfl (((KKx10).1 c12)).1.1 (((KKx10).1 c12)).1.2 dX0_mark_34 (((KKx10).1 c12)).2
  · skip
    refine rb_aload_n 0 rfl rfl (rb_isR_ref _) dX0_mark_19 ?_
    refine rb_aload_n 0 rfl rfl (rb_isR_ref _) dX0_mark_20 ?_
    obtain ⟨v13, hrv13, hv13, Kv13⟩ := ((KKx10).2 c12)
    refine rc_get fl_X0_197_0 hrv13 dX0_mark_21 ?_
    refine rb_iload_n 1 rfl rfl dX0_mark_24 ?_
    obtain ⟨q14, eq14, Kq14⟩ := Kv13
    subst eq14
    obtain ⟨N15, f16, x17, hMx17, hix17, hxx17, Kx17⟩ := Kq14
    refine rc_lald hMx17 hix17 hxx17 dX0_mark_25 ?_
    obtain ⟨d18, n19, Q20, h1x21, hdx21, hnx21, hox21, Kx21⟩ := Kx17
    refine rb_call st_X0_469_0 (rest := []) h1x21 rfl rfl (rc_rc rfl hox21) (Nat.le_of_ble_eq_true rfl) hdx21.1 hdx21.2 hnx21.1 hnx21.2 dX0_mark_26 (fun o M22 hpx21 => ?_)
    obtain ⟨x21, eo, KKx21⟩ := Kx21 o M22 hpx21
    subst eo
    show rb_Bd κ mX0_mark (n.1 + n3.1 + n8.1 + n19.1, n.2 + n3.2 + n8.2 + n19.2) M22 29 [some (.ref a0), some (.int a1)] [.int x21]
    refine rb_goto 34 (by decide) dX0_mark_29 ?_
    exact rb_iret rfl rfl (KKx21).1.1 (KKx21).1.2 dX0_mark_34 (KKx21).2
theorem sgX0_tells_0 {κ : rb_K} {n : Nat × Nat} {M : rb_H} {a0 : Nat} {a1 : Int64} (K : (∃ fs1, M.2 a0 = some (rb_O 0 fs1) ∧ 33 < fs1.length ∧ (rb_fin κ n ∧ κ.2.2.1 (.returned (some (.int (1 : Int32)))) (rb_up M a0 (rb_O 0 (fs1.set 33 (.long a1))))))) : rb_Bd κ mX0_tells n M 0 [some (.ref a0), some (.long a1), none] [] := by
  refine rb_aload_n 0 rfl rfl (rb_isR_ref _) dX0_tells_0 ?_
  refine rb_lload_n 1 rfl rfl dX0_tells_1 ?_
  obtain ⟨fs1, hMfs1, hlfs1, Kfs1⟩ := K
  refine rb_put fl_X0_460_0 (fun q hq => by cases hq; exact Or.inl rfl) rfl rfl hMfs1 hlfs1 dX0_tells_2 ?_
  refine rb_iconst (v := (1 : Int32)) (by decide) dX0_tells_5 ?_
  exact rb_iret rfl rfl (Kfs1).1.1 (Kfs1).1.2 dX0_tells_6 (Kfs1).2
theorem sgX0_cell_0 {κ : rb_K} {n : Nat × Nat} {M : rb_H} {a0 : Nat} {a1 : Int32} {a2 : Int32} {a3 : Int32} (K : (∃ (d1 : Nat) (n2 : Nat × Nat) (Q3 : Outcome → rb_H → Prop), rb_Ct κ.1 yX0_stateOf wX0_stateOf d1 n2 [.ref a0, .int a1, .int a2] M Q3 ∧ rb_dp κ d1 ∧ rb_rom κ (n.1 + n2.1, n.2 + n2.2) ∧ rb_ob M a0 0 ∧ ∀ (o : Outcome) (M5 : rb_H), Q3 o M5 → (∃ (v4 : Value), o = .returned (some v4) ∧ rb_isR v4 ∧ ((v4 = .null → (rb_fin κ (n.1 + n2.1, n.2 + n2.2) ∧ κ.2.2.1 (.returned (some (.int (-1 : Int32)))) M5)) ∧ (∀ q6, v4 = .ref q6 → (∃ (v7 : Value), rb_rd M5 q6 28 0 (v7) ∧ rb_isR v7 ∧ (∃ q8, v7 = .ref q8 ∧ (∃ (t9 : Nat) (y11 : vp_A) (x10 : Int32), M5.2 q8 = some (.inl (t9, y11)) ∧ t9 ≤ 6 ∧ Int32.ofNat y11.1 = x10 ∧ (∃ (d12 : Nat) (n13 : Nat × Nat) (Q14 : Outcome → rb_H → Prop), rb_Ct κ.1 yX0_in wX0_in d12 n13 [.int a3, .int (0 : Int32), .int (x10 - (1 : Int32))] M5 Q14 ∧ rb_dp κ d12 ∧ rb_rom κ (n.1 + n2.1 + n13.1, n.2 + n2.2 + n13.2) ∧ ∀ (o : Outcome) (M16 : rb_H), Q14 o M16 → (∃ (x15 : Int32), o = .returned (some (.int x15)) ∧ ((¬ x15 = 0 → (∃ (v18 : Value), rb_rd M16 q6 28 0 (v18) ∧ rb_isR v18 ∧ (∃ q19, v18 = .ref q19 ∧ (∃ (N20 : Nat) (f21 : Nat → Int64) (x22 : Int64), M16.2 q19 = some (rb_L N20 f21) ∧ vp_in a3 N20 ∧ f21 (a3).toNatClampNeg = x22 ∧ (∃ (d23 : Nat) (n24 : Nat × Nat) (Q25 : Outcome → rb_H → Prop), rb_Ct κ.1 yX0_tells wX0_tells d23 n24 [.ref a0, .long x22] M16 Q25 ∧ rb_dp κ d23 ∧ rb_rom κ (n.1 + n2.1 + n13.1 + n24.1, n.2 + n2.2 + n13.2 + n24.2) ∧ rb_ob M16 a0 0 ∧ ∀ (o : Outcome) (M27 : rb_H), Q25 o M27 → (∃ (x26 : Int32), o = .returned (some (.int x26)) ∧ (rb_fin κ (n.1 + n2.1 + n13.1 + n24.1, n.2 + n2.2 + n13.2 + n24.2) ∧ κ.2.2.1 (.returned (some (.int x26))) M27))))))) ∧ (x15 = 0 → (rb_fin κ (n.1 + n2.1 + n13.1, n.2 + n2.2 + n13.2) ∧ κ.2.2.1 (.returned (some (.int (-1 : Int32)))) M16))))))))))))) : rb_Bd κ mX0_cell n M 0 [some (.ref a0), some (.int a1), some (.int a2), some (.int a3), none] [] := by
  refine rb_aload_n 0 rfl rfl (rb_isR_ref _) dX0_cell_0 ?_
  refine rb_iload_n 1 rfl rfl dX0_cell_1 ?_
  refine rb_iload_n 2 rfl rfl dX0_cell_2 ?_
  obtain ⟨d1, n2, Q3, h1v4, hdv4, hnv4, hov4, Kv4⟩ := K
  refine rb_call st_X0_473_0 (rest := []) h1v4 rfl rfl (rc_rc rfl hov4) (Nat.le_of_ble_eq_true rfl) hdv4.1 hdv4.2 hnv4.1 hnv4.2 dX0_cell_3 (fun o M5 hpv4 => ?_)
  obtain ⟨v4, eo, hv4, KKv4⟩ := Kv4 o M5 hpv4
  subst eo
  show rb_Bd κ mX0_cell (n.1 + n2.1, n.2 + n2.2) M5 6 [some (.ref a0), some (.int a1), some (.int a2), some (.int a3), none] [v4]
  refine rb_astore (ls' := [some (.ref a0), some (.int a1), some (.int a2), some (.int a3), some v4]) (by decide) rfl rfl hv4 dX0_cell_6 ?_
  refine rb_aload rfl hv4 dX0_cell_8 ?_
  refine rb_ifnull hv4 29 (by decide) dX0_cell_10 (fun e => ?_) (fun q6 e => ?_)
  · subst e
    refine rb_iconst (v := (-1 : Int32)) (by decide) dX0_cell_29 ?_
    refine rb_goto 44 (by decide) dX0_cell_30 ?_
    exact rb_iret rfl rfl (((KKv4).1 rfl)).1.1 (((KKv4).1 rfl)).1.2 dX0_cell_44 (((KKv4).1 rfl)).2
  · subst e
    refine rb_iload_n 3 rfl rfl dX0_cell_13 ?_
    refine rb_iconst (v := (0 : Int32)) (by decide) dX0_cell_14 ?_
    refine rb_aload rfl (rb_isR_ref _) dX0_cell_15 ?_
    obtain ⟨v7, hrv7, hv7, Kv7⟩ := ((KKv4).2 q6 rfl)
    refine rc_get fl_X0_477_28 hrv7 dX0_cell_17 ?_
    obtain ⟨q8, eq8, Kq8⟩ := Kv7
    subst eq8
    obtain ⟨t9, y11, x10, hMx10, htx10, hxx10, Kx10⟩ := Kq8
    refine rb_alen hMx10 htx10 hxx10 dX0_cell_20 ?_
    refine rb_iconst (v := (1 : Int32)) (by decide) dX0_cell_21 ?_
    refine rb_isub (z := (x10 - (1 : Int32))) rfl dX0_cell_22 ?_
    obtain ⟨d12, n13, Q14, h1x15, hdx15, hnx15, Kx15⟩ := Kx10
    refine rb_call st_X0_45 (rest := []) h1x15 rfl rfl mm_rn (Nat.le_of_ble_eq_true rfl) hdx15.1 hdx15.2 hnx15.1 hnx15.2 dX0_cell_23 (fun o M16 hpx15 => ?_)
    obtain ⟨x15, eo, KKx15⟩ := Kx15 o M16 hpx15
    subst eo
    show rb_Bd κ mX0_cell (n.1 + n2.1 + n13.1, n.2 + n2.2 + n13.2) M16 26 [some (.ref a0), some (.int a1), some (.int a2), some (.int a3), some (.ref q6)] [.int x15]
    refine rb_ifne 33 (by decide) dX0_cell_26 (fun c17 => ?_) (fun c17 => ?_)
    · skip
      refine rb_aload_n 0 rfl rfl (rb_isR_ref _) dX0_cell_33 ?_
      refine rb_aload rfl (rb_isR_ref _) dX0_cell_34 ?_
      obtain ⟨v18, hrv18, hv18, Kv18⟩ := ((KKx15).1 c17)
      refine rc_get fl_X0_477_28 hrv18 dX0_cell_36 ?_
      refine rb_iload_n 3 rfl rfl dX0_cell_39 ?_
      obtain ⟨q19, eq19, Kq19⟩ := Kv18
      subst eq19
      obtain ⟨N20, f21, x22, hMx22, hix22, hxx22, Kx22⟩ := Kq19
      refine rc_lald hMx22 hix22 hxx22 dX0_cell_40 ?_
      obtain ⟨d23, n24, Q25, h1x26, hdx26, hnx26, hox26, Kx26⟩ := Kx22
      refine rb_call st_X0_469_0 (rest := []) h1x26 rfl rfl (rc_rc rfl hox26) (Nat.le_of_ble_eq_true rfl) hdx26.1 hdx26.2 hnx26.1 hnx26.2 dX0_cell_41 (fun o M27 hpx26 => ?_)
      obtain ⟨x26, eo, KKx26⟩ := Kx26 o M27 hpx26
      subst eo
      show rb_Bd κ mX0_cell (n.1 + n2.1 + n13.1 + n24.1, n.2 + n2.2 + n13.2 + n24.2) M27 44 [some (.ref a0), some (.int a1), some (.int a2), some (.int a3), some (.ref q6)] [.int x26]
      exact rb_iret rfl rfl (KKx26).1.1 (KKx26).1.2 dX0_cell_44 (KKx26).2
    · skip
      refine rb_iconst (v := (-1 : Int32)) (by decide) dX0_cell_29 ?_
      refine rb_goto 44 (by decide) dX0_cell_30 ?_
      exact rb_iret rfl rfl (((KKx15).2 c17)).1.1 (((KKx15).2 c17)).1.2 dX0_cell_44 (((KKx15).2 c17)).2
theorem sgX0_stateOf_0 {κ : rb_K} {n : Nat × Nat} {M : rb_H} {a0 : Nat} {a1 : Int32} {a2 : Int32} (K : (∃ (d1 : Nat) (n2 : Nat × Nat) (Q3 : Outcome → rb_H → Prop), rb_Ct κ.1 yX0_isThing wX0_isThing d1 n2 [.ref a0, .int a1] M Q3 ∧ rb_dp κ d1 ∧ rb_rom κ (n.1 + n2.1, n.2 + n2.2) ∧ rb_ob M a0 0 ∧ ∀ (o : Outcome) (M5 : rb_H), Q3 o M5 → (∃ (x4 : Int32), o = .returned (some (.int x4)) ∧ ((x4 = 0 → (rb_fin κ (n.1 + n2.1, n.2 + n2.2) ∧ κ.2.2.1 (.returned (some (.null))) M5)) ∧ (¬ x4 = 0 → (∃ (d7 : Nat) (n8 : Nat × Nat) (Q9 : Outcome → rb_H → Prop), rb_Ct κ.1 yX0_isPart wX0_isPart d7 n8 [.ref a0, .int a2] M5 Q9 ∧ rb_dp κ d7 ∧ rb_rom κ (n.1 + n2.1 + n8.1, n.2 + n2.2 + n8.2) ∧ rb_ob M5 a0 0 ∧ ∀ (o : Outcome) (M11 : rb_H), Q9 o M11 → (∃ (x10 : Int32), o = .returned (some (.int x10)) ∧ ((¬ x10 = 0 → (∃ (v13 : Value), rb_rd M11 a0 0 8 (v13) ∧ rb_isR v13 ∧ (∃ q14, v13 = .ref q14 ∧ (∃ (d15 : Nat) (n16 : Nat × Nat) (Q17 : Outcome → rb_H → Prop), rb_Ct κ.1 yJ4_get wJ4_get d15 n16 [.ref q14, .int a1] M11 Q17 ∧ rb_dp κ d15 ∧ rb_rom κ (n.1 + n2.1 + n8.1 + n16.1, n.2 + n2.2 + n8.2 + n16.2) ∧ rb_ob M11 q14 7 ∧ ∀ (o : Outcome) (M19 : rb_H), Q17 o M19 → (∃ (v18 : Value), o = .returned (some v18) ∧ rb_isR v18 ∧ (∃ q20, v18 = .ref q20 ∧ (∃ ci21, rb_ob M19 q20 ci21 ∧ rb_CC ci21 "RoleLoom$Thing" ∧ (∃ (v22 : Value), rb_rd M19 q20 29 1 (v22) ∧ rb_isR v22 ∧ (∃ q23, v22 = .ref q23 ∧ (∃ (v24 : Value), rb_rd M19 q23 27 1 (v24) ∧ rb_isR v24 ∧ (∃ (v25 : Value), rb_rd M19 a0 0 2 (v25) ∧ rb_isR v25 ∧ (∃ q26, v25 = .ref q26 ∧ (∃ (d27 : Nat) (n28 : Nat × Nat) (Q29 : Outcome → rb_H → Prop), rb_Ct κ.1 yJ4_get wJ4_get d27 n28 [.ref q26, .int a2] M19 Q29 ∧ rb_dp κ d27 ∧ rb_rom κ (n.1 + n2.1 + n8.1 + n16.1 + n28.1, n.2 + n2.2 + n8.2 + n16.2 + n28.2) ∧ rb_ob M19 q26 7 ∧ ∀ (o : Outcome) (M31 : rb_H), Q29 o M31 → (∃ (v30 : Value), o = .returned (some v30) ∧ rb_isR v30 ∧ (∃ q32, v24 = .ref q32 ∧ (∃ (d33 : Nat) (n34 : Nat × Nat) (Q35 : Outcome → rb_H → Prop), rb_Ct κ.1 yJ4_indexOf wJ4_indexOf d33 n34 [.ref q32, v30] M31 Q35 ∧ rb_dp κ d33 ∧ rb_rom κ (n.1 + n2.1 + n8.1 + n16.1 + n28.1 + n34.1, n.2 + n2.2 + n8.2 + n16.2 + n28.2 + n34.2) ∧ rb_ob M31 q32 7 ∧ ∀ (o : Outcome) (M37 : rb_H), Q35 o M37 → (∃ (x36 : Int32), o = .returned (some (.int x36)) ∧ ((0 ≤ x36 → (∃ (v39 : Value), rb_rd M37 q20 29 2 (v39) ∧ rb_isR v39 ∧ (∃ q40, v39 = .ref q40 ∧ (∃ (d41 : Nat) (n42 : Nat × Nat) (Q43 : Outcome → rb_H → Prop), rb_Ct κ.1 yJ4_get wJ4_get d41 n42 [.ref q40, .int x36] M37 Q43 ∧ rb_dp κ d41 ∧ rb_rom κ (n.1 + n2.1 + n8.1 + n16.1 + n28.1 + n34.1 + n42.1, n.2 + n2.2 + n8.2 + n16.2 + n28.2 + n34.2 + n42.2) ∧ rb_ob M37 q40 7 ∧ ∀ (o : Outcome) (M45 : rb_H), Q43 o M45 → (∃ (v44 : Value), o = .returned (some v44) ∧ rb_isR v44 ∧ (∃ q46, v44 = .ref q46 ∧ (∃ ci47, rb_ob M45 q46 ci47 ∧ rb_CC ci47 "RoleLoom$State" ∧ (rb_fin κ (n.1 + n2.1 + n8.1 + n16.1 + n28.1 + n34.1 + n42.1, n.2 + n2.2 + n8.2 + n16.2 + n28.2 + n34.2 + n42.2) ∧ κ.2.2.1 (.returned (some (.ref q46))) M45)))))))) ∧ (x36 < 0 → (rb_fin κ (n.1 + n2.1 + n8.1 + n16.1 + n28.1 + n34.1, n.2 + n2.2 + n8.2 + n16.2 + n28.2 + n34.2) ∧ κ.2.2.1 (.returned (some (.null))) M37)))))))))))))))))))) ∧ (x10 = 0 → (rb_fin κ (n.1 + n2.1 + n8.1, n.2 + n2.2 + n8.2) ∧ κ.2.2.1 (.returned (some (.null))) M11)))))))))) : rb_Bd κ mX0_stateOf n M 0 [some (.ref a0), some (.int a1), some (.int a2), none, none] [] := by
  refine rb_aload_n 0 rfl rfl (rb_isR_ref _) dX0_stateOf_0 ?_
  refine rb_iload_n 1 rfl rfl dX0_stateOf_1 ?_
  obtain ⟨d1, n2, Q3, h1x4, hdx4, hnx4, hox4, Kx4⟩ := K
  refine rb_call st_X0_444_0 (rest := []) h1x4 rfl rfl (rc_rc rfl hox4) (Nat.le_of_ble_eq_true rfl) hdx4.1 hdx4.2 hnx4.1 hnx4.2 dX0_stateOf_2 (fun o M5 hpx4 => ?_)
  obtain ⟨x4, eo, KKx4⟩ := Kx4 o M5 hpx4
  subst eo
  show rb_Bd κ mX0_stateOf (n.1 + n2.1, n.2 + n2.2) M5 5 [some (.ref a0), some (.int a1), some (.int a2), none, none] [.int x4]
  refine rb_ifeq 16 (by decide) dX0_stateOf_5 (fun c6 => ?_) (fun c6 => ?_)
  · skip
    refine rb_null dX0_stateOf_16 ?_
    exact rb_aret rfl (Or.inl ⟨_, rfl⟩) rb_isR_null (((KKx4).1 c6)).1.1 (((KKx4).1 c6)).1.2 dX0_stateOf_17 (((KKx4).1 c6)).2
  · skip
    refine rb_aload_n 0 rfl rfl (rb_isR_ref _) dX0_stateOf_8 ?_
    refine rb_iload_n 2 rfl rfl dX0_stateOf_9 ?_
    obtain ⟨d7, n8, Q9, h1x10, hdx10, hnx10, hox10, Kx10⟩ := ((KKx4).2 c6)
    refine rb_call st_X0_214_0 (rest := []) h1x10 rfl rfl (rc_rc rfl hox10) (Nat.le_of_ble_eq_true rfl) hdx10.1 hdx10.2 hnx10.1 hnx10.2 dX0_stateOf_10 (fun o M11 hpx10 => ?_)
    obtain ⟨x10, eo, KKx10⟩ := Kx10 o M11 hpx10
    subst eo
    show rb_Bd κ mX0_stateOf (n.1 + n2.1 + n8.1, n.2 + n2.2 + n8.2) M11 13 [some (.ref a0), some (.int a1), some (.int a2), none, none] [.int x10]
    refine rb_ifne 18 (by decide) dX0_stateOf_13 (fun c12 => ?_) (fun c12 => ?_)
    · skip
      refine rb_aload_n 0 rfl rfl (rb_isR_ref _) dX0_stateOf_18 ?_
      obtain ⟨v13, hrv13, hv13, Kv13⟩ := ((KKx10).1 c12)
      refine rc_get fl_X0_139_0 hrv13 dX0_stateOf_19 ?_
      refine rb_iload_n 1 rfl rfl dX0_stateOf_22 ?_
      obtain ⟨q14, eq14, Kq14⟩ := Kv13
      subst eq14
      obtain ⟨d15, n16, Q17, h1v18, hdv18, hnv18, hov18, Kv18⟩ := Kq14
      refine rb_call st_X0_218_7 (rest := []) h1v18 rfl rfl (rc_rc rfl hov18) (Nat.le_of_ble_eq_true rfl) hdv18.1 hdv18.2 hnv18.1 hnv18.2 dX0_stateOf_23 (fun o M19 hpv18 => ?_)
      obtain ⟨v18, eo, hv18, KKv18⟩ := Kv18 o M19 hpv18
      subst eo
      show rb_Bd κ mX0_stateOf (n.1 + n2.1 + n8.1 + n16.1, n.2 + n2.2 + n8.2 + n16.2) M19 26 [some (.ref a0), some (.int a1), some (.int a2), none, none] [v18]
      obtain ⟨q20, eq20, Kq20⟩ := KKv18
      subst eq20
      obtain ⟨ci21, ⟨fsci21, hoci21⟩, hcci21, Kci21⟩ := Kq20
      refine rb_cast q1401 hoci21 hcci21 dX0_stateOf_26 ?_
      refine rb_astore_n 3 rfl (ls' := [some (.ref a0), some (.int a1), some (.int a2), some (.ref q20), none]) (by decide) rfl rfl (rb_isR_ref _) dX0_stateOf_29 ?_
      refine rb_aload_n 3 rfl rfl (rb_isR_ref _) dX0_stateOf_30 ?_
      obtain ⟨v22, hrv22, hv22, Kv22⟩ := Kci21
      refine rc_get fl_X0_386_29 hrv22 dX0_stateOf_31 ?_
      obtain ⟨q23, eq23, Kq23⟩ := Kv22
      subst eq23
      obtain ⟨v24, hrv24, hv24, Kv24⟩ := Kq23
      refine rc_get fl_X0_291_27 hrv24 dX0_stateOf_34 ?_
      refine rb_aload_n 0 rfl rfl (rb_isR_ref _) dX0_stateOf_37 ?_
      obtain ⟨v25, hrv25, hv25, Kv25⟩ := Kv24
      refine rc_get fl_X0_125_0 hrv25 dX0_stateOf_38 ?_
      refine rb_iload_n 2 rfl rfl dX0_stateOf_41 ?_
      obtain ⟨q26, eq26, Kq26⟩ := Kv25
      subst eq26
      obtain ⟨d27, n28, Q29, h1v30, hdv30, hnv30, hov30, Kv30⟩ := Kq26
      refine rb_call st_X0_218_7 (rest := [v24]) h1v30 rfl rfl (rc_rc rfl hov30) (by simp [rb_isR_cat hv24, rb_cR, rb_cI, rb_cJ, rb_cN]) hdv30.1 hdv30.2 hnv30.1 hnv30.2 dX0_stateOf_42 (fun o M31 hpv30 => ?_)
      obtain ⟨v30, eo, hv30, KKv30⟩ := Kv30 o M31 hpv30
      subst eo
      show rb_Bd κ mX0_stateOf (n.1 + n2.1 + n8.1 + n16.1 + n28.1, n.2 + n2.2 + n8.2 + n16.2 + n28.2) M31 45 [some (.ref a0), some (.int a1), some (.int a2), some (.ref q20), none] [v30, v24]
      obtain ⟨q32, eq32, Kq32⟩ := KKv30
      subst eq32
      obtain ⟨d33, n34, Q35, h1x36, hdx36, hnx36, hox36, Kx36⟩ := Kq32
      refine rb_call st_X0_390_7 (rest := []) h1x36 rfl rfl (rc_rc rfl hox36) (Nat.le_of_ble_eq_true rfl) hdx36.1 hdx36.2 hnx36.1 hnx36.2 dX0_stateOf_45 (fun o M37 hpx36 => ?_)
      obtain ⟨x36, eo, KKx36⟩ := Kx36 o M37 hpx36
      subst eo
      show rb_Bd κ mX0_stateOf (n.1 + n2.1 + n8.1 + n16.1 + n28.1 + n34.1, n.2 + n2.2 + n8.2 + n16.2 + n28.2 + n34.2) M37 48 [some (.ref a0), some (.int a1), some (.int a2), some (.ref q20), none] [.int x36]
      refine rb_istore (ls' := [some (.ref a0), some (.int a1), some (.int a2), some (.ref q20), some (.int x36)]) (by decide) rfl rfl dX0_stateOf_48 ?_
      refine rb_iload rfl dX0_stateOf_50 ?_
      refine rb_ifge 59 (by decide) dX0_stateOf_52 (fun c38 => ?_) (fun c38 => ?_)
      · skip
        refine rb_aload_n 3 rfl rfl (rb_isR_ref _) dX0_stateOf_59 ?_
        obtain ⟨v39, hrv39, hv39, Kv39⟩ := ((KKx36).1 c38)
        refine rc_get fl_X0_381_29 hrv39 dX0_stateOf_60 ?_
        refine rb_iload rfl dX0_stateOf_63 ?_
        obtain ⟨q40, eq40, Kq40⟩ := Kv39
        subst eq40
        obtain ⟨d41, n42, Q43, h1v44, hdv44, hnv44, hov44, Kv44⟩ := Kq40
        refine rb_call st_X0_218_7 (rest := []) h1v44 rfl rfl (rc_rc rfl hov44) (Nat.le_of_ble_eq_true rfl) hdv44.1 hdv44.2 hnv44.1 hnv44.2 dX0_stateOf_65 (fun o M45 hpv44 => ?_)
        obtain ⟨v44, eo, hv44, KKv44⟩ := Kv44 o M45 hpv44
        subst eo
        show rb_Bd κ mX0_stateOf (n.1 + n2.1 + n8.1 + n16.1 + n28.1 + n34.1 + n42.1, n.2 + n2.2 + n8.2 + n16.2 + n28.2 + n34.2 + n42.2) M45 68 [some (.ref a0), some (.int a1), some (.int a2), some (.ref q20), some (.int x36)] [v44]
        obtain ⟨q46, eq46, Kq46⟩ := KKv44
        subst eq46
        obtain ⟨ci47, ⟨fsci47, hoci47⟩, hcci47, Kci47⟩ := Kq46
        refine rb_cast q1245 hoci47 hcci47 dX0_stateOf_68 ?_
        exact rb_aret rfl (Or.inl ⟨_, rfl⟩) (rb_isR_ref _) (Kci47).1.1 (Kci47).1.2 dX0_stateOf_71 (Kci47).2
      · skip
        refine rb_null dX0_stateOf_55 ?_
        refine rb_goto 71 (by decide) dX0_stateOf_56 ?_
        exact rb_aret rfl (Or.inl ⟨_, rfl⟩) rb_isR_null (((KKx36).2 c38)).1.1 (((KKx36).2 c38)).1.2 dX0_stateOf_71 (((KKx36).2 c38)).2
    · skip
      refine rb_null dX0_stateOf_16 ?_
      exact rb_aret rfl (Or.inl ⟨_, rfl⟩) rb_isR_null (((KKx10).2 c12)).1.1 (((KKx10).2 c12)).1.2 dX0_stateOf_17 (((KKx10).2 c12)).2
theorem sgX0_row_0 {κ : rb_K} {n : Nat × Nat} {M : rb_H} {a0 : Nat} {a1 : Int32} {a2 : Int32} {a3 : Int32} {a4 : Int32} (K : (∃ (d1 : Nat) (n2 : Nat × Nat) (Q3 : Outcome → rb_H → Prop), rb_Ct κ.1 yX0_stateOf wX0_stateOf d1 n2 [.ref a0, .int a1, .int a2] M Q3 ∧ rb_dp κ d1 ∧ rb_rom κ (n.1 + n2.1, n.2 + n2.2) ∧ rb_ob M a0 0 ∧ ∀ (o : Outcome) (M5 : rb_H), Q3 o M5 → (∃ (v4 : Value), o = .returned (some v4) ∧ rb_isR v4 ∧ ((v4 = .null → (rb_fin κ (n.1 + n2.1, n.2 + n2.2) ∧ κ.2.2.1 (.returned (some (.int (-1 : Int32)))) M5)) ∧ (∀ q6, v4 = .ref q6 → (∃ (v7 : Value), rb_rd M5 a0 0 2 (v7) ∧ rb_isR v7 ∧ (∃ q8, v7 = .ref q8 ∧ (∃ (d9 : Nat) (n10 : Nat × Nat) (Q11 : Outcome → rb_H → Prop), rb_Ct κ.1 yJ4_get wJ4_get d9 n10 [.ref q8, .int a2] M5 Q11 ∧ rb_dp κ d9 ∧ rb_rom κ (n.1 + n2.1 + n10.1, n.2 + n2.2 + n10.2) ∧ rb_ob M5 q8 7 ∧ ∀ (o : Outcome) (M13 : rb_H), Q11 o M13 → (∃ (v12 : Value), o = .returned (some v12) ∧ rb_isR v12 ∧ (∃ q14, v12 = .ref q14 ∧ (∃ ci15, rb_ob M13 q14 ci15 ∧ rb_CC ci15 "RoleLoom$Part" ∧ (∃ (x16 : Int32), rb_rd M13 q14 5 2 (.int x16) ∧ (∃ (d17 : Nat) (n18 : Nat × Nat) (Q19 : Outcome → rb_H → Prop), rb_Ct κ.1 yX0_in wX0_in d17 n18 [.int a3, .int (0 : Int32), .int (x16 - (1 : Int32))] M13 Q19 ∧ rb_dp κ d17 ∧ rb_rom κ (n.1 + n2.1 + n10.1 + n18.1, n.2 + n2.2 + n10.2 + n18.2) ∧ ∀ (o : Outcome) (M21 : rb_H), Q19 o M21 → (∃ (x20 : Int32), o = .returned (some (.int x20)) ∧ ((¬ x20 = 0 → (∃ (v23 : Value), rb_rd M21 q6 28 2 (v23) ∧ rb_isR v23 ∧ (∃ q24, v23 = .ref q24 ∧ (∃ (N25 : Nat) (f26 : Nat → Int32) (x27 : Int32), M21.2 q24 = some (rb_I N25 f26) ∧ vp_in a3 N25 ∧ f26 (a3).toNatClampNeg = x27 ∧ ((x27 < 0 → (rb_fin κ (n.1 + n2.1 + n10.1 + n18.1, n.2 + n2.2 + n10.2 + n18.2) ∧ κ.2.2.1 (.returned (some (.int (-9 : Int32)))) M21)) ∧ (0 ≤ x27 → (∃ (v29 : Value), rb_rd M21 q6 28 2 (v29) ∧ rb_isR v29 ∧ (∃ q30, v29 = .ref q30 ∧ (∃ (N31 : Nat) (f32 : Nat → Int32) (x33 : Int32), M21.2 q30 = some (rb_I N31 f32) ∧ vp_in a3 N31 ∧ f32 (a3).toNatClampNeg = x33 ∧ (∃ (d34 : Nat) (n35 : Nat × Nat) (Q36 : Outcome → rb_H → Prop), rb_Ct κ.1 yX0_in wX0_in d34 n35 [.int a4, .int (-1 : Int32), .int (x33 - (1 : Int32))] M21 Q36 ∧ rb_dp κ d34 ∧ rb_rom κ (n.1 + n2.1 + n10.1 + n18.1 + n35.1, n.2 + n2.2 + n10.2 + n18.2 + n35.2) ∧ ∀ (o : Outcome) (M38 : rb_H), Q36 o M38 → (∃ (x37 : Int32), o = .returned (some (.int x37)) ∧ ((¬ x37 = 0 → ((¬ a4 = (-1 : Int32) → (∃ (v41 : Value), rb_rd M38 q6 28 1 (v41) ∧ rb_isR v41 ∧ (∃ q42, v41 = .ref q42 ∧ (∃ (N43 : Nat) (f44 : Nat → Int64) (x45 : Int64), M38.2 q42 = some (rb_L N43 f44) ∧ vp_in (((12 : Int32) * a3) + a4) N43 ∧ f44 ((((12 : Int32) * a3) + a4)).toNatClampNeg = x45 ∧ (∃ (d46 : Nat) (n47 : Nat × Nat) (Q48 : Outcome → rb_H → Prop), rb_Ct κ.1 yX0_tells wX0_tells d46 n47 [.ref a0, .long x45] M38 Q48 ∧ rb_dp κ d46 ∧ rb_rom κ (n.1 + n2.1 + n10.1 + n18.1 + n35.1 + n47.1, n.2 + n2.2 + n10.2 + n18.2 + n35.2 + n47.2) ∧ rb_ob M38 a0 0 ∧ ∀ (o : Outcome) (M50 : rb_H), Q48 o M50 → (∃ (x49 : Int32), o = .returned (some (.int x49)) ∧ (rb_fin κ (n.1 + n2.1 + n10.1 + n18.1 + n35.1 + n47.1, n.2 + n2.2 + n10.2 + n18.2 + n35.2 + n47.2) ∧ κ.2.2.1 (.returned (some (.int x49))) M50))))))) ∧ (a4 = (-1 : Int32) → (∃ (v51 : Value), rb_rd M38 q6 28 2 (v51) ∧ rb_isR v51 ∧ (∃ q52, v51 = .ref q52 ∧ (∃ (N53 : Nat) (f54 : Nat → Int32) (x55 : Int32), M38.2 q52 = some (rb_I N53 f54) ∧ vp_in a3 N53 ∧ f54 (a3).toNatClampNeg = x55 ∧ (∃ (d56 : Nat) (n57 : Nat × Nat) (Q58 : Outcome → rb_H → Prop), rb_Ct κ.1 yX0_tells wX0_tells d56 n57 [.ref a0, .long (x55).toInt64] M38 Q58 ∧ rb_dp κ d56 ∧ rb_rom κ (n.1 + n2.1 + n10.1 + n18.1 + n35.1 + n57.1, n.2 + n2.2 + n10.2 + n18.2 + n35.2 + n57.2) ∧ rb_ob M38 a0 0 ∧ ∀ (o : Outcome) (M60 : rb_H), Q58 o M60 → (∃ (x59 : Int32), o = .returned (some (.int x59)) ∧ (rb_fin κ (n.1 + n2.1 + n10.1 + n18.1 + n35.1 + n57.1, n.2 + n2.2 + n10.2 + n18.2 + n35.2 + n57.2) ∧ κ.2.2.1 (.returned (some (.int x59))) M60))))))))) ∧ (x37 = 0 → (rb_fin κ (n.1 + n2.1 + n10.1 + n18.1 + n35.1, n.2 + n2.2 + n10.2 + n18.2 + n35.2) ∧ κ.2.2.1 (.returned (some (.int (-9 : Int32)))) M38)))))))))))))) ∧ (x20 = 0 → (rb_fin κ (n.1 + n2.1 + n10.1 + n18.1, n.2 + n2.2 + n10.2 + n18.2) ∧ κ.2.2.1 (.returned (some (.int (-1 : Int32)))) M21))))))))))))))))) : rb_Bd κ mX0_row n M 0 [some (.ref a0), some (.int a1), some (.int a2), some (.int a3), some (.int a4), none] [] := by
  refine rb_aload_n 0 rfl rfl (rb_isR_ref _) dX0_row_0 ?_
  refine rb_iload_n 1 rfl rfl dX0_row_1 ?_
  refine rb_iload_n 2 rfl rfl dX0_row_2 ?_
  obtain ⟨d1, n2, Q3, h1v4, hdv4, hnv4, hov4, Kv4⟩ := K
  refine rb_call st_X0_473_0 (rest := []) h1v4 rfl rfl (rc_rc rfl hov4) (Nat.le_of_ble_eq_true rfl) hdv4.1 hdv4.2 hnv4.1 hnv4.2 dX0_row_3 (fun o M5 hpv4 => ?_)
  obtain ⟨v4, eo, hv4, KKv4⟩ := Kv4 o M5 hpv4
  subst eo
  show rb_Bd κ mX0_row (n.1 + n2.1, n.2 + n2.2) M5 6 [some (.ref a0), some (.int a1), some (.int a2), some (.int a3), some (.int a4), none] [v4]
  refine rb_astore (ls' := [some (.ref a0), some (.int a1), some (.int a2), some (.int a3), some (.int a4), some v4]) (by decide) rfl rfl hv4 dX0_row_6 ?_
  refine rb_aload rfl hv4 dX0_row_8 ?_
  refine rb_ifnull hv4 37 (by decide) dX0_row_10 (fun e => ?_) (fun q6 e => ?_)
  · subst e
    refine rb_iconst (v := (-1 : Int32)) (by decide) dX0_row_37 ?_
    exact rb_iret rfl rfl (((KKv4).1 rfl)).1.1 (((KKv4).1 rfl)).1.2 dX0_row_38 (((KKv4).1 rfl)).2
  · subst e
    refine rb_iload_n 3 rfl rfl dX0_row_13 ?_
    refine rb_iconst (v := (0 : Int32)) (by decide) dX0_row_14 ?_
    refine rb_aload_n 0 rfl rfl (rb_isR_ref _) dX0_row_15 ?_
    obtain ⟨v7, hrv7, hv7, Kv7⟩ := ((KKv4).2 q6 rfl)
    refine rc_get fl_X0_125_0 hrv7 dX0_row_16 ?_
    refine rb_iload_n 2 rfl rfl dX0_row_19 ?_
    obtain ⟨q8, eq8, Kq8⟩ := Kv7
    subst eq8
    obtain ⟨d9, n10, Q11, h1v12, hdv12, hnv12, hov12, Kv12⟩ := Kq8
    refine rb_call st_X0_218_7 (rest := [.int (0 : Int32), .int a3]) h1v12 rfl rfl (rc_rc rfl hov12) (Nat.le_of_ble_eq_true rfl) hdv12.1 hdv12.2 hnv12.1 hnv12.2 dX0_row_20 (fun o M13 hpv12 => ?_)
    obtain ⟨v12, eo, hv12, KKv12⟩ := Kv12 o M13 hpv12
    subst eo
    show rb_Bd κ mX0_row (n.1 + n2.1 + n10.1, n.2 + n2.2 + n10.2) M13 23 [some (.ref a0), some (.int a1), some (.int a2), some (.int a3), some (.int a4), some (.ref q6)] [v12, .int (0 : Int32), .int a3]
    obtain ⟨q14, eq14, Kq14⟩ := KKv12
    subst eq14
    obtain ⟨ci15, ⟨fsci15, hoci15⟩, hcci15, Kci15⟩ := Kq14
    refine rb_cast q416 hoci15 hcci15 dX0_row_23 ?_
    obtain ⟨x16, hrx16, Kx16⟩ := Kci15
    refine rc_get fl_X0_480_5 hrx16 dX0_row_26 ?_
    refine rb_iconst (v := (1 : Int32)) (by decide) dX0_row_29 ?_
    refine rb_isub (z := (x16 - (1 : Int32))) rfl dX0_row_30 ?_
    obtain ⟨d17, n18, Q19, h1x20, hdx20, hnx20, Kx20⟩ := Kx16
    refine rb_call st_X0_45 (rest := []) h1x20 rfl rfl mm_rn (Nat.le_of_ble_eq_true rfl) hdx20.1 hdx20.2 hnx20.1 hnx20.2 dX0_row_31 (fun o M21 hpx20 => ?_)
    obtain ⟨x20, eo, KKx20⟩ := Kx20 o M21 hpx20
    subst eo
    show rb_Bd κ mX0_row (n.1 + n2.1 + n10.1 + n18.1, n.2 + n2.2 + n10.2 + n18.2) M21 34 [some (.ref a0), some (.int a1), some (.int a2), some (.int a3), some (.int a4), some (.ref q6)] [.int x20]
    refine rb_ifne 39 (by decide) dX0_row_34 (fun c22 => ?_) (fun c22 => ?_)
    · skip
      refine rb_aload rfl (rb_isR_ref _) dX0_row_39 ?_
      obtain ⟨v23, hrv23, hv23, Kv23⟩ := ((KKx20).1 c22)
      refine rc_get fl_X0_483_28 hrv23 dX0_row_41 ?_
      refine rb_iload_n 3 rfl rfl dX0_row_44 ?_
      obtain ⟨q24, eq24, Kq24⟩ := Kv23
      subst eq24
      obtain ⟨N25, f26, x27, hMx27, hix27, hxx27, Kx27⟩ := Kq24
      refine rc_iald hMx27 hix27 hxx27 dX0_row_45 ?_
      refine rb_iflt 67 (by decide) dX0_row_46 (fun c28 => ?_) (fun c28 => ?_)
      · skip
        refine rb_bipush (v := (-9 : Int32)) (by decide) dX0_row_67 ?_
        exact rb_iret rfl rfl (((Kx27).1 c28)).1.1 (((Kx27).1 c28)).1.2 dX0_row_69 (((Kx27).1 c28)).2
      · skip
        refine rb_iload rfl dX0_row_49 ?_
        refine rb_iconst (v := (-1 : Int32)) (by decide) dX0_row_51 ?_
        refine rb_aload rfl (rb_isR_ref _) dX0_row_52 ?_
        obtain ⟨v29, hrv29, hv29, Kv29⟩ := ((Kx27).2 c28)
        refine rc_get fl_X0_483_28 hrv29 dX0_row_54 ?_
        refine rb_iload_n 3 rfl rfl dX0_row_57 ?_
        obtain ⟨q30, eq30, Kq30⟩ := Kv29
        subst eq30
        obtain ⟨N31, f32, x33, hMx33, hix33, hxx33, Kx33⟩ := Kq30
        refine rc_iald hMx33 hix33 hxx33 dX0_row_58 ?_
        refine rb_iconst (v := (1 : Int32)) (by decide) dX0_row_59 ?_
        refine rb_isub (z := (x33 - (1 : Int32))) rfl dX0_row_60 ?_
        obtain ⟨d34, n35, Q36, h1x37, hdx37, hnx37, Kx37⟩ := Kx33
        refine rb_call st_X0_45 (rest := []) h1x37 rfl rfl mm_rn (Nat.le_of_ble_eq_true rfl) hdx37.1 hdx37.2 hnx37.1 hnx37.2 dX0_row_61 (fun o M38 hpx37 => ?_)
        obtain ⟨x37, eo, KKx37⟩ := Kx37 o M38 hpx37
        subst eo
        show rb_Bd κ mX0_row (n.1 + n2.1 + n10.1 + n18.1 + n35.1, n.2 + n2.2 + n10.2 + n18.2 + n35.2) M38 64 [some (.ref a0), some (.int a1), some (.int a2), some (.int a3), some (.int a4), some (.ref q6)] [.int x37]
        refine rb_ifne 70 (by decide) dX0_row_64 (fun c39 => ?_) (fun c39 => ?_)
        · skip
          refine rb_aload_n 0 rfl rfl (rb_isR_ref _) dX0_row_70 ?_
          refine rb_iload rfl dX0_row_71 ?_
          refine rb_iconst (v := (-1 : Int32)) (by decide) dX0_row_73 ?_
          refine rb_icne 88 (by decide) dX0_row_74 (fun c40 => ?_) (fun c40 => ?_)
          · skip
            refine rb_aload rfl (rb_isR_ref _) dX0_row_88 ?_
            obtain ⟨v41, hrv41, hv41, Kv41⟩ := ((((KKx37).1 c39)).1 c40)
            refine rc_get fl_X0_486_28 hrv41 dX0_row_90 ?_
            refine rb_bipush (v := (12 : Int32)) (by decide) dX0_row_93 ?_
            refine rb_iload_n 3 rfl rfl dX0_row_95 ?_
            refine rb_imul (z := ((12 : Int32) * a3)) rfl dX0_row_96 ?_
            refine rb_iload rfl dX0_row_97 ?_
            refine rb_iadd (z := (((12 : Int32) * a3) + a4)) rfl dX0_row_99 ?_
            obtain ⟨q42, eq42, Kq42⟩ := Kv41
            subst eq42
            obtain ⟨N43, f44, x45, hMx45, hix45, hxx45, Kx45⟩ := Kq42
            refine rc_lald hMx45 hix45 hxx45 dX0_row_100 ?_
            obtain ⟨d46, n47, Q48, h1x49, hdx49, hnx49, hox49, Kx49⟩ := Kx45
            refine rb_call st_X0_469_0 (rest := []) h1x49 rfl rfl (rc_rc rfl hox49) (Nat.le_of_ble_eq_true rfl) hdx49.1 hdx49.2 hnx49.1 hnx49.2 dX0_row_101 (fun o M50 hpx49 => ?_)
            obtain ⟨x49, eo, KKx49⟩ := Kx49 o M50 hpx49
            subst eo
            show rb_Bd κ mX0_row (n.1 + n2.1 + n10.1 + n18.1 + n35.1 + n47.1, n.2 + n2.2 + n10.2 + n18.2 + n35.2 + n47.2) M50 104 [some (.ref a0), some (.int a1), some (.int a2), some (.int a3), some (.int a4), some (.ref q6)] [.int x49]
            exact rb_iret rfl rfl (KKx49).1.1 (KKx49).1.2 dX0_row_104 (KKx49).2
          · skip
            refine rb_aload rfl (rb_isR_ref _) dX0_row_77 ?_
            obtain ⟨v51, hrv51, hv51, Kv51⟩ := ((((KKx37).1 c39)).2 c40)
            refine rc_get fl_X0_483_28 hrv51 dX0_row_79 ?_
            refine rb_iload_n 3 rfl rfl dX0_row_82 ?_
            obtain ⟨q52, eq52, Kq52⟩ := Kv51
            subst eq52
            obtain ⟨N53, f54, x55, hMx55, hix55, hxx55, Kx55⟩ := Kq52
            refine rc_iald hMx55 hix55 hxx55 dX0_row_83 ?_
            refine rb_i2l (z := (x55).toInt64) rfl dX0_row_84 ?_
            refine rb_goto 101 (by decide) dX0_row_85 ?_
            obtain ⟨d56, n57, Q58, h1x59, hdx59, hnx59, hox59, Kx59⟩ := Kx55
            refine rb_call st_X0_469_0 (rest := []) h1x59 rfl rfl (rc_rc rfl hox59) (Nat.le_of_ble_eq_true rfl) hdx59.1 hdx59.2 hnx59.1 hnx59.2 dX0_row_101 (fun o M60 hpx59 => ?_)
            obtain ⟨x59, eo, KKx59⟩ := Kx59 o M60 hpx59
            subst eo
            show rb_Bd κ mX0_row (n.1 + n2.1 + n10.1 + n18.1 + n35.1 + n57.1, n.2 + n2.2 + n10.2 + n18.2 + n35.2 + n57.2) M60 104 [some (.ref a0), some (.int a1), some (.int a2), some (.int a3), some (.int a4), some (.ref q6)] [.int x59]
            exact rb_iret rfl rfl (KKx59).1.1 (KKx59).1.2 dX0_row_104 (KKx59).2
        · skip
          refine rb_bipush (v := (-9 : Int32)) (by decide) dX0_row_67 ?_
          exact rb_iret rfl rfl (((KKx37).2 c39)).1.1 (((KKx37).2 c39)).1.2 dX0_row_69 (((KKx37).2 c39)).2
    · skip
      refine rb_iconst (v := (-1 : Int32)) (by decide) dX0_row_37 ?_
      exact rb_iret rfl rfl (((KKx20).2 c22)).1.1 (((KKx20).2 c22)).1.2 dX0_row_38 (((KKx20).2 c22)).2
theorem sgX0_hold_0 {κ : rb_K} {n : Nat × Nat} {M : rb_H} {a0 : Nat} {a1 : Int32} {a2 : Int32} {a3 : Int32} {a4 : Int32} (K : (∃ (d1 : Nat) (n2 : Nat × Nat) (Q3 : Outcome → rb_H → Prop), rb_Ct κ.1 yX0_stateOf wX0_stateOf d1 n2 [.ref a0, .int a1, .int a2] M Q3 ∧ rb_dp κ d1 ∧ rb_rom κ (n.1 + n2.1, n.2 + n2.2) ∧ rb_ob M a0 0 ∧ ∀ (o : Outcome) (M5 : rb_H), Q3 o M5 → (∃ (v4 : Value), o = .returned (some v4) ∧ rb_isR v4 ∧ ((v4 = .null → (rb_fin κ (n.1 + n2.1, n.2 + n2.2) ∧ κ.2.2.1 (.returned (some (.int (-1 : Int32)))) M5)) ∧ (∀ q6, v4 = .ref q6 → (∃ (v7 : Value), rb_rd M5 a0 0 2 (v7) ∧ rb_isR v7 ∧ (∃ q8, v7 = .ref q8 ∧ (∃ (d9 : Nat) (n10 : Nat × Nat) (Q11 : Outcome → rb_H → Prop), rb_Ct κ.1 yJ4_get wJ4_get d9 n10 [.ref q8, .int a2] M5 Q11 ∧ rb_dp κ d9 ∧ rb_rom κ (n.1 + n2.1 + n10.1, n.2 + n2.2 + n10.2) ∧ rb_ob M5 q8 7 ∧ ∀ (o : Outcome) (M13 : rb_H), Q11 o M13 → (∃ (v12 : Value), o = .returned (some v12) ∧ rb_isR v12 ∧ (∃ q14, v12 = .ref q14 ∧ (∃ ci15, rb_ob M13 q14 ci15 ∧ rb_CC ci15 "RoleLoom$Part" ∧ (∃ (x16 : Int32), rb_rd M13 q14 5 3 (.int x16) ∧ (∃ (d17 : Nat) (n18 : Nat × Nat) (Q19 : Outcome → rb_H → Prop), rb_Ct κ.1 yX0_in wX0_in d17 n18 [.int a3, .int (0 : Int32), .int (x16 - (1 : Int32))] M13 Q19 ∧ rb_dp κ d17 ∧ rb_rom κ (n.1 + n2.1 + n10.1 + n18.1, n.2 + n2.2 + n10.2 + n18.2) ∧ ∀ (o : Outcome) (M21 : rb_H), Q19 o M21 → (∃ (x20 : Int32), o = .returned (some (.int x20)) ∧ ((x20 = 0 → (rb_fin κ (n.1 + n2.1 + n10.1 + n18.1, n.2 + n2.2 + n10.2 + n18.2) ∧ κ.2.2.1 (.returned (some (.int (-1 : Int32)))) M21)) ∧ (¬ x20 = 0 → ((a4 = (-9 : Int32) → (∃ (v24 : Value), rb_rd M21 q6 28 3 (v24) ∧ rb_isR v24 ∧ (∃ q25, v24 = .ref q25 ∧ (∃ (t29 N26 : Nat) (f27 : Nat → Option Nat) (v28 : Value), M21.2 q25 = some (rb_R t29 N26 f27) ∧ (3 ≤ t29 ∧ t29 ≤ 6) ∧ vp_in a3 N26 ∧ va_rf (f27 (a3).toNatClampNeg) = v28 ∧ ((v28 = .null → (∃ (v59 : Value), rb_rd M21 q6 28 3 (v59) ∧ rb_isR v59 ∧ ((¬ a4 = (-9 : Int32) → (∃ (v61 : Value), rb_rd M21 a0 0 8 (v61) ∧ rb_isR v61 ∧ (∃ q62, v61 = .ref q62 ∧ (∃ (d63 : Nat) (n64 : Nat × Nat) (Q65 : Outcome → rb_H → Prop), rb_Ct κ.1 yJ4_get wJ4_get d63 n64 [.ref q62, .int a4] M21 Q65 ∧ rb_dp κ d63 ∧ rb_rom κ (n.1 + n2.1 + n10.1 + n18.1 + n64.1, n.2 + n2.2 + n10.2 + n18.2 + n64.2) ∧ rb_ob M21 q62 7 ∧ ∀ (o : Outcome) (M67 : rb_H), Q65 o M67 → (∃ (v66 : Value), o = .returned (some v66) ∧ rb_isR v66 ∧ (∃ q68, v66 = .ref q68 ∧ (∃ ci69, rb_ob M67 q68 ci69 ∧ rb_CC ci69 "RoleLoom$Thing" ∧ (∃ q70, v59 = .ref q70 ∧ (∃ (t71 N72 ci74 : Nat) (f73 : Nat → Option Nat), M67.2 q70 = some (rb_R t71 N72 f73) ∧ (3 ≤ t71 ∧ t71 ≤ 6) ∧ vp_in a3 N72 ∧ rb_ob M67 q68 ci74 ∧ rb_AS ci74 t71 ∧ (rb_fin κ (n.1 + n2.1 + n10.1 + n18.1 + n64.1, n.2 + n2.2 + n10.2 + n18.2 + n64.2) ∧ κ.2.2.1 (.returned (some (.int (-9 : Int32)))) (rb_up M67 q70 (rb_R t71 N72 (va_up f73 (a3).toNatClampNeg (some q68)))))))))))))) ∧ (a4 = (-9 : Int32) → (∃ q75, v59 = .ref q75 ∧ (∃ (t76 N77 : Nat) (f78 : Nat → Option Nat), M21.2 q75 = some (rb_R t76 N77 f78) ∧ (3 ≤ t76 ∧ t76 ≤ 6) ∧ vp_in a3 N77 ∧ (rb_fin κ (n.1 + n2.1 + n10.1 + n18.1, n.2 + n2.2 + n10.2 + n18.2) ∧ κ.2.2.1 (.returned (some (.int (-9 : Int32)))) (rb_up M21 q75 (rb_R t76 N77 (va_up f78 (a3).toNatClampNeg none)))))))))) ∧ (∀ q30, v28 = .ref q30 → (∃ (v31 : Value), rb_rd M21 q6 28 3 (v31) ∧ rb_isR v31 ∧ (∃ q32, v31 = .ref q32 ∧ (∃ (t36 N33 : Nat) (f34 : Nat → Option Nat) (v35 : Value), M21.2 q32 = some (rb_R t36 N33 f34) ∧ (3 ≤ t36 ∧ t36 ≤ 6) ∧ vp_in a3 N33 ∧ va_rf (f34 (a3).toNatClampNeg) = v35 ∧ (∃ q37, v35 = .ref q37 ∧ (∃ (x38 : Int32), rb_rd M21 q37 29 0 (.int x38) ∧ (∃ (v39 : Value), rb_rd M21 q6 28 3 (v39) ∧ rb_isR v39 ∧ ((¬ a4 = (-9 : Int32) → (∃ (v41 : Value), rb_rd M21 a0 0 8 (v41) ∧ rb_isR v41 ∧ (∃ q42, v41 = .ref q42 ∧ (∃ (d43 : Nat) (n44 : Nat × Nat) (Q45 : Outcome → rb_H → Prop), rb_Ct κ.1 yJ4_get wJ4_get d43 n44 [.ref q42, .int a4] M21 Q45 ∧ rb_dp κ d43 ∧ rb_rom κ (n.1 + n2.1 + n10.1 + n18.1 + n44.1, n.2 + n2.2 + n10.2 + n18.2 + n44.2) ∧ rb_ob M21 q42 7 ∧ ∀ (o : Outcome) (M47 : rb_H), Q45 o M47 → (∃ (v46 : Value), o = .returned (some v46) ∧ rb_isR v46 ∧ (∃ q48, v46 = .ref q48 ∧ (∃ ci49, rb_ob M47 q48 ci49 ∧ rb_CC ci49 "RoleLoom$Thing" ∧ (∃ q50, v39 = .ref q50 ∧ (∃ (t51 N52 ci54 : Nat) (f53 : Nat → Option Nat), M47.2 q50 = some (rb_R t51 N52 f53) ∧ (3 ≤ t51 ∧ t51 ≤ 6) ∧ vp_in a3 N52 ∧ rb_ob M47 q48 ci54 ∧ rb_AS ci54 t51 ∧ (rb_fin κ (n.1 + n2.1 + n10.1 + n18.1 + n44.1, n.2 + n2.2 + n10.2 + n18.2 + n44.2) ∧ κ.2.2.1 (.returned (some (.int x38))) (rb_up M47 q50 (rb_R t51 N52 (va_up f53 (a3).toNatClampNeg (some q48)))))))))))))) ∧ (a4 = (-9 : Int32) → (∃ q55, v39 = .ref q55 ∧ (∃ (t56 N57 : Nat) (f58 : Nat → Option Nat), M21.2 q55 = some (rb_R t56 N57 f58) ∧ (3 ≤ t56 ∧ t56 ≤ 6) ∧ vp_in a3 N57 ∧ (rb_fin κ (n.1 + n2.1 + n10.1 + n18.1, n.2 + n2.2 + n10.2 + n18.2) ∧ κ.2.2.1 (.returned (some (.int x38))) (rb_up M21 q55 (rb_R t56 N57 (va_up f58 (a3).toNatClampNeg none)))))))))))))))))))) ∧ (¬ a4 = (-9 : Int32) → (∃ (d79 : Nat) (n80 : Nat × Nat) (Q81 : Outcome → rb_H → Prop), rb_Ct κ.1 yX0_isThing wX0_isThing d79 n80 [.ref a0, .int a4] M21 Q81 ∧ rb_dp κ d79 ∧ rb_rom κ (n.1 + n2.1 + n10.1 + n18.1 + n80.1, n.2 + n2.2 + n10.2 + n18.2 + n80.2) ∧ rb_ob M21 a0 0 ∧ ∀ (o : Outcome) (M83 : rb_H), Q81 o M83 → (∃ (x82 : Int32), o = .returned (some (.int x82)) ∧ ((¬ x82 = 0 → (∃ (v85 : Value), rb_rd M83 q6 28 3 (v85) ∧ rb_isR v85 ∧ (∃ q86, v85 = .ref q86 ∧ (∃ (t90 N87 : Nat) (f88 : Nat → Option Nat) (v89 : Value), M83.2 q86 = some (rb_R t90 N87 f88) ∧ (3 ≤ t90 ∧ t90 ≤ 6) ∧ vp_in a3 N87 ∧ va_rf (f88 (a3).toNatClampNeg) = v89 ∧ ((v89 = .null → (∃ (v120 : Value), rb_rd M83 q6 28 3 (v120) ∧ rb_isR v120 ∧ ((¬ a4 = (-9 : Int32) → (∃ (v122 : Value), rb_rd M83 a0 0 8 (v122) ∧ rb_isR v122 ∧ (∃ q123, v122 = .ref q123 ∧ (∃ (d124 : Nat) (n125 : Nat × Nat) (Q126 : Outcome → rb_H → Prop), rb_Ct κ.1 yJ4_get wJ4_get d124 n125 [.ref q123, .int a4] M83 Q126 ∧ rb_dp κ d124 ∧ rb_rom κ (n.1 + n2.1 + n10.1 + n18.1 + n80.1 + n125.1, n.2 + n2.2 + n10.2 + n18.2 + n80.2 + n125.2) ∧ rb_ob M83 q123 7 ∧ ∀ (o : Outcome) (M128 : rb_H), Q126 o M128 → (∃ (v127 : Value), o = .returned (some v127) ∧ rb_isR v127 ∧ (∃ q129, v127 = .ref q129 ∧ (∃ ci130, rb_ob M128 q129 ci130 ∧ rb_CC ci130 "RoleLoom$Thing" ∧ (∃ q131, v120 = .ref q131 ∧ (∃ (t132 N133 ci135 : Nat) (f134 : Nat → Option Nat), M128.2 q131 = some (rb_R t132 N133 f134) ∧ (3 ≤ t132 ∧ t132 ≤ 6) ∧ vp_in a3 N133 ∧ rb_ob M128 q129 ci135 ∧ rb_AS ci135 t132 ∧ (rb_fin κ (n.1 + n2.1 + n10.1 + n18.1 + n80.1 + n125.1, n.2 + n2.2 + n10.2 + n18.2 + n80.2 + n125.2) ∧ κ.2.2.1 (.returned (some (.int (-9 : Int32)))) (rb_up M128 q131 (rb_R t132 N133 (va_up f134 (a3).toNatClampNeg (some q129)))))))))))))) ∧ (a4 = (-9 : Int32) → (∃ q136, v120 = .ref q136 ∧ (∃ (t137 N138 : Nat) (f139 : Nat → Option Nat), M83.2 q136 = some (rb_R t137 N138 f139) ∧ (3 ≤ t137 ∧ t137 ≤ 6) ∧ vp_in a3 N138 ∧ (rb_fin κ (n.1 + n2.1 + n10.1 + n18.1 + n80.1, n.2 + n2.2 + n10.2 + n18.2 + n80.2) ∧ κ.2.2.1 (.returned (some (.int (-9 : Int32)))) (rb_up M83 q136 (rb_R t137 N138 (va_up f139 (a3).toNatClampNeg none)))))))))) ∧ (∀ q91, v89 = .ref q91 → (∃ (v92 : Value), rb_rd M83 q6 28 3 (v92) ∧ rb_isR v92 ∧ (∃ q93, v92 = .ref q93 ∧ (∃ (t97 N94 : Nat) (f95 : Nat → Option Nat) (v96 : Value), M83.2 q93 = some (rb_R t97 N94 f95) ∧ (3 ≤ t97 ∧ t97 ≤ 6) ∧ vp_in a3 N94 ∧ va_rf (f95 (a3).toNatClampNeg) = v96 ∧ (∃ q98, v96 = .ref q98 ∧ (∃ (x99 : Int32), rb_rd M83 q98 29 0 (.int x99) ∧ (∃ (v100 : Value), rb_rd M83 q6 28 3 (v100) ∧ rb_isR v100 ∧ ((¬ a4 = (-9 : Int32) → (∃ (v102 : Value), rb_rd M83 a0 0 8 (v102) ∧ rb_isR v102 ∧ (∃ q103, v102 = .ref q103 ∧ (∃ (d104 : Nat) (n105 : Nat × Nat) (Q106 : Outcome → rb_H → Prop), rb_Ct κ.1 yJ4_get wJ4_get d104 n105 [.ref q103, .int a4] M83 Q106 ∧ rb_dp κ d104 ∧ rb_rom κ (n.1 + n2.1 + n10.1 + n18.1 + n80.1 + n105.1, n.2 + n2.2 + n10.2 + n18.2 + n80.2 + n105.2) ∧ rb_ob M83 q103 7 ∧ ∀ (o : Outcome) (M108 : rb_H), Q106 o M108 → (∃ (v107 : Value), o = .returned (some v107) ∧ rb_isR v107 ∧ (∃ q109, v107 = .ref q109 ∧ (∃ ci110, rb_ob M108 q109 ci110 ∧ rb_CC ci110 "RoleLoom$Thing" ∧ (∃ q111, v100 = .ref q111 ∧ (∃ (t112 N113 ci115 : Nat) (f114 : Nat → Option Nat), M108.2 q111 = some (rb_R t112 N113 f114) ∧ (3 ≤ t112 ∧ t112 ≤ 6) ∧ vp_in a3 N113 ∧ rb_ob M108 q109 ci115 ∧ rb_AS ci115 t112 ∧ (rb_fin κ (n.1 + n2.1 + n10.1 + n18.1 + n80.1 + n105.1, n.2 + n2.2 + n10.2 + n18.2 + n80.2 + n105.2) ∧ κ.2.2.1 (.returned (some (.int x99))) (rb_up M108 q111 (rb_R t112 N113 (va_up f114 (a3).toNatClampNeg (some q109)))))))))))))) ∧ (a4 = (-9 : Int32) → (∃ q116, v100 = .ref q116 ∧ (∃ (t117 N118 : Nat) (f119 : Nat → Option Nat), M83.2 q116 = some (rb_R t117 N118 f119) ∧ (3 ≤ t117 ∧ t117 ≤ 6) ∧ vp_in a3 N118 ∧ (rb_fin κ (n.1 + n2.1 + n10.1 + n18.1 + n80.1, n.2 + n2.2 + n10.2 + n18.2 + n80.2) ∧ κ.2.2.1 (.returned (some (.int x99))) (rb_up M83 q116 (rb_R t117 N118 (va_up f119 (a3).toNatClampNeg none)))))))))))))))))))) ∧ (x82 = 0 → (rb_fin κ (n.1 + n2.1 + n10.1 + n18.1 + n80.1, n.2 + n2.2 + n10.2 + n18.2 + n80.2) ∧ κ.2.2.1 (.returned (some (.int (-1 : Int32)))) M83))))))))))))))))))))))) : rb_Bd κ mX0_hold n M 0 [some (.ref a0), some (.int a1), some (.int a2), some (.int a3), some (.int a4), none, none] [] := by
  refine rb_aload_n 0 rfl rfl (rb_isR_ref _) dX0_hold_0 ?_
  refine rb_iload_n 1 rfl rfl dX0_hold_1 ?_
  refine rb_iload_n 2 rfl rfl dX0_hold_2 ?_
  obtain ⟨d1, n2, Q3, h1v4, hdv4, hnv4, hov4, Kv4⟩ := K
  refine rb_call st_X0_473_0 (rest := []) h1v4 rfl rfl (rc_rc rfl hov4) (Nat.le_of_ble_eq_true rfl) hdv4.1 hdv4.2 hnv4.1 hnv4.2 dX0_hold_3 (fun o M5 hpv4 => ?_)
  obtain ⟨v4, eo, hv4, KKv4⟩ := Kv4 o M5 hpv4
  subst eo
  show rb_Bd κ mX0_hold (n.1 + n2.1, n.2 + n2.2) M5 6 [some (.ref a0), some (.int a1), some (.int a2), some (.int a3), some (.int a4), none, none] [v4]
  refine rb_astore (ls' := [some (.ref a0), some (.int a1), some (.int a2), some (.int a3), some (.int a4), some v4, none]) (by decide) rfl rfl hv4 dX0_hold_6 ?_
  refine rb_aload rfl hv4 dX0_hold_8 ?_
  refine rb_ifnull hv4 53 (by decide) dX0_hold_10 (fun e => ?_) (fun q6 e => ?_)
  · subst e
    refine rb_iconst (v := (-1 : Int32)) (by decide) dX0_hold_53 ?_
    exact rb_iret rfl rfl (((KKv4).1 rfl)).1.1 (((KKv4).1 rfl)).1.2 dX0_hold_54 (((KKv4).1 rfl)).2
  · subst e
    refine rb_iload_n 3 rfl rfl dX0_hold_13 ?_
    refine rb_iconst (v := (0 : Int32)) (by decide) dX0_hold_14 ?_
    refine rb_aload_n 0 rfl rfl (rb_isR_ref _) dX0_hold_15 ?_
    obtain ⟨v7, hrv7, hv7, Kv7⟩ := ((KKv4).2 q6 rfl)
    refine rc_get fl_X0_125_0 hrv7 dX0_hold_16 ?_
    refine rb_iload_n 2 rfl rfl dX0_hold_19 ?_
    obtain ⟨q8, eq8, Kq8⟩ := Kv7
    subst eq8
    obtain ⟨d9, n10, Q11, h1v12, hdv12, hnv12, hov12, Kv12⟩ := Kq8
    refine rb_call st_X0_218_7 (rest := [.int (0 : Int32), .int a3]) h1v12 rfl rfl (rc_rc rfl hov12) (Nat.le_of_ble_eq_true rfl) hdv12.1 hdv12.2 hnv12.1 hnv12.2 dX0_hold_20 (fun o M13 hpv12 => ?_)
    obtain ⟨v12, eo, hv12, KKv12⟩ := Kv12 o M13 hpv12
    subst eo
    show rb_Bd κ mX0_hold (n.1 + n2.1 + n10.1, n.2 + n2.2 + n10.2) M13 23 [some (.ref a0), some (.int a1), some (.int a2), some (.int a3), some (.int a4), some (.ref q6), none] [v12, .int (0 : Int32), .int a3]
    obtain ⟨q14, eq14, Kq14⟩ := KKv12
    subst eq14
    obtain ⟨ci15, ⟨fsci15, hoci15⟩, hcci15, Kci15⟩ := Kq14
    refine rb_cast q416 hoci15 hcci15 dX0_hold_23 ?_
    obtain ⟨x16, hrx16, Kx16⟩ := Kci15
    refine rc_get fl_X0_488_5 hrx16 dX0_hold_26 ?_
    refine rb_iconst (v := (1 : Int32)) (by decide) dX0_hold_29 ?_
    refine rb_isub (z := (x16 - (1 : Int32))) rfl dX0_hold_30 ?_
    obtain ⟨d17, n18, Q19, h1x20, hdx20, hnx20, Kx20⟩ := Kx16
    refine rb_call st_X0_45 (rest := []) h1x20 rfl rfl mm_rn (Nat.le_of_ble_eq_true rfl) hdx20.1 hdx20.2 hnx20.1 hnx20.2 dX0_hold_31 (fun o M21 hpx20 => ?_)
    obtain ⟨x20, eo, KKx20⟩ := Kx20 o M21 hpx20
    subst eo
    show rb_Bd κ mX0_hold (n.1 + n2.1 + n10.1 + n18.1, n.2 + n2.2 + n10.2 + n18.2) M21 34 [some (.ref a0), some (.int a1), some (.int a2), some (.int a3), some (.int a4), some (.ref q6), none] [.int x20]
    refine rb_ifeq 53 (by decide) dX0_hold_34 (fun c22 => ?_) (fun c22 => ?_)
    · skip
      refine rb_iconst (v := (-1 : Int32)) (by decide) dX0_hold_53 ?_
      exact rb_iret rfl rfl (((KKx20).1 c22)).1.1 (((KKx20).1 c22)).1.2 dX0_hold_54 (((KKx20).1 c22)).2
    · skip
      refine rb_iload rfl dX0_hold_37 ?_
      refine rb_bipush (v := (-9 : Int32)) (by decide) dX0_hold_39 ?_
      refine rb_iceq 55 (by decide) dX0_hold_41 (fun c23 => ?_) (fun c23 => ?_)
      · skip
        refine rb_aload rfl (rb_isR_ref _) dX0_hold_55 ?_
        obtain ⟨v24, hrv24, hv24, Kv24⟩ := ((((KKx20).2 c22)).1 c23)
        refine rc_get fl_X0_491_28 hrv24 dX0_hold_57 ?_
        refine rb_iload_n 3 rfl rfl dX0_hold_60 ?_
        obtain ⟨q25, eq25, Kq25⟩ := Kv24
        subst eq25
        obtain ⟨t29, N26, f27, v28, hMv28, htv28, hiv28, hxv28, Kv28⟩ := Kq25
        have hv28 := rc_isRf hxv28
        refine rc_aald hMv28 htv28 hiv28 hxv28 dX0_hold_61 ?_
        refine rb_ifnonnull hv28 70 (by decide) dX0_hold_62 (fun q30 e => ?_) (fun e => ?_)
        · subst e
          refine rb_aload rfl (rb_isR_ref _) dX0_hold_70 ?_
          obtain ⟨v31, hrv31, hv31, Kv31⟩ := ((Kv28).2 q30 rfl)
          refine rc_get fl_X0_491_28 hrv31 dX0_hold_72 ?_
          refine rb_iload_n 3 rfl rfl dX0_hold_75 ?_
          obtain ⟨q32, eq32, Kq32⟩ := Kv31
          subst eq32
          obtain ⟨t36, N33, f34, v35, hMv35, htv35, hiv35, hxv35, Kv35⟩ := Kq32
          have hv35 := rc_isRf hxv35
          refine rc_aald hMv35 htv35 hiv35 hxv35 dX0_hold_76 ?_
          obtain ⟨q37, eq37, Kq37⟩ := Kv35
          subst eq37
          obtain ⟨x38, hrx38, Kx38⟩ := Kq37
          refine rc_get fl_X0_443_29 hrx38 dX0_hold_77 ?_
          refine rb_istore (ls' := [some (.ref a0), some (.int a1), some (.int a2), some (.int a3), some (.int a4), some (.ref q6), some (.int x38)]) (by decide) rfl rfl dX0_hold_80 ?_
          refine rb_aload rfl (rb_isR_ref _) dX0_hold_82 ?_
          obtain ⟨v39, hrv39, hv39, Kv39⟩ := Kx38
          refine rc_get fl_X0_491_28 hrv39 dX0_hold_84 ?_
          refine rb_iload_n 3 rfl rfl dX0_hold_87 ?_
          refine rb_iload rfl dX0_hold_88 ?_
          refine rb_bipush (v := (-9 : Int32)) (by decide) dX0_hold_90 ?_
          refine rb_icne 99 (by decide) dX0_hold_92 (fun c40 => ?_) (fun c40 => ?_)
          · skip
            refine rb_aload_n 0 rfl rfl (rb_isR_ref _) dX0_hold_99 ?_
            obtain ⟨v41, hrv41, hv41, Kv41⟩ := ((Kv39).1 c40)
            refine rc_get fl_X0_139_0 hrv41 dX0_hold_100 ?_
            refine rb_iload rfl dX0_hold_103 ?_
            obtain ⟨q42, eq42, Kq42⟩ := Kv41
            subst eq42
            obtain ⟨d43, n44, Q45, h1v46, hdv46, hnv46, hov46, Kv46⟩ := Kq42
            refine rb_call st_X0_218_7 (rest := [.int a3, v39]) h1v46 rfl rfl (rc_rc rfl hov46) (by simp [rb_isR_cat hv39, rb_cR, rb_cI, rb_cJ, rb_cN]) hdv46.1 hdv46.2 hnv46.1 hnv46.2 dX0_hold_105 (fun o M47 hpv46 => ?_)
            obtain ⟨v46, eo, hv46, KKv46⟩ := Kv46 o M47 hpv46
            subst eo
            show rb_Bd κ mX0_hold (n.1 + n2.1 + n10.1 + n18.1 + n44.1, n.2 + n2.2 + n10.2 + n18.2 + n44.2) M47 108 [some (.ref a0), some (.int a1), some (.int a2), some (.int a3), some (.int a4), some (.ref q6), some (.int x38)] [v46, .int a3, v39]
            obtain ⟨q48, eq48, Kq48⟩ := KKv46
            subst eq48
            obtain ⟨ci49, ⟨fsci49, hoci49⟩, hcci49, Kci49⟩ := Kq48
            refine rb_cast q1401 hoci49 hcci49 dX0_hold_108 ?_
            obtain ⟨q50, eq50, Kq50⟩ := Kci49
            subst eq50
            obtain ⟨t51, N52, ci54, f53, hMf53, htf53, hif53, ⟨fsf53, hof53⟩, haf53, Kf53⟩ := Kq50
            refine rb_aast hMf53 htf53.1 htf53.2 hof53 haf53 hif53 dX0_hold_111 ?_
            refine rb_iload rfl dX0_hold_112 ?_
            exact rb_iret rfl rfl (Kf53).1.1 (Kf53).1.2 dX0_hold_114 (Kf53).2
          · skip
            refine rb_null dX0_hold_95 ?_
            refine rb_goto 111 (by decide) dX0_hold_96 ?_
            obtain ⟨q55, eq55, Kq55⟩ := ((Kv39).2 c40)
            subst eq55
            obtain ⟨t56, N57, f58, hMf58, htf58, hif58, Kf58⟩ := Kq55
            refine rb_aastN hMf58 htf58.1 htf58.2 hif58 dX0_hold_111 ?_
            refine rb_iload rfl dX0_hold_112 ?_
            exact rb_iret rfl rfl (Kf58).1.1 (Kf58).1.2 dX0_hold_114 (Kf58).2
        · subst e
          refine rb_bipush (v := (-9 : Int32)) (by decide) dX0_hold_65 ?_
          refine rb_goto 80 (by decide) dX0_hold_67 ?_
          refine rb_istore (ls' := [some (.ref a0), some (.int a1), some (.int a2), some (.int a3), some (.int a4), some (.ref q6), some (.int (-9 : Int32))]) (by decide) rfl rfl dX0_hold_80 ?_
          refine rb_aload rfl (rb_isR_ref _) dX0_hold_82 ?_
          obtain ⟨v59, hrv59, hv59, Kv59⟩ := ((Kv28).1 rfl)
          refine rc_get fl_X0_491_28 hrv59 dX0_hold_84 ?_
          refine rb_iload_n 3 rfl rfl dX0_hold_87 ?_
          refine rb_iload rfl dX0_hold_88 ?_
          refine rb_bipush (v := (-9 : Int32)) (by decide) dX0_hold_90 ?_
          refine rb_icne 99 (by decide) dX0_hold_92 (fun c60 => ?_) (fun c60 => ?_)
          · skip
            refine rb_aload_n 0 rfl rfl (rb_isR_ref _) dX0_hold_99 ?_
            obtain ⟨v61, hrv61, hv61, Kv61⟩ := ((Kv59).1 c60)
            refine rc_get fl_X0_139_0 hrv61 dX0_hold_100 ?_
            refine rb_iload rfl dX0_hold_103 ?_
            obtain ⟨q62, eq62, Kq62⟩ := Kv61
            subst eq62
            obtain ⟨d63, n64, Q65, h1v66, hdv66, hnv66, hov66, Kv66⟩ := Kq62
            refine rb_call st_X0_218_7 (rest := [.int a3, v59]) h1v66 rfl rfl (rc_rc rfl hov66) (by simp [rb_isR_cat hv59, rb_cR, rb_cI, rb_cJ, rb_cN]) hdv66.1 hdv66.2 hnv66.1 hnv66.2 dX0_hold_105 (fun o M67 hpv66 => ?_)
            obtain ⟨v66, eo, hv66, KKv66⟩ := Kv66 o M67 hpv66
            subst eo
            show rb_Bd κ mX0_hold (n.1 + n2.1 + n10.1 + n18.1 + n64.1, n.2 + n2.2 + n10.2 + n18.2 + n64.2) M67 108 [some (.ref a0), some (.int a1), some (.int a2), some (.int a3), some (.int a4), some (.ref q6), some (.int (-9 : Int32))] [v66, .int a3, v59]
            obtain ⟨q68, eq68, Kq68⟩ := KKv66
            subst eq68
            obtain ⟨ci69, ⟨fsci69, hoci69⟩, hcci69, Kci69⟩ := Kq68
            refine rb_cast q1401 hoci69 hcci69 dX0_hold_108 ?_
            obtain ⟨q70, eq70, Kq70⟩ := Kci69
            subst eq70
            obtain ⟨t71, N72, ci74, f73, hMf73, htf73, hif73, ⟨fsf73, hof73⟩, haf73, Kf73⟩ := Kq70
            refine rb_aast hMf73 htf73.1 htf73.2 hof73 haf73 hif73 dX0_hold_111 ?_
            refine rb_iload rfl dX0_hold_112 ?_
            exact rb_iret rfl rfl (Kf73).1.1 (Kf73).1.2 dX0_hold_114 (Kf73).2
          · skip
            refine rb_null dX0_hold_95 ?_
            refine rb_goto 111 (by decide) dX0_hold_96 ?_
            obtain ⟨q75, eq75, Kq75⟩ := ((Kv59).2 c60)
            subst eq75
            obtain ⟨t76, N77, f78, hMf78, htf78, hif78, Kf78⟩ := Kq75
            refine rb_aastN hMf78 htf78.1 htf78.2 hif78 dX0_hold_111 ?_
            refine rb_iload rfl dX0_hold_112 ?_
            exact rb_iret rfl rfl (Kf78).1.1 (Kf78).1.2 dX0_hold_114 (Kf78).2
      · skip
        refine rb_aload_n 0 rfl rfl (rb_isR_ref _) dX0_hold_44 ?_
        refine rb_iload rfl dX0_hold_45 ?_
        obtain ⟨d79, n80, Q81, h1x82, hdx82, hnx82, hox82, Kx82⟩ := ((((KKx20).2 c22)).2 c23)
        refine rb_call st_X0_444_0 (rest := []) h1x82 rfl rfl (rc_rc rfl hox82) (Nat.le_of_ble_eq_true rfl) hdx82.1 hdx82.2 hnx82.1 hnx82.2 dX0_hold_47 (fun o M83 hpx82 => ?_)
        obtain ⟨x82, eo, KKx82⟩ := Kx82 o M83 hpx82
        subst eo
        show rb_Bd κ mX0_hold (n.1 + n2.1 + n10.1 + n18.1 + n80.1, n.2 + n2.2 + n10.2 + n18.2 + n80.2) M83 50 [some (.ref a0), some (.int a1), some (.int a2), some (.int a3), some (.int a4), some (.ref q6), none] [.int x82]
        refine rb_ifne 55 (by decide) dX0_hold_50 (fun c84 => ?_) (fun c84 => ?_)
        · skip
          refine rb_aload rfl (rb_isR_ref _) dX0_hold_55 ?_
          obtain ⟨v85, hrv85, hv85, Kv85⟩ := ((KKx82).1 c84)
          refine rc_get fl_X0_491_28 hrv85 dX0_hold_57 ?_
          refine rb_iload_n 3 rfl rfl dX0_hold_60 ?_
          obtain ⟨q86, eq86, Kq86⟩ := Kv85
          subst eq86
          obtain ⟨t90, N87, f88, v89, hMv89, htv89, hiv89, hxv89, Kv89⟩ := Kq86
          have hv89 := rc_isRf hxv89
          refine rc_aald hMv89 htv89 hiv89 hxv89 dX0_hold_61 ?_
          refine rb_ifnonnull hv89 70 (by decide) dX0_hold_62 (fun q91 e => ?_) (fun e => ?_)
          · subst e
            refine rb_aload rfl (rb_isR_ref _) dX0_hold_70 ?_
            obtain ⟨v92, hrv92, hv92, Kv92⟩ := ((Kv89).2 q91 rfl)
            refine rc_get fl_X0_491_28 hrv92 dX0_hold_72 ?_
            refine rb_iload_n 3 rfl rfl dX0_hold_75 ?_
            obtain ⟨q93, eq93, Kq93⟩ := Kv92
            subst eq93
            obtain ⟨t97, N94, f95, v96, hMv96, htv96, hiv96, hxv96, Kv96⟩ := Kq93
            have hv96 := rc_isRf hxv96
            refine rc_aald hMv96 htv96 hiv96 hxv96 dX0_hold_76 ?_
            obtain ⟨q98, eq98, Kq98⟩ := Kv96
            subst eq98
            obtain ⟨x99, hrx99, Kx99⟩ := Kq98
            refine rc_get fl_X0_443_29 hrx99 dX0_hold_77 ?_
            refine rb_istore (ls' := [some (.ref a0), some (.int a1), some (.int a2), some (.int a3), some (.int a4), some (.ref q6), some (.int x99)]) (by decide) rfl rfl dX0_hold_80 ?_
            refine rb_aload rfl (rb_isR_ref _) dX0_hold_82 ?_
            obtain ⟨v100, hrv100, hv100, Kv100⟩ := Kx99
            refine rc_get fl_X0_491_28 hrv100 dX0_hold_84 ?_
            refine rb_iload_n 3 rfl rfl dX0_hold_87 ?_
            refine rb_iload rfl dX0_hold_88 ?_
            refine rb_bipush (v := (-9 : Int32)) (by decide) dX0_hold_90 ?_
            refine rb_icne 99 (by decide) dX0_hold_92 (fun c101 => ?_) (fun c101 => ?_)
            · skip
              refine rb_aload_n 0 rfl rfl (rb_isR_ref _) dX0_hold_99 ?_
              obtain ⟨v102, hrv102, hv102, Kv102⟩ := ((Kv100).1 c101)
              refine rc_get fl_X0_139_0 hrv102 dX0_hold_100 ?_
              refine rb_iload rfl dX0_hold_103 ?_
              obtain ⟨q103, eq103, Kq103⟩ := Kv102
              subst eq103
              obtain ⟨d104, n105, Q106, h1v107, hdv107, hnv107, hov107, Kv107⟩ := Kq103
              refine rb_call st_X0_218_7 (rest := [.int a3, v100]) h1v107 rfl rfl (rc_rc rfl hov107) (by simp [rb_isR_cat hv100, rb_cR, rb_cI, rb_cJ, rb_cN]) hdv107.1 hdv107.2 hnv107.1 hnv107.2 dX0_hold_105 (fun o M108 hpv107 => ?_)
              obtain ⟨v107, eo, hv107, KKv107⟩ := Kv107 o M108 hpv107
              subst eo
              show rb_Bd κ mX0_hold (n.1 + n2.1 + n10.1 + n18.1 + n80.1 + n105.1, n.2 + n2.2 + n10.2 + n18.2 + n80.2 + n105.2) M108 108 [some (.ref a0), some (.int a1), some (.int a2), some (.int a3), some (.int a4), some (.ref q6), some (.int x99)] [v107, .int a3, v100]
              obtain ⟨q109, eq109, Kq109⟩ := KKv107
              subst eq109
              obtain ⟨ci110, ⟨fsci110, hoci110⟩, hcci110, Kci110⟩ := Kq109
              refine rb_cast q1401 hoci110 hcci110 dX0_hold_108 ?_
              obtain ⟨q111, eq111, Kq111⟩ := Kci110
              subst eq111
              obtain ⟨t112, N113, ci115, f114, hMf114, htf114, hif114, ⟨fsf114, hof114⟩, haf114, Kf114⟩ := Kq111
              refine rb_aast hMf114 htf114.1 htf114.2 hof114 haf114 hif114 dX0_hold_111 ?_
              refine rb_iload rfl dX0_hold_112 ?_
              exact rb_iret rfl rfl (Kf114).1.1 (Kf114).1.2 dX0_hold_114 (Kf114).2
            · skip
              refine rb_null dX0_hold_95 ?_
              refine rb_goto 111 (by decide) dX0_hold_96 ?_
              obtain ⟨q116, eq116, Kq116⟩ := ((Kv100).2 c101)
              subst eq116
              obtain ⟨t117, N118, f119, hMf119, htf119, hif119, Kf119⟩ := Kq116
              refine rb_aastN hMf119 htf119.1 htf119.2 hif119 dX0_hold_111 ?_
              refine rb_iload rfl dX0_hold_112 ?_
              exact rb_iret rfl rfl (Kf119).1.1 (Kf119).1.2 dX0_hold_114 (Kf119).2
          · subst e
            refine rb_bipush (v := (-9 : Int32)) (by decide) dX0_hold_65 ?_
            refine rb_goto 80 (by decide) dX0_hold_67 ?_
            refine rb_istore (ls' := [some (.ref a0), some (.int a1), some (.int a2), some (.int a3), some (.int a4), some (.ref q6), some (.int (-9 : Int32))]) (by decide) rfl rfl dX0_hold_80 ?_
            refine rb_aload rfl (rb_isR_ref _) dX0_hold_82 ?_
            obtain ⟨v120, hrv120, hv120, Kv120⟩ := ((Kv89).1 rfl)
            refine rc_get fl_X0_491_28 hrv120 dX0_hold_84 ?_
            refine rb_iload_n 3 rfl rfl dX0_hold_87 ?_
            refine rb_iload rfl dX0_hold_88 ?_
            refine rb_bipush (v := (-9 : Int32)) (by decide) dX0_hold_90 ?_
            refine rb_icne 99 (by decide) dX0_hold_92 (fun c121 => ?_) (fun c121 => ?_)
            · skip
              refine rb_aload_n 0 rfl rfl (rb_isR_ref _) dX0_hold_99 ?_
              obtain ⟨v122, hrv122, hv122, Kv122⟩ := ((Kv120).1 c121)
              refine rc_get fl_X0_139_0 hrv122 dX0_hold_100 ?_
              refine rb_iload rfl dX0_hold_103 ?_
              obtain ⟨q123, eq123, Kq123⟩ := Kv122
              subst eq123
              obtain ⟨d124, n125, Q126, h1v127, hdv127, hnv127, hov127, Kv127⟩ := Kq123
              refine rb_call st_X0_218_7 (rest := [.int a3, v120]) h1v127 rfl rfl (rc_rc rfl hov127) (by simp [rb_isR_cat hv120, rb_cR, rb_cI, rb_cJ, rb_cN]) hdv127.1 hdv127.2 hnv127.1 hnv127.2 dX0_hold_105 (fun o M128 hpv127 => ?_)
              obtain ⟨v127, eo, hv127, KKv127⟩ := Kv127 o M128 hpv127
              subst eo
              show rb_Bd κ mX0_hold (n.1 + n2.1 + n10.1 + n18.1 + n80.1 + n125.1, n.2 + n2.2 + n10.2 + n18.2 + n80.2 + n125.2) M128 108 [some (.ref a0), some (.int a1), some (.int a2), some (.int a3), some (.int a4), some (.ref q6), some (.int (-9 : Int32))] [v127, .int a3, v120]
              obtain ⟨q129, eq129, Kq129⟩ := KKv127
              subst eq129
              obtain ⟨ci130, ⟨fsci130, hoci130⟩, hcci130, Kci130⟩ := Kq129
              refine rb_cast q1401 hoci130 hcci130 dX0_hold_108 ?_
              obtain ⟨q131, eq131, Kq131⟩ := Kci130
              subst eq131
              obtain ⟨t132, N133, ci135, f134, hMf134, htf134, hif134, ⟨fsf134, hof134⟩, haf134, Kf134⟩ := Kq131
              refine rb_aast hMf134 htf134.1 htf134.2 hof134 haf134 hif134 dX0_hold_111 ?_
              refine rb_iload rfl dX0_hold_112 ?_
              exact rb_iret rfl rfl (Kf134).1.1 (Kf134).1.2 dX0_hold_114 (Kf134).2
            · skip
              refine rb_null dX0_hold_95 ?_
              refine rb_goto 111 (by decide) dX0_hold_96 ?_
              obtain ⟨q136, eq136, Kq136⟩ := ((Kv120).2 c121)
              subst eq136
              obtain ⟨t137, N138, f139, hMf139, htf139, hif139, Kf139⟩ := Kq136
              refine rb_aastN hMf139 htf139.1 htf139.2 hif139 dX0_hold_111 ?_
              refine rb_iload rfl dX0_hold_112 ?_
              exact rb_iret rfl rfl (Kf139).1.1 (Kf139).1.2 dX0_hold_114 (Kf139).2
        · skip
          refine rb_iconst (v := (-1 : Int32)) (by decide) dX0_hold_53 ?_
          exact rb_iret rfl rfl (((KKx82).2 c84)).1.1 (((KKx82).2 c84)).1.2 dX0_hold_54 (((KKx82).2 c84)).2
theorem sgX0_shared_0 {κ : rb_K} {n : Nat × Nat} {M : rb_H} {a0 : Nat} {a1 : Int32} (K : (∃ (d1 : Nat) (n2 : Nat × Nat) (Q3 : Outcome → rb_H → Prop), rb_Ct κ.1 yX0_in wX0_in d1 n2 [.int a1, .int (0 : Int32), .int (7 : Int32)] M Q3 ∧ rb_dp κ d1 ∧ rb_rom κ (n.1 + n2.1, n.2 + n2.2) ∧ ∀ (o : Outcome) (M5 : rb_H), Q3 o M5 → (∃ (x4 : Int32), o = .returned (some (.int x4)) ∧ ((x4 = 0 → (rb_fin κ (n.1 + n2.1, n.2 + n2.2) ∧ κ.2.2.1 (.returned (some (.int (-1 : Int32)))) M5)) ∧ (¬ x4 = 0 → (∃ (v7 : Value), rb_rd M5 a0 0 9 (v7) ∧ rb_isR v7 ∧ (∃ q8, v7 = .ref q8 ∧ (∃ (N9 : Nat) (f10 : Nat → Int64) (x11 : Int64), M5.2 q8 = some (rb_L N9 f10) ∧ vp_in a1 N9 ∧ f10 (a1).toNatClampNeg = x11 ∧ (∃ (d12 : Nat) (n13 : Nat × Nat) (Q14 : Outcome → rb_H → Prop), rb_Ct κ.1 yX0_tells wX0_tells d12 n13 [.ref a0, .long x11] M5 Q14 ∧ rb_dp κ d12 ∧ rb_rom κ (n.1 + n2.1 + n13.1, n.2 + n2.2 + n13.2) ∧ rb_ob M5 a0 0 ∧ ∀ (o : Outcome) (M16 : rb_H), Q14 o M16 → (∃ (x15 : Int32), o = .returned (some (.int x15)) ∧ (rb_fin κ (n.1 + n2.1 + n13.1, n.2 + n2.2 + n13.2) ∧ κ.2.2.1 (.returned (some (.int x15))) M16))))))))))) : rb_Bd κ mX0_shared n M 0 [some (.ref a0), some (.int a1)] [] := by
  refine rb_iload_n 1 rfl rfl dX0_shared_0 ?_
  refine rb_iconst (v := (0 : Int32)) (by decide) dX0_shared_1 ?_
  refine rb_bipush (v := (7 : Int32)) (by decide) dX0_shared_2 ?_
  obtain ⟨d1, n2, Q3, h1x4, hdx4, hnx4, Kx4⟩ := K
  refine rb_call st_X0_45 (rest := []) h1x4 rfl rfl mm_rn (Nat.le_of_ble_eq_true rfl) hdx4.1 hdx4.2 hnx4.1 hnx4.2 dX0_shared_4 (fun o M5 hpx4 => ?_)
  obtain ⟨x4, eo, KKx4⟩ := Kx4 o M5 hpx4
  subst eo
  show rb_Bd κ mX0_shared (n.1 + n2.1, n.2 + n2.2) M5 7 [some (.ref a0), some (.int a1)] [.int x4]
  refine rb_ifeq 23 (by decide) dX0_shared_7 (fun c6 => ?_) (fun c6 => ?_)
  · skip
    refine rb_iconst (v := (-1 : Int32)) (by decide) dX0_shared_23 ?_
    exact rb_iret rfl rfl (((KKx4).1 c6)).1.1 (((KKx4).1 c6)).1.2 dX0_shared_24 (((KKx4).1 c6)).2
  · skip
    refine rb_aload_n 0 rfl rfl (rb_isR_ref _) dX0_shared_10 ?_
    refine rb_aload_n 0 rfl rfl (rb_isR_ref _) dX0_shared_11 ?_
    obtain ⟨v7, hrv7, hv7, Kv7⟩ := ((KKx4).2 c6)
    refine rc_get fl_X0_142_0 hrv7 dX0_shared_12 ?_
    refine rb_iload_n 1 rfl rfl dX0_shared_15 ?_
    obtain ⟨q8, eq8, Kq8⟩ := Kv7
    subst eq8
    obtain ⟨N9, f10, x11, hMx11, hix11, hxx11, Kx11⟩ := Kq8
    refine rc_lald hMx11 hix11 hxx11 dX0_shared_16 ?_
    obtain ⟨d12, n13, Q14, h1x15, hdx15, hnx15, hox15, Kx15⟩ := Kx11
    refine rb_call st_X0_469_0 (rest := []) h1x15 rfl rfl (rc_rc rfl hox15) (Nat.le_of_ble_eq_true rfl) hdx15.1 hdx15.2 hnx15.1 hnx15.2 dX0_shared_17 (fun o M16 hpx15 => ?_)
    obtain ⟨x15, eo, KKx15⟩ := Kx15 o M16 hpx15
    subst eo
    show rb_Bd κ mX0_shared (n.1 + n2.1 + n13.1, n.2 + n2.2 + n13.2) M16 20 [some (.ref a0), some (.int a1)] [.int x15]
    refine rb_goto 24 (by decide) dX0_shared_20 ?_
    exact rb_iret rfl rfl (KKx15).1.1 (KKx15).1.2 dX0_shared_24 (KKx15).2
theorem sgX0_told_0 {κ : rb_K} {n : Nat × Nat} {M : rb_H} {a0 : Nat} (K : (∃ (x1 : Int64), rb_rd M a0 0 33 (.long x1) ∧ (rb_fin κ n ∧ κ.2.2.1 (.returned (some (.long x1))) M))) : rb_Bd κ mX0_told n M 0 [some (.ref a0)] [] := by
  refine rb_aload_n 0 rfl rfl (rb_isR_ref _) dX0_told_0 ?_
  obtain ⟨x1, hrx1, Kx1⟩ := K
  refine rc_get fl_X0_460_0 hrx1 dX0_told_1 ?_
  exact rb_lret rfl (Kx1).1.1 (Kx1).1.2 dX0_told_4 (Kx1).2
theorem sgX0_count_0 {κ : rb_K} {n : Nat × Nat} {M : rb_H} {a0 : Nat} {a1 : Int32} (K : ((((a1).toInt < 0 ∨ 5 < (a1).toInt) → (rb_fin κ n ∧ κ.2.2.1 (.returned (some (.int (-1 : Int32)))) M)) ∧ ((a1).toInt = 0 → (∃ (v2 : Value), rb_rd M a0 0 2 (v2) ∧ rb_isR v2 ∧ (∃ q3, v2 = .ref q3 ∧ (∃ (d4 : Nat) (n5 : Nat × Nat) (Q6 : Outcome → rb_H → Prop), rb_Ct κ.1 yJ4_size wJ4_size d4 n5 [.ref q3] M Q6 ∧ rb_dp κ d4 ∧ rb_rom κ (n.1 + n5.1, n.2 + n5.2) ∧ rb_ob M q3 7 ∧ ∀ (o : Outcome) (M8 : rb_H), Q6 o M8 → (∃ (x7 : Int32), o = .returned (some (.int x7)) ∧ (rb_fin κ (n.1 + n5.1, n.2 + n5.2) ∧ κ.2.2.1 (.returned (some (.int x7))) M8)))))) ∧ ((a1).toInt = 1 → (∃ (v9 : Value), rb_rd M a0 0 7 (v9) ∧ rb_isR v9 ∧ (∃ q10, v9 = .ref q10 ∧ (∃ (d11 : Nat) (n12 : Nat × Nat) (Q13 : Outcome → rb_H → Prop), rb_Ct κ.1 yJ4_size wJ4_size d11 n12 [.ref q10] M Q13 ∧ rb_dp κ d11 ∧ rb_rom κ (n.1 + n12.1, n.2 + n12.2) ∧ rb_ob M q10 7 ∧ ∀ (o : Outcome) (M15 : rb_H), Q13 o M15 → (∃ (x14 : Int32), o = .returned (some (.int x14)) ∧ (rb_fin κ (n.1 + n12.1, n.2 + n12.2) ∧ κ.2.2.1 (.returned (some (.int x14))) M15)))))) ∧ ((a1).toInt = 2 → (∃ (v16 : Value), rb_rd M a0 0 8 (v16) ∧ rb_isR v16 ∧ (∃ q17, v16 = .ref q17 ∧ (∃ (d18 : Nat) (n19 : Nat × Nat) (Q20 : Outcome → rb_H → Prop), rb_Ct κ.1 yJ4_size wJ4_size d18 n19 [.ref q17] M Q20 ∧ rb_dp κ d18 ∧ rb_rom κ (n.1 + n19.1, n.2 + n19.2) ∧ rb_ob M q17 7 ∧ ∀ (o : Outcome) (M22 : rb_H), Q20 o M22 → (∃ (x21 : Int32), o = .returned (some (.int x21)) ∧ (rb_fin κ (n.1 + n19.1, n.2 + n19.2) ∧ κ.2.2.1 (.returned (some (.int x21))) M22)))))) ∧ ((a1).toInt = 3 → (∃ (x23 : Int32), rb_rd M a0 0 5 (.int x23) ∧ (rb_fin κ n ∧ κ.2.2.1 (.returned (some (.int x23))) M))) ∧ ((a1).toInt = 4 → (∃ (x24 : Int32), rb_rd M a0 0 23 (.int x24) ∧ (rb_fin κ n ∧ κ.2.2.1 (.returned (some (.int x24))) M))) ∧ ((a1).toInt = 5 → (∃ (v25 : Value), rb_rd M a0 0 10 (v25) ∧ rb_isR v25 ∧ (∃ q26, v25 = .ref q26 ∧ (∃ (d27 : Nat) (n28 : Nat × Nat) (Q29 : Outcome → rb_H → Prop), rb_Ct κ.1 yJ4_size wJ4_size d27 n28 [.ref q26] M Q29 ∧ rb_dp κ d27 ∧ rb_rom κ (n.1 + n28.1, n.2 + n28.2) ∧ rb_ob M q26 7 ∧ ∀ (o : Outcome) (M31 : rb_H), Q29 o M31 → (∃ (x30 : Int32), o = .returned (some (.int x30)) ∧ (rb_fin κ (n.1 + n28.1, n.2 + n28.2) ∧ κ.2.2.1 (.returned (some (.int x30))) M31)))))))) : rb_Bd κ mX0_count n M 0 [some (.ref a0), some (.int a1)] [] := by
  refine rb_iload_n 1 rfl rfl dX0_count_0 ?_
  rcases mm_sw5 (a1).toInt 0 with c1 | c1 | c1 | c1 | c1 | c1 | c1
  · skip
    refine rb_tableOut 82 (by omega) (by decide) dX0_count_1 ?_
    refine rb_iconst (v := (-1 : Int32)) (by decide) dX0_count_82 ?_
    exact rb_iret rfl rfl (((K).1 (by omega))).1.1 (((K).1 (by omega))).1.2 dX0_count_83 (((K).1 (by omega))).2
  · skip
    refine rb_tableIn 40 (by omega) (by omega) (off := 39) (by rw [c1]; rfl) (by decide) dX0_count_1 ?_
    refine rb_aload_n 0 rfl rfl (rb_isR_ref _) dX0_count_40 ?_
    obtain ⟨v2, hrv2, hv2, Kv2⟩ := ((K).2.1 c1)
    refine rc_get fl_X0_125_0 hrv2 dX0_count_41 ?_
    obtain ⟨q3, eq3, Kq3⟩ := Kv2
    subst eq3
    obtain ⟨d4, n5, Q6, h1x7, hdx7, hnx7, hox7, Kx7⟩ := Kq3
    refine rb_call st_X0_201_7 (rest := []) h1x7 rfl rfl (rc_rc rfl hox7) (Nat.le_of_ble_eq_true rfl) hdx7.1 hdx7.2 hnx7.1 hnx7.2 dX0_count_44 (fun o M8 hpx7 => ?_)
    obtain ⟨x7, eo, KKx7⟩ := Kx7 o M8 hpx7
    subst eo
    show rb_Bd κ mX0_count (n.1 + n5.1, n.2 + n5.2) M8 47 [some (.ref a0), some (.int a1)] [.int x7]
    exact rb_iret rfl rfl (KKx7).1.1 (KKx7).1.2 dX0_count_47 (KKx7).2
  · skip
    refine rb_tableIn 48 (by omega) (by omega) (off := 47) (by rw [c1]; rfl) (by decide) dX0_count_1 ?_
    refine rb_aload_n 0 rfl rfl (rb_isR_ref _) dX0_count_48 ?_
    obtain ⟨v9, hrv9, hv9, Kv9⟩ := ((K).2.2.1 c1)
    refine rc_get fl_X0_136_0 hrv9 dX0_count_49 ?_
    obtain ⟨q10, eq10, Kq10⟩ := Kv9
    subst eq10
    obtain ⟨d11, n12, Q13, h1x14, hdx14, hnx14, hox14, Kx14⟩ := Kq10
    refine rb_call st_X0_201_7 (rest := []) h1x14 rfl rfl (rc_rc rfl hox14) (Nat.le_of_ble_eq_true rfl) hdx14.1 hdx14.2 hnx14.1 hnx14.2 dX0_count_52 (fun o M15 hpx14 => ?_)
    obtain ⟨x14, eo, KKx14⟩ := Kx14 o M15 hpx14
    subst eo
    show rb_Bd κ mX0_count (n.1 + n12.1, n.2 + n12.2) M15 55 [some (.ref a0), some (.int a1)] [.int x14]
    exact rb_iret rfl rfl (KKx14).1.1 (KKx14).1.2 dX0_count_55 (KKx14).2
  · skip
    refine rb_tableIn 56 (by omega) (by omega) (off := 55) (by rw [c1]; rfl) (by decide) dX0_count_1 ?_
    refine rb_aload_n 0 rfl rfl (rb_isR_ref _) dX0_count_56 ?_
    obtain ⟨v16, hrv16, hv16, Kv16⟩ := ((K).2.2.2.1 c1)
    refine rc_get fl_X0_139_0 hrv16 dX0_count_57 ?_
    obtain ⟨q17, eq17, Kq17⟩ := Kv16
    subst eq17
    obtain ⟨d18, n19, Q20, h1x21, hdx21, hnx21, hox21, Kx21⟩ := Kq17
    refine rb_call st_X0_201_7 (rest := []) h1x21 rfl rfl (rc_rc rfl hox21) (Nat.le_of_ble_eq_true rfl) hdx21.1 hdx21.2 hnx21.1 hnx21.2 dX0_count_60 (fun o M22 hpx21 => ?_)
    obtain ⟨x21, eo, KKx21⟩ := Kx21 o M22 hpx21
    subst eo
    show rb_Bd κ mX0_count (n.1 + n19.1, n.2 + n19.2) M22 63 [some (.ref a0), some (.int a1)] [.int x21]
    exact rb_iret rfl rfl (KKx21).1.1 (KKx21).1.2 dX0_count_63 (KKx21).2
  · skip
    refine rb_tableIn 64 (by omega) (by omega) (off := 63) (by rw [c1]; rfl) (by decide) dX0_count_1 ?_
    refine rb_aload_n 0 rfl rfl (rb_isR_ref _) dX0_count_64 ?_
    obtain ⟨x23, hrx23, Kx23⟩ := ((K).2.2.2.2.1 c1)
    refine rc_get fl_X0_232_0 hrx23 dX0_count_65 ?_
    exact rb_iret rfl rfl (Kx23).1.1 (Kx23).1.2 dX0_count_68 (Kx23).2
  · skip
    refine rb_tableIn 69 (by omega) (by omega) (off := 68) (by rw [c1]; rfl) (by decide) dX0_count_1 ?_
    refine rb_aload_n 0 rfl rfl (rb_isR_ref _) dX0_count_69 ?_
    obtain ⟨x24, hrx24, Kx24⟩ := ((K).2.2.2.2.2.1 c1)
    refine rc_get fl_X0_364_0 hrx24 dX0_count_70 ?_
    exact rb_iret rfl rfl (Kx24).1.1 (Kx24).1.2 dX0_count_73 (Kx24).2
  · skip
    refine rb_tableIn 74 (by omega) (by omega) (off := 73) (by rw [c1]; rfl) (by decide) dX0_count_1 ?_
    refine rb_aload_n 0 rfl rfl (rb_isR_ref _) dX0_count_74 ?_
    obtain ⟨v25, hrv25, hv25, Kv25⟩ := ((K).2.2.2.2.2.2 c1)
    refine rc_get fl_X0_146_0 hrv25 dX0_count_75 ?_
    obtain ⟨q26, eq26, Kq26⟩ := Kv25
    subst eq26
    obtain ⟨d27, n28, Q29, h1x30, hdx30, hnx30, hox30, Kx30⟩ := Kq26
    refine rb_call st_X0_201_7 (rest := []) h1x30 rfl rfl (rc_rc rfl hox30) (Nat.le_of_ble_eq_true rfl) hdx30.1 hdx30.2 hnx30.1 hnx30.2 dX0_count_78 (fun o M31 hpx30 => ?_)
    obtain ⟨x30, eo, KKx30⟩ := Kx30 o M31 hpx30
    subst eo
    show rb_Bd κ mX0_count (n.1 + n28.1, n.2 + n28.2) M31 81 [some (.ref a0), some (.int a1)] [.int x30]
    exact rb_iret rfl rfl (KKx30).1.1 (KKx30).1.2 dX0_count_81 (KKx30).2
theorem sgX0_digest_0 {κ : rb_K} {n : Nat × Nat} {M : rb_H} {a0 : Nat} (K : rb_Bd κ mX0_digest n M 6 [some (.ref a0), some (.long (17 : Int64)), none, some (.int (0 : Int32)), none, none] []) : rb_Bd κ mX0_digest n M 0 [some (.ref a0), none, none, none, none, none] [] := by
  refine rb_ldc2 q1495 dX0_digest_0 ?_
  refine rb_lstore_n 1 rfl (ls' := [some (.ref a0), some (.long (17 : Int64)), none, none, none, none]) (by decide) rfl rfl dX0_digest_3 ?_
  refine rb_iconst (v := (0 : Int32)) (by decide) dX0_digest_4 ?_
  refine rb_istore_n 3 rfl (ls' := [some (.ref a0), some (.long (17 : Int64)), none, some (.int (0 : Int32)), none, none]) (by decide) rfl rfl dX0_digest_5 ?_
  exact K
theorem sgX0_digest_6 {κ : rb_K} {n : Nat × Nat} {M : rb_H} {a0 : Nat} {a1 : Int64} {a3 : Int32} (K : (∃ (v1 : Value), rb_rd M a0 0 7 (v1) ∧ rb_isR v1 ∧ (∃ q2, v1 = .ref q2 ∧ (∃ (d3 : Nat) (n4 : Nat × Nat) (Q5 : Outcome → rb_H → Prop), rb_Ct κ.1 yJ4_size wJ4_size d3 n4 [.ref q2] M Q5 ∧ rb_dp κ d3 ∧ rb_rom κ (n.1 + n4.1, n.2 + n4.2) ∧ rb_ob M q2 7 ∧ ∀ (o : Outcome) (M7 : rb_H), Q5 o M7 → (∃ (x6 : Int32), o = .returned (some (.int x6)) ∧ ((x6 ≤ a3 → rb_Bd κ mX0_digest (n.1 + n4.1, n.2 + n4.2) M7 128 [some (.ref a0), some (.long a1), none, some (.int (0 : Int32)), none, none] []) ∧ (a3 < x6 → (∃ (v9 : Value), rb_rd M7 a0 0 7 (v9) ∧ rb_isR v9 ∧ (∃ q10, v9 = .ref q10 ∧ (∃ (d11 : Nat) (n12 : Nat × Nat) (Q13 : Outcome → rb_H → Prop), rb_Ct κ.1 yJ4_get wJ4_get d11 n12 [.ref q10, .int a3] M7 Q13 ∧ rb_dp κ d11 ∧ rb_rom κ (n.1 + n4.1 + n12.1, n.2 + n4.2 + n12.2) ∧ rb_ob M7 q10 7 ∧ ∀ (o : Outcome) (M15 : rb_H), Q13 o M15 → (∃ (v14 : Value), o = .returned (some v14) ∧ rb_isR v14 ∧ (∃ q16, v14 = .ref q16 ∧ (∃ ci17, rb_ob M15 q16 ci17 ∧ rb_CC ci17 "RoleLoom$Role" ∧ rb_Bd κ mX0_digest (n.1 + n4.1 + n12.1, n.2 + n4.2 + n12.2) M15 33 [some (.ref a0), some (.long a1), none, some (.int a3), some (.ref q16), some (.int (0 : Int32))] []))))))))))))) : rb_Bd κ mX0_digest n M 6 [some (.ref a0), some (.long a1), none, some (.int a3), none, none] [] := by
  refine rb_iload_n 3 rfl rfl dX0_digest_6 ?_
  refine rb_aload_n 0 rfl rfl (rb_isR_ref _) dX0_digest_7 ?_
  obtain ⟨v1, hrv1, hv1, Kv1⟩ := K
  refine rc_get fl_X0_136_0 hrv1 dX0_digest_8 ?_
  obtain ⟨q2, eq2, Kq2⟩ := Kv1
  subst eq2
  obtain ⟨d3, n4, Q5, h1x6, hdx6, hnx6, hox6, Kx6⟩ := Kq2
  refine rb_call st_X0_201_7 (rest := [.int a3]) h1x6 rfl rfl (rc_rc rfl hox6) (Nat.le_of_ble_eq_true rfl) hdx6.1 hdx6.2 hnx6.1 hnx6.2 dX0_digest_11 (fun o M7 hpx6 => ?_)
  obtain ⟨x6, eo, KKx6⟩ := Kx6 o M7 hpx6
  subst eo
  show rb_Bd κ mX0_digest (n.1 + n4.1, n.2 + n4.2) M7 14 [some (.ref a0), some (.long a1), none, some (.int a3), none, none] [.int x6, .int a3]
  refine rb_icge 126 (by decide) dX0_digest_14 (fun c8 => ?_) (fun c8 => ?_)
  · skip
    refine rb_iconst (v := (0 : Int32)) (by decide) dX0_digest_126 ?_
    refine rb_istore_n 3 rfl (ls' := [some (.ref a0), some (.long a1), none, some (.int (0 : Int32)), none, none]) (by decide) rfl rfl dX0_digest_127 ?_
    exact ((KKx6).1 c8)
  · skip
    refine rb_aload_n 0 rfl rfl (rb_isR_ref _) dX0_digest_17 ?_
    obtain ⟨v9, hrv9, hv9, Kv9⟩ := ((KKx6).2 c8)
    refine rc_get fl_X0_136_0 hrv9 dX0_digest_18 ?_
    refine rb_iload_n 3 rfl rfl dX0_digest_21 ?_
    obtain ⟨q10, eq10, Kq10⟩ := Kv9
    subst eq10
    obtain ⟨d11, n12, Q13, h1v14, hdv14, hnv14, hov14, Kv14⟩ := Kq10
    refine rb_call st_X0_218_7 (rest := []) h1v14 rfl rfl (rc_rc rfl hov14) (Nat.le_of_ble_eq_true rfl) hdv14.1 hdv14.2 hnv14.1 hnv14.2 dX0_digest_22 (fun o M15 hpv14 => ?_)
    obtain ⟨v14, eo, hv14, KKv14⟩ := Kv14 o M15 hpv14
    subst eo
    show rb_Bd κ mX0_digest (n.1 + n4.1 + n12.1, n.2 + n4.2 + n12.2) M15 25 [some (.ref a0), some (.long a1), none, some (.int a3), none, none] [v14]
    obtain ⟨q16, eq16, Kq16⟩ := KKv14
    subst eq16
    obtain ⟨ci17, ⟨fsci17, hoci17⟩, hcci17, Kci17⟩ := Kq16
    refine rb_cast q1111 hoci17 hcci17 dX0_digest_25 ?_
    refine rb_astore (ls' := [some (.ref a0), some (.long a1), none, some (.int a3), some (.ref q16), none]) (by decide) rfl rfl (rb_isR_ref _) dX0_digest_28 ?_
    refine rb_iconst (v := (0 : Int32)) (by decide) dX0_digest_30 ?_
    refine rb_istore (ls' := [some (.ref a0), some (.long a1), none, some (.int a3), some (.ref q16), some (.int (0 : Int32))]) (by decide) rfl rfl dX0_digest_31 ?_
    exact Kci17
theorem sgX0_digest_33 {κ : rb_K} {n : Nat × Nat} {M : rb_H} {a0 : Nat} {a1 : Int64} {a3 : Int32} {a4 : Value} {a5 : Int32} (ha4 : rb_isR a4) (K : (∃ q1, a4 = .ref q1 ∧ (∃ (v2 : Value), rb_rd M q1 27 1 (v2) ∧ rb_isR v2 ∧ (∃ q3, v2 = .ref q3 ∧ (∃ (d4 : Nat) (n5 : Nat × Nat) (Q6 : Outcome → rb_H → Prop), rb_Ct κ.1 yJ4_size wJ4_size d4 n5 [.ref q3] M Q6 ∧ rb_dp κ d4 ∧ rb_rom κ (n.1 + n5.1, n.2 + n5.2) ∧ rb_ob M q3 7 ∧ ∀ (o : Outcome) (M8 : rb_H), Q6 o M8 → (∃ (x7 : Int32), o = .returned (some (.int x7)) ∧ ((x7 ≤ a5 → rb_Bd κ mX0_digest (n.1 + n5.1, n.2 + n5.2) M8 79 [some (.ref a0), some (.long a1), none, some (.int a3), some (.ref q1), some (.int (0 : Int32))] []) ∧ (a5 < x7 → (∃ (v10 : Value), rb_rd M8 q1 27 1 (v10) ∧ rb_isR v10 ∧ (∃ q11, v10 = .ref q11 ∧ (∃ (d12 : Nat) (n13 : Nat × Nat) (Q14 : Outcome → rb_H → Prop), rb_Ct κ.1 yJ4_get wJ4_get d12 n13 [.ref q11, .int a5] M8 Q14 ∧ rb_dp κ d12 ∧ rb_rom κ (n.1 + n5.1 + n13.1, n.2 + n5.2 + n13.2) ∧ rb_ob M8 q11 7 ∧ ∀ (o : Outcome) (M16 : rb_H), Q14 o M16 → (∃ (v15 : Value), o = .returned (some v15) ∧ rb_isR v15 ∧ (∃ q17, v15 = .ref q17 ∧ (∃ ci18, rb_ob M16 q17 ci18 ∧ rb_CC ci18 "RoleLoom$Part" ∧ (∃ (x19 : Int32), rb_rd M16 q17 5 0 (.int x19) ∧ rb_Bd κ mX0_digest (n.1 + n5.1 + n13.1, n.2 + n5.2 + n13.2) M16 33 [some (.ref a0), some (.long (((31 : Int64) * a1) + (x19).toInt64)), none, some (.int a3), some (.ref q1), some (.int (a5 + (1 : Int32)))] []))))))))))))))) : rb_Bd κ mX0_digest n M 33 [some (.ref a0), some (.long a1), none, some (.int a3), some a4, some (.int a5)] [] := by
  refine rb_iload rfl dX0_digest_33 ?_
  refine rb_aload rfl ha4 dX0_digest_35 ?_
  obtain ⟨q1, eq1, Kq1⟩ := K
  subst eq1
  obtain ⟨v2, hrv2, hv2, Kv2⟩ := Kq1
  refine rc_get fl_X0_291_27 hrv2 dX0_digest_37 ?_
  obtain ⟨q3, eq3, Kq3⟩ := Kv2
  subst eq3
  obtain ⟨d4, n5, Q6, h1x7, hdx7, hnx7, hox7, Kx7⟩ := Kq3
  refine rb_call st_X0_201_7 (rest := [.int a5]) h1x7 rfl rfl (rc_rc rfl hox7) (Nat.le_of_ble_eq_true rfl) hdx7.1 hdx7.2 hnx7.1 hnx7.2 dX0_digest_40 (fun o M8 hpx7 => ?_)
  obtain ⟨x7, eo, KKx7⟩ := Kx7 o M8 hpx7
  subst eo
  show rb_Bd κ mX0_digest (n.1 + n5.1, n.2 + n5.2) M8 43 [some (.ref a0), some (.long a1), none, some (.int a3), some (.ref q1), some (.int a5)] [.int x7, .int a5]
  refine rb_icge 76 (by decide) dX0_digest_43 (fun c9 => ?_) (fun c9 => ?_)
  · skip
    refine rb_iconst (v := (0 : Int32)) (by decide) dX0_digest_76 ?_
    refine rb_istore (ls' := [some (.ref a0), some (.long a1), none, some (.int a3), some (.ref q1), some (.int (0 : Int32))]) (by decide) rfl rfl dX0_digest_77 ?_
    exact ((KKx7).1 c9)
  · skip
    refine rb_ldc2 q1496 dX0_digest_46 ?_
    refine rb_lload_n 1 rfl rfl dX0_digest_49 ?_
    refine rb_lmul (z := ((31 : Int64) * a1)) rfl dX0_digest_50 ?_
    refine rb_aload rfl (rb_isR_ref _) dX0_digest_51 ?_
    obtain ⟨v10, hrv10, hv10, Kv10⟩ := ((KKx7).2 c9)
    refine rc_get fl_X0_291_27 hrv10 dX0_digest_53 ?_
    refine rb_iload rfl dX0_digest_56 ?_
    obtain ⟨q11, eq11, Kq11⟩ := Kv10
    subst eq11
    obtain ⟨d12, n13, Q14, h1v15, hdv15, hnv15, hov15, Kv15⟩ := Kq11
    refine rb_call st_X0_218_7 (rest := [.long ((31 : Int64) * a1)]) h1v15 rfl rfl (rc_rc rfl hov15) (Nat.le_of_ble_eq_true rfl) hdv15.1 hdv15.2 hnv15.1 hnv15.2 dX0_digest_58 (fun o M16 hpv15 => ?_)
    obtain ⟨v15, eo, hv15, KKv15⟩ := Kv15 o M16 hpv15
    subst eo
    show rb_Bd κ mX0_digest (n.1 + n5.1 + n13.1, n.2 + n5.2 + n13.2) M16 61 [some (.ref a0), some (.long a1), none, some (.int a3), some (.ref q1), some (.int a5)] [v15, .long ((31 : Int64) * a1)]
    obtain ⟨q17, eq17, Kq17⟩ := KKv15
    subst eq17
    obtain ⟨ci18, ⟨fsci18, hoci18⟩, hcci18, Kci18⟩ := Kq17
    refine rb_cast q416 hoci18 hcci18 dX0_digest_61 ?_
    obtain ⟨x19, hrx19, Kx19⟩ := Kci18
    refine rc_get fl_X0_272_5 hrx19 dX0_digest_64 ?_
    refine rb_i2l (z := (x19).toInt64) rfl dX0_digest_67 ?_
    refine rb_ladd (z := (((31 : Int64) * a1) + (x19).toInt64)) rfl dX0_digest_68 ?_
    refine rb_lstore_n 1 rfl (ls' := [some (.ref a0), some (.long (((31 : Int64) * a1) + (x19).toInt64)), none, some (.int a3), some (.ref q1), some (.int a5)]) (by decide) rfl rfl dX0_digest_69 ?_
    refine rb_iinc (ls' := [some (.ref a0), some (.long (((31 : Int64) * a1) + (x19).toInt64)), none, some (.int a3), some (.ref q1), some (.int (a5 + (1 : Int32)))]) (v := (a5 + (1 : Int32))) rfl rfl (by decide) rfl rfl dX0_digest_70 ?_
    refine rb_goto 33 (by decide) dX0_digest_73 ?_
    exact Kx19
theorem sgX0_digest_79 {κ : rb_K} {n : Nat × Nat} {M : rb_H} {a0 : Nat} {a1 : Int64} {a3 : Int32} {a4 : Value} {a5 : Int32} (ha4 : rb_isR a4) (K : (∃ q1, a4 = .ref q1 ∧ (∃ (v2 : Value), rb_rd M q1 27 1 (v2) ∧ rb_isR v2 ∧ (∃ q3, v2 = .ref q3 ∧ (∃ (d4 : Nat) (n5 : Nat × Nat) (Q6 : Outcome → rb_H → Prop), rb_Ct κ.1 yJ4_size wJ4_size d4 n5 [.ref q3] M Q6 ∧ rb_dp κ d4 ∧ rb_rom κ (n.1 + n5.1, n.2 + n5.2) ∧ rb_ob M q3 7 ∧ ∀ (o : Outcome) (M8 : rb_H), Q6 o M8 → (∃ (x7 : Int32), o = .returned (some (.int x7)) ∧ ((x7 ≤ a5 → rb_Bd κ mX0_digest (n.1 + n5.1, n.2 + n5.2) M8 6 [some (.ref a0), some (.long a1), none, some (.int (a3 + (1 : Int32))), some (.ref q1), some (.int a5)] []) ∧ (a5 < x7 → (∃ (d10 : Nat) (n11 : Nat × Nat) (Q12 : Outcome → rb_H → Prop), rb_Ct κ.1 yX0_stepOf wX0_stepOf d10 n11 [.ref a0, .ref q1, .int a5] M8 Q12 ∧ rb_dp κ d10 ∧ rb_rom κ (n.1 + n5.1 + n11.1, n.2 + n5.2 + n11.2) ∧ rb_ob M8 a0 0 ∧ ∀ (o : Outcome) (M14 : rb_H), Q12 o M14 → (∃ (v13 : Value), o = .returned (some v13) ∧ rb_isR v13 ∧ (∃ q15, v13 = .ref q15 ∧ (∃ (v16 : Value), rb_rd M14 q15 27 4 (v16) ∧ rb_isR v16 ∧ (∃ q17, v16 = .ref q17 ∧ (∃ (N18 : Nat) (f19 : Nat → Int32) (x20 : Int32), M14.2 q17 = some (rb_I N18 f19) ∧ vp_in a5 N18 ∧ f19 (a5).toNatClampNeg = x20 ∧ rb_Bd κ mX0_digest (n.1 + n5.1 + n11.1, n.2 + n5.2 + n11.2) M14 79 [some (.ref a0), some (.long (((31 : Int64) * a1) + (x20).toInt64)), none, some (.int a3), some (.ref q1), some (.int (a5 + (1 : Int32)))] [])))))))))))))) : rb_Bd κ mX0_digest n M 79 [some (.ref a0), some (.long a1), none, some (.int a3), some a4, some (.int a5)] [] := by
  refine rb_iload rfl dX0_digest_79 ?_
  refine rb_aload rfl ha4 dX0_digest_81 ?_
  obtain ⟨q1, eq1, Kq1⟩ := K
  subst eq1
  obtain ⟨v2, hrv2, hv2, Kv2⟩ := Kq1
  refine rc_get fl_X0_291_27 hrv2 dX0_digest_83 ?_
  obtain ⟨q3, eq3, Kq3⟩ := Kv2
  subst eq3
  obtain ⟨d4, n5, Q6, h1x7, hdx7, hnx7, hox7, Kx7⟩ := Kq3
  refine rb_call st_X0_201_7 (rest := [.int a5]) h1x7 rfl rfl (rc_rc rfl hox7) (Nat.le_of_ble_eq_true rfl) hdx7.1 hdx7.2 hnx7.1 hnx7.2 dX0_digest_86 (fun o M8 hpx7 => ?_)
  obtain ⟨x7, eo, KKx7⟩ := Kx7 o M8 hpx7
  subst eo
  show rb_Bd κ mX0_digest (n.1 + n5.1, n.2 + n5.2) M8 89 [some (.ref a0), some (.long a1), none, some (.int a3), some (.ref q1), some (.int a5)] [.int x7, .int a5]
  refine rb_icge 120 (by decide) dX0_digest_89 (fun c9 => ?_) (fun c9 => ?_)
  · skip
    refine rb_iinc (ls' := [some (.ref a0), some (.long a1), none, some (.int (a3 + (1 : Int32))), some (.ref q1), some (.int a5)]) (v := (a3 + (1 : Int32))) rfl rfl (by decide) rfl rfl dX0_digest_120 ?_
    refine rb_goto 6 (by decide) dX0_digest_123 ?_
    exact ((KKx7).1 c9)
  · skip
    refine rb_ldc2 q1496 dX0_digest_92 ?_
    refine rb_lload_n 1 rfl rfl dX0_digest_95 ?_
    refine rb_lmul (z := ((31 : Int64) * a1)) rfl dX0_digest_96 ?_
    refine rb_aload_n 0 rfl rfl (rb_isR_ref _) dX0_digest_97 ?_
    refine rb_aload rfl (rb_isR_ref _) dX0_digest_98 ?_
    refine rb_iload rfl dX0_digest_100 ?_
    obtain ⟨d10, n11, Q12, h1v13, hdv13, hnv13, hov13, Kv13⟩ := ((KKx7).2 c9)
    refine rb_call st_X0_357_0 (rest := [.long ((31 : Int64) * a1)]) h1v13 rfl rfl (rc_rc rfl hov13) (Nat.le_of_ble_eq_true rfl) hdv13.1 hdv13.2 hnv13.1 hnv13.2 dX0_digest_102 (fun o M14 hpv13 => ?_)
    obtain ⟨v13, eo, hv13, KKv13⟩ := Kv13 o M14 hpv13
    subst eo
    show rb_Bd κ mX0_digest (n.1 + n5.1 + n11.1, n.2 + n5.2 + n11.2) M14 105 [some (.ref a0), some (.long a1), none, some (.int a3), some (.ref q1), some (.int a5)] [v13, .long ((31 : Int64) * a1)]
    obtain ⟨q15, eq15, Kq15⟩ := KKv13
    subst eq15
    obtain ⟨v16, hrv16, hv16, Kv16⟩ := Kq15
    refine rc_get fl_X0_361_27 hrv16 dX0_digest_105 ?_
    refine rb_iload rfl dX0_digest_108 ?_
    obtain ⟨q17, eq17, Kq17⟩ := Kv16
    subst eq17
    obtain ⟨N18, f19, x20, hMx20, hix20, hxx20, Kx20⟩ := Kq17
    refine rc_iald hMx20 hix20 hxx20 dX0_digest_110 ?_
    refine rb_i2l (z := (x20).toInt64) rfl dX0_digest_111 ?_
    refine rb_ladd (z := (((31 : Int64) * a1) + (x20).toInt64)) rfl dX0_digest_112 ?_
    refine rb_lstore_n 1 rfl (ls' := [some (.ref a0), some (.long (((31 : Int64) * a1) + (x20).toInt64)), none, some (.int a3), some (.ref q1), some (.int a5)]) (by decide) rfl rfl dX0_digest_113 ?_
    refine rb_iinc (ls' := [some (.ref a0), some (.long (((31 : Int64) * a1) + (x20).toInt64)), none, some (.int a3), some (.ref q1), some (.int (a5 + (1 : Int32)))]) (v := (a5 + (1 : Int32))) rfl rfl (by decide) rfl rfl dX0_digest_114 ?_
    refine rb_goto 79 (by decide) dX0_digest_117 ?_
    exact Kx20
theorem sgX0_digest_128 {κ : rb_K} {n : Nat × Nat} {M : rb_H} {a0 : Nat} {a1 : Int64} {a3 : Int32} (K : (∃ (v1 : Value), rb_rd M a0 0 8 (v1) ∧ rb_isR v1 ∧ (∃ q2, v1 = .ref q2 ∧ (∃ (d3 : Nat) (n4 : Nat × Nat) (Q5 : Outcome → rb_H → Prop), rb_Ct κ.1 yJ4_size wJ4_size d3 n4 [.ref q2] M Q5 ∧ rb_dp κ d3 ∧ rb_rom κ (n.1 + n4.1, n.2 + n4.2) ∧ rb_ob M q2 7 ∧ ∀ (o : Outcome) (M7 : rb_H), Q5 o M7 → (∃ (x6 : Int32), o = .returned (some (.int x6)) ∧ ((x6 ≤ a3 → rb_Bd κ mX0_digest (n.1 + n4.1, n.2 + n4.2) M7 232 [some (.ref a0), some (.long a1), none, some (.int (0 : Int32)), none, none] []) ∧ (a3 < x6 → (∃ (v9 : Value), rb_rd M7 a0 0 8 (v9) ∧ rb_isR v9 ∧ (∃ q10, v9 = .ref q10 ∧ (∃ (d11 : Nat) (n12 : Nat × Nat) (Q13 : Outcome → rb_H → Prop), rb_Ct κ.1 yJ4_get wJ4_get d11 n12 [.ref q10, .int a3] M7 Q13 ∧ rb_dp κ d11 ∧ rb_rom κ (n.1 + n4.1 + n12.1, n.2 + n4.2 + n12.2) ∧ rb_ob M7 q10 7 ∧ ∀ (o : Outcome) (M15 : rb_H), Q13 o M15 → (∃ (v14 : Value), o = .returned (some v14) ∧ rb_isR v14 ∧ (∃ q16, v14 = .ref q16 ∧ (∃ ci17, rb_ob M15 q16 ci17 ∧ rb_CC ci17 "RoleLoom$Thing" ∧ (∃ (v18 : Value), rb_rd M15 q16 29 1 (v18) ∧ rb_isR v18 ∧ (∃ q19, v18 = .ref q19 ∧ (∃ (x20 : Int32), rb_rd M15 q19 27 0 (.int x20) ∧ rb_Bd κ mX0_digest (n.1 + n4.1 + n12.1, n.2 + n4.2 + n12.2) M15 171 [some (.ref a0), some (.long (((31 : Int64) * a1) + (x20).toInt64)), none, some (.int a3), some (.ref q16), some (.int (0 : Int32))] [])))))))))))))))) : rb_Bd κ mX0_digest n M 128 [some (.ref a0), some (.long a1), none, some (.int a3), none, none] [] := by
  refine rb_iload_n 3 rfl rfl dX0_digest_128 ?_
  refine rb_aload_n 0 rfl rfl (rb_isR_ref _) dX0_digest_129 ?_
  obtain ⟨v1, hrv1, hv1, Kv1⟩ := K
  refine rc_get fl_X0_139_0 hrv1 dX0_digest_130 ?_
  obtain ⟨q2, eq2, Kq2⟩ := Kv1
  subst eq2
  obtain ⟨d3, n4, Q5, h1x6, hdx6, hnx6, hox6, Kx6⟩ := Kq2
  refine rb_call st_X0_201_7 (rest := [.int a3]) h1x6 rfl rfl (rc_rc rfl hox6) (Nat.le_of_ble_eq_true rfl) hdx6.1 hdx6.2 hnx6.1 hnx6.2 dX0_digest_133 (fun o M7 hpx6 => ?_)
  obtain ⟨x6, eo, KKx6⟩ := Kx6 o M7 hpx6
  subst eo
  show rb_Bd κ mX0_digest (n.1 + n4.1, n.2 + n4.2) M7 136 [some (.ref a0), some (.long a1), none, some (.int a3), none, none] [.int x6, .int a3]
  refine rb_icge 230 (by decide) dX0_digest_136 (fun c8 => ?_) (fun c8 => ?_)
  · skip
    refine rb_iconst (v := (0 : Int32)) (by decide) dX0_digest_230 ?_
    refine rb_istore_n 3 rfl (ls' := [some (.ref a0), some (.long a1), none, some (.int (0 : Int32)), none, none]) (by decide) rfl rfl dX0_digest_231 ?_
    exact ((KKx6).1 c8)
  · skip
    refine rb_aload_n 0 rfl rfl (rb_isR_ref _) dX0_digest_139 ?_
    obtain ⟨v9, hrv9, hv9, Kv9⟩ := ((KKx6).2 c8)
    refine rc_get fl_X0_139_0 hrv9 dX0_digest_140 ?_
    refine rb_iload_n 3 rfl rfl dX0_digest_143 ?_
    obtain ⟨q10, eq10, Kq10⟩ := Kv9
    subst eq10
    obtain ⟨d11, n12, Q13, h1v14, hdv14, hnv14, hov14, Kv14⟩ := Kq10
    refine rb_call st_X0_218_7 (rest := []) h1v14 rfl rfl (rc_rc rfl hov14) (Nat.le_of_ble_eq_true rfl) hdv14.1 hdv14.2 hnv14.1 hnv14.2 dX0_digest_144 (fun o M15 hpv14 => ?_)
    obtain ⟨v14, eo, hv14, KKv14⟩ := Kv14 o M15 hpv14
    subst eo
    show rb_Bd κ mX0_digest (n.1 + n4.1 + n12.1, n.2 + n4.2 + n12.2) M15 147 [some (.ref a0), some (.long a1), none, some (.int a3), none, none] [v14]
    obtain ⟨q16, eq16, Kq16⟩ := KKv14
    subst eq16
    obtain ⟨ci17, ⟨fsci17, hoci17⟩, hcci17, Kci17⟩ := Kq16
    refine rb_cast q1401 hoci17 hcci17 dX0_digest_147 ?_
    refine rb_astore (ls' := [some (.ref a0), some (.long a1), none, some (.int a3), some (.ref q16), none]) (by decide) rfl rfl (rb_isR_ref _) dX0_digest_150 ?_
    refine rb_ldc2 q1496 dX0_digest_152 ?_
    refine rb_lload_n 1 rfl rfl dX0_digest_155 ?_
    refine rb_lmul (z := ((31 : Int64) * a1)) rfl dX0_digest_156 ?_
    refine rb_aload rfl (rb_isR_ref _) dX0_digest_157 ?_
    obtain ⟨v18, hrv18, hv18, Kv18⟩ := Kci17
    refine rc_get fl_X0_386_29 hrv18 dX0_digest_159 ?_
    obtain ⟨q19, eq19, Kq19⟩ := Kv18
    subst eq19
    obtain ⟨x20, hrx20, Kx20⟩ := Kq19
    refine rc_get fl_X0_339_27 hrx20 dX0_digest_162 ?_
    refine rb_i2l (z := (x20).toInt64) rfl dX0_digest_165 ?_
    refine rb_ladd (z := (((31 : Int64) * a1) + (x20).toInt64)) rfl dX0_digest_166 ?_
    refine rb_lstore_n 1 rfl (ls' := [some (.ref a0), some (.long (((31 : Int64) * a1) + (x20).toInt64)), none, some (.int a3), some (.ref q16), none]) (by decide) rfl rfl dX0_digest_167 ?_
    refine rb_iconst (v := (0 : Int32)) (by decide) dX0_digest_168 ?_
    refine rb_istore (ls' := [some (.ref a0), some (.long (((31 : Int64) * a1) + (x20).toInt64)), none, some (.int a3), some (.ref q16), some (.int (0 : Int32))]) (by decide) rfl rfl dX0_digest_169 ?_
    exact Kx20
theorem sgX0_digest_171 {κ : rb_K} {n : Nat × Nat} {M : rb_H} {a0 : Nat} {a1 : Int64} {a3 : Int32} {a4 : Value} {a5 : Int32} (ha4 : rb_isR a4) (K : (∃ q1, a4 = .ref q1 ∧ (∃ (v2 : Value), rb_rd M q1 29 2 (v2) ∧ rb_isR v2 ∧ (∃ q3, v2 = .ref q3 ∧ (∃ (d4 : Nat) (n5 : Nat × Nat) (Q6 : Outcome → rb_H → Prop), rb_Ct κ.1 yJ4_size wJ4_size d4 n5 [.ref q3] M Q6 ∧ rb_dp κ d4 ∧ rb_rom κ (n.1 + n5.1, n.2 + n5.2) ∧ rb_ob M q3 7 ∧ ∀ (o : Outcome) (M8 : rb_H), Q6 o M8 → (∃ (x7 : Int32), o = .returned (some (.int x7)) ∧ ((x7 ≤ a5 → rb_Bd κ mX0_digest (n.1 + n5.1, n.2 + n5.2) M8 128 [some (.ref a0), some (.long a1), none, some (.int (a3 + (1 : Int32))), some (.ref q1), some (.int a5)] []) ∧ (a5 < x7 → (∃ (v10 : Value), rb_rd M8 q1 29 2 (v10) ∧ rb_isR v10 ∧ (∃ q11, v10 = .ref q11 ∧ (∃ (d12 : Nat) (n13 : Nat × Nat) (Q14 : Outcome → rb_H → Prop), rb_Ct κ.1 yJ4_get wJ4_get d12 n13 [.ref q11, .int a5] M8 Q14 ∧ rb_dp κ d12 ∧ rb_rom κ (n.1 + n5.1 + n13.1, n.2 + n5.2 + n13.2) ∧ rb_ob M8 q11 7 ∧ ∀ (o : Outcome) (M16 : rb_H), Q14 o M16 → (∃ (v15 : Value), o = .returned (some v15) ∧ rb_isR v15 ∧ (∃ q17, v15 = .ref q17 ∧ (∃ ci18, rb_ob M16 q17 ci18 ∧ rb_CC ci18 "RoleLoom$State" ∧ (∃ (v19 : Value), rb_rd M16 q1 29 1 (v19) ∧ rb_isR v19 ∧ (∃ q20, v19 = .ref q20 ∧ (∃ (v21 : Value), rb_rd M16 q20 27 1 (v21) ∧ rb_isR v21 ∧ (∃ q22, v21 = .ref q22 ∧ (∃ (d23 : Nat) (n24 : Nat × Nat) (Q25 : Outcome → rb_H → Prop), rb_Ct κ.1 yJ4_get wJ4_get d23 n24 [.ref q22, .int a5] M16 Q25 ∧ rb_dp κ d23 ∧ rb_rom κ (n.1 + n5.1 + n13.1 + n24.1, n.2 + n5.2 + n13.2 + n24.2) ∧ rb_ob M16 q22 7 ∧ ∀ (o : Outcome) (M27 : rb_H), Q25 o M27 → (∃ (v26 : Value), o = .returned (some v26) ∧ rb_isR v26 ∧ (∃ q28, v26 = .ref q28 ∧ (∃ ci29, rb_ob M27 q28 ci29 ∧ rb_CC ci29 "RoleLoom$Part" ∧ (∃ (d30 : Nat) (n31 : Nat × Nat) (Q32 : Outcome → rb_H → Prop), rb_Ct κ.1 yX0_digest_2 wX0_digest_2 d30 n31 [.long a1, .ref q17, .ref q28] M27 Q32 ∧ rb_dp κ d30 ∧ rb_rom κ (n.1 + n5.1 + n13.1 + n24.1 + n31.1, n.2 + n5.2 + n13.2 + n24.2 + n31.2) ∧ ∀ (o : Outcome) (M34 : rb_H), Q32 o M34 → (∃ (x33 : Int64), o = .returned (some (.long x33)) ∧ rb_Bd κ mX0_digest (n.1 + n5.1 + n13.1 + n24.1 + n31.1, n.2 + n5.2 + n13.2 + n24.2 + n31.2) M34 171 [some (.ref a0), some (.long x33), none, some (.int a3), some (.ref q1), some (.int (a5 + (1 : Int32)))] [])))))))))))))))))))))))) : rb_Bd κ mX0_digest n M 171 [some (.ref a0), some (.long a1), none, some (.int a3), some a4, some (.int a5)] [] := by
  refine rb_iload rfl dX0_digest_171 ?_
  refine rb_aload rfl ha4 dX0_digest_173 ?_
  obtain ⟨q1, eq1, Kq1⟩ := K
  subst eq1
  obtain ⟨v2, hrv2, hv2, Kv2⟩ := Kq1
  refine rc_get fl_X0_381_29 hrv2 dX0_digest_175 ?_
  obtain ⟨q3, eq3, Kq3⟩ := Kv2
  subst eq3
  obtain ⟨d4, n5, Q6, h1x7, hdx7, hnx7, hox7, Kx7⟩ := Kq3
  refine rb_call st_X0_201_7 (rest := [.int a5]) h1x7 rfl rfl (rc_rc rfl hox7) (Nat.le_of_ble_eq_true rfl) hdx7.1 hdx7.2 hnx7.1 hnx7.2 dX0_digest_178 (fun o M8 hpx7 => ?_)
  obtain ⟨x7, eo, KKx7⟩ := Kx7 o M8 hpx7
  subst eo
  show rb_Bd κ mX0_digest (n.1 + n5.1, n.2 + n5.2) M8 181 [some (.ref a0), some (.long a1), none, some (.int a3), some (.ref q1), some (.int a5)] [.int x7, .int a5]
  refine rb_icge 224 (by decide) dX0_digest_181 (fun c9 => ?_) (fun c9 => ?_)
  · skip
    refine rb_iinc (ls' := [some (.ref a0), some (.long a1), none, some (.int (a3 + (1 : Int32))), some (.ref q1), some (.int a5)]) (v := (a3 + (1 : Int32))) rfl rfl (by decide) rfl rfl dX0_digest_224 ?_
    refine rb_goto 128 (by decide) dX0_digest_227 ?_
    exact ((KKx7).1 c9)
  · skip
    refine rb_lload_n 1 rfl rfl dX0_digest_184 ?_
    refine rb_aload rfl (rb_isR_ref _) dX0_digest_185 ?_
    obtain ⟨v10, hrv10, hv10, Kv10⟩ := ((KKx7).2 c9)
    refine rc_get fl_X0_381_29 hrv10 dX0_digest_187 ?_
    refine rb_iload rfl dX0_digest_190 ?_
    obtain ⟨q11, eq11, Kq11⟩ := Kv10
    subst eq11
    obtain ⟨d12, n13, Q14, h1v15, hdv15, hnv15, hov15, Kv15⟩ := Kq11
    refine rb_call st_X0_218_7 (rest := [.long a1]) h1v15 rfl rfl (rc_rc rfl hov15) (Nat.le_of_ble_eq_true rfl) hdv15.1 hdv15.2 hnv15.1 hnv15.2 dX0_digest_192 (fun o M16 hpv15 => ?_)
    obtain ⟨v15, eo, hv15, KKv15⟩ := Kv15 o M16 hpv15
    subst eo
    show rb_Bd κ mX0_digest (n.1 + n5.1 + n13.1, n.2 + n5.2 + n13.2) M16 195 [some (.ref a0), some (.long a1), none, some (.int a3), some (.ref q1), some (.int a5)] [v15, .long a1]
    obtain ⟨q17, eq17, Kq17⟩ := KKv15
    subst eq17
    obtain ⟨ci18, ⟨fsci18, hoci18⟩, hcci18, Kci18⟩ := Kq17
    refine rb_cast q1245 hoci18 hcci18 dX0_digest_195 ?_
    refine rb_aload rfl (rb_isR_ref _) dX0_digest_198 ?_
    obtain ⟨v19, hrv19, hv19, Kv19⟩ := Kci18
    refine rc_get fl_X0_386_29 hrv19 dX0_digest_200 ?_
    obtain ⟨q20, eq20, Kq20⟩ := Kv19
    subst eq20
    obtain ⟨v21, hrv21, hv21, Kv21⟩ := Kq20
    refine rc_get fl_X0_291_27 hrv21 dX0_digest_203 ?_
    refine rb_iload rfl dX0_digest_206 ?_
    obtain ⟨q22, eq22, Kq22⟩ := Kv21
    subst eq22
    obtain ⟨d23, n24, Q25, h1v26, hdv26, hnv26, hov26, Kv26⟩ := Kq22
    refine rb_call st_X0_218_7 (rest := [.ref q17, .long a1]) h1v26 rfl rfl (rc_rc rfl hov26) (Nat.le_of_ble_eq_true rfl) hdv26.1 hdv26.2 hnv26.1 hnv26.2 dX0_digest_208 (fun o M27 hpv26 => ?_)
    obtain ⟨v26, eo, hv26, KKv26⟩ := Kv26 o M27 hpv26
    subst eo
    show rb_Bd κ mX0_digest (n.1 + n5.1 + n13.1 + n24.1, n.2 + n5.2 + n13.2 + n24.2) M27 211 [some (.ref a0), some (.long a1), none, some (.int a3), some (.ref q1), some (.int a5)] [v26, .ref q17, .long a1]
    obtain ⟨q28, eq28, Kq28⟩ := KKv26
    subst eq28
    obtain ⟨ci29, ⟨fsci29, hoci29⟩, hcci29, Kci29⟩ := Kq28
    refine rb_cast q416 hoci29 hcci29 dX0_digest_211 ?_
    obtain ⟨d30, n31, Q32, h1x33, hdx33, hnx33, Kx33⟩ := Kci29
    refine rb_call st_X0_498 (rest := []) h1x33 rfl rfl mm_rn (Nat.le_of_ble_eq_true rfl) hdx33.1 hdx33.2 hnx33.1 hnx33.2 dX0_digest_214 (fun o M34 hpx33 => ?_)
    obtain ⟨x33, eo, KKx33⟩ := Kx33 o M34 hpx33
    subst eo
    show rb_Bd κ mX0_digest (n.1 + n5.1 + n13.1 + n24.1 + n31.1, n.2 + n5.2 + n13.2 + n24.2 + n31.2) M34 217 [some (.ref a0), some (.long a1), none, some (.int a3), some (.ref q1), some (.int a5)] [.long x33]
    refine rb_lstore_n 1 rfl (ls' := [some (.ref a0), some (.long x33), none, some (.int a3), some (.ref q1), some (.int a5)]) (by decide) rfl rfl dX0_digest_217 ?_
    refine rb_iinc (ls' := [some (.ref a0), some (.long x33), none, some (.int a3), some (.ref q1), some (.int (a5 + (1 : Int32)))]) (v := (a5 + (1 : Int32))) rfl rfl (by decide) rfl rfl dX0_digest_218 ?_
    refine rb_goto 171 (by decide) dX0_digest_221 ?_
    exact KKx33
theorem sgX0_digest_232 {κ : rb_K} {n : Nat × Nat} {M : rb_H} {a0 : Nat} {a1 : Int64} {a3 : Int32} (K : (((8 : Int32) ≤ a3 → (rb_fin κ n ∧ κ.2.2.1 (.returned (some (.long a1))) M)) ∧ (a3 < (8 : Int32) → (∃ (v2 : Value), rb_rd M a0 0 9 (v2) ∧ rb_isR v2 ∧ (∃ q3, v2 = .ref q3 ∧ (∃ (N4 : Nat) (f5 : Nat → Int64) (x6 : Int64), M.2 q3 = some (rb_L N4 f5) ∧ vp_in a3 N4 ∧ f5 (a3).toNatClampNeg = x6 ∧ rb_Bd κ mX0_digest n M 232 [some (.ref a0), some (.long (((31 : Int64) * a1) + x6)), none, some (.int (a3 + (1 : Int32))), none, none] [])))))) : rb_Bd κ mX0_digest n M 232 [some (.ref a0), some (.long a1), none, some (.int a3), none, none] [] := by
  refine rb_iload_n 3 rfl rfl dX0_digest_232 ?_
  refine rb_bipush (v := (8 : Int32)) (by decide) dX0_digest_233 ?_
  refine rb_icge 257 (by decide) dX0_digest_235 (fun c1 => ?_) (fun c1 => ?_)
  · skip
    refine rb_lload_n 1 rfl rfl dX0_digest_257 ?_
    exact rb_lret rfl (((K).1 c1)).1.1 (((K).1 c1)).1.2 dX0_digest_258 (((K).1 c1)).2
  · skip
    refine rb_ldc2 q1496 dX0_digest_238 ?_
    refine rb_lload_n 1 rfl rfl dX0_digest_241 ?_
    refine rb_lmul (z := ((31 : Int64) * a1)) rfl dX0_digest_242 ?_
    refine rb_aload_n 0 rfl rfl (rb_isR_ref _) dX0_digest_243 ?_
    obtain ⟨v2, hrv2, hv2, Kv2⟩ := ((K).2 c1)
    refine rc_get fl_X0_142_0 hrv2 dX0_digest_244 ?_
    refine rb_iload_n 3 rfl rfl dX0_digest_247 ?_
    obtain ⟨q3, eq3, Kq3⟩ := Kv2
    subst eq3
    obtain ⟨N4, f5, x6, hMx6, hix6, hxx6, Kx6⟩ := Kq3
    refine rc_lald hMx6 hix6 hxx6 dX0_digest_248 ?_
    refine rb_ladd (z := (((31 : Int64) * a1) + x6)) rfl dX0_digest_249 ?_
    refine rb_lstore_n 1 rfl (ls' := [some (.ref a0), some (.long (((31 : Int64) * a1) + x6)), none, some (.int a3), none, none]) (by decide) rfl rfl dX0_digest_250 ?_
    refine rb_iinc (ls' := [some (.ref a0), some (.long (((31 : Int64) * a1) + x6)), none, some (.int (a3 + (1 : Int32))), none, none]) (v := (a3 + (1 : Int32))) rfl rfl (by decide) rfl rfl dX0_digest_251 ?_
    refine rb_goto 232 (by decide) dX0_digest_254 ?_
    exact Kx6
theorem sgX0_digest_2_0 {κ : rb_K} {n : Nat × Nat} {M : rb_H} {a0 : Int64} {a2 : Value} {a3 : Value} (ha2 : rb_isR a2) (ha3 : rb_isR a3) (K : rb_Bd κ mX0_digest_2 n M 6 [some (.long a0), none, some a2, some a3, some (.long a0), none, some (.int (0 : Int32)), none] []) : rb_Bd κ mX0_digest_2 n M 0 [some (.long a0), none, some a2, some a3, none, none, none, none] [] := by
  refine rb_lload_n 0 rfl rfl dX0_digest_2_0 ?_
  refine rb_lstore (ls' := [some (.long a0), none, some a2, some a3, some (.long a0), none, none, none]) (by decide) (by simp [rb_o1, rb_isR_cat ha3]) rfl dX0_digest_2_1 ?_
  refine rb_iconst (v := (0 : Int32)) (by decide) dX0_digest_2_3 ?_
  refine rb_istore (ls' := [some (.long a0), none, some a2, some a3, some (.long a0), none, some (.int (0 : Int32)), none]) (by decide) rfl rfl dX0_digest_2_4 ?_
  exact K
theorem sgX0_digest_2_6 {κ : rb_K} {n : Nat × Nat} {M : rb_H} {a0 : Int64} {a2 : Value} {a3 : Value} {a4 : Int64} {a6 : Int32} (ha2 : rb_isR a2) (ha3 : rb_isR a3) (K : (∃ q1, a3 = .ref q1 ∧ (∃ (x2 : Int32), rb_rd M q1 5 1 (.int x2) ∧ ((x2 ≤ a6 → rb_Bd κ mX0_digest_2 n M 40 [some (.long a0), none, some a2, some (.ref q1), some (.long a4), none, some (.int (0 : Int32)), none] []) ∧ (a6 < x2 → (∃ q4, a2 = .ref q4 ∧ (∃ (v5 : Value), rb_rd M q4 28 0 (v5) ∧ rb_isR v5 ∧ (∃ q6, v5 = .ref q6 ∧ (∃ (N7 : Nat) (f8 : Nat → Int64) (x9 : Int64), M.2 q6 = some (rb_L N7 f8) ∧ vp_in a6 N7 ∧ f8 (a6).toNatClampNeg = x9 ∧ rb_Bd κ mX0_digest_2 n M 6 [some (.long a0), none, some (.ref q4), some (.ref q1), some (.long (((31 : Int64) * a4) + x9)), none, some (.int (a6 + (1 : Int32))), none] []))))))))) : rb_Bd κ mX0_digest_2 n M 6 [some (.long a0), none, some a2, some a3, some (.long a4), none, some (.int a6), none] [] := by
  refine rb_iload rfl dX0_digest_2_6 ?_
  refine rb_aload_n 3 rfl rfl ha3 dX0_digest_2_8 ?_
  obtain ⟨q1, eq1, Kq1⟩ := K
  subst eq1
  obtain ⟨x2, hrx2, Kx2⟩ := Kq1
  refine rc_get fl_X0_502_5 hrx2 dX0_digest_2_9 ?_
  refine rb_icge 37 (by decide) dX0_digest_2_12 (fun c3 => ?_) (fun c3 => ?_)
  · skip
    refine rb_iconst (v := (0 : Int32)) (by decide) dX0_digest_2_37 ?_
    refine rb_istore (ls' := [some (.long a0), none, some a2, some (.ref q1), some (.long a4), none, some (.int (0 : Int32)), none]) (by decide) rfl rfl dX0_digest_2_38 ?_
    exact ((Kx2).1 c3)
  · skip
    refine rb_ldc2 q1496 dX0_digest_2_15 ?_
    refine rb_lload rfl dX0_digest_2_18 ?_
    refine rb_lmul (z := ((31 : Int64) * a4)) rfl dX0_digest_2_20 ?_
    refine rb_aload_n 2 rfl rfl ha2 dX0_digest_2_21 ?_
    obtain ⟨q4, eq4, Kq4⟩ := ((Kx2).2 c3)
    subst eq4
    obtain ⟨v5, hrv5, hv5, Kv5⟩ := Kq4
    refine rc_get fl_X0_477_28 hrv5 dX0_digest_2_22 ?_
    refine rb_iload rfl dX0_digest_2_25 ?_
    obtain ⟨q6, eq6, Kq6⟩ := Kv5
    subst eq6
    obtain ⟨N7, f8, x9, hMx9, hix9, hxx9, Kx9⟩ := Kq6
    refine rc_lald hMx9 hix9 hxx9 dX0_digest_2_27 ?_
    refine rb_ladd (z := (((31 : Int64) * a4) + x9)) rfl dX0_digest_2_28 ?_
    refine rb_lstore (ls' := [some (.long a0), none, some (.ref q4), some (.ref q1), some (.long (((31 : Int64) * a4) + x9)), none, some (.int a6), none]) (by decide) rfl rfl dX0_digest_2_29 ?_
    refine rb_iinc (ls' := [some (.long a0), none, some (.ref q4), some (.ref q1), some (.long (((31 : Int64) * a4) + x9)), none, some (.int (a6 + (1 : Int32))), none]) (v := (a6 + (1 : Int32))) rfl rfl (by decide) rfl rfl dX0_digest_2_31 ?_
    refine rb_goto 6 (by decide) dX0_digest_2_34 ?_
    exact Kx9
theorem sgX0_digest_2_40 {κ : rb_K} {n : Nat × Nat} {M : rb_H} {a0 : Int64} {a2 : Value} {a3 : Value} {a4 : Int64} {a6 : Int32} (ha2 : rb_isR a2) (ha3 : rb_isR a3) (K : (∃ q1, a3 = .ref q1 ∧ (∃ (x2 : Int32), rb_rd M q1 5 2 (.int x2) ∧ ((x2 ≤ a6 → rb_Bd κ mX0_digest_2 n M 118 [some (.long a0), none, some a2, some (.ref q1), some (.long a4), none, some (.int (0 : Int32)), none] []) ∧ (a6 < x2 → (∃ q4, a2 = .ref q4 ∧ (∃ (v5 : Value), rb_rd M q4 28 2 (v5) ∧ rb_isR v5 ∧ (∃ q6, v5 = .ref q6 ∧ (∃ (N7 : Nat) (f8 : Nat → Int32) (x9 : Int32), M.2 q6 = some (rb_I N7 f8) ∧ vp_in a6 N7 ∧ f8 (a6).toNatClampNeg = x9 ∧ rb_Bd κ mX0_digest_2 n M 69 [some (.long a0), none, some (.ref q4), some (.ref q1), some (.long (((31 : Int64) * a4) + (x9).toInt64)), none, some (.int a6), some (.int (0 : Int32))] []))))))))) : rb_Bd κ mX0_digest_2 n M 40 [some (.long a0), none, some a2, some a3, some (.long a4), none, some (.int a6), none] [] := by
  refine rb_iload rfl dX0_digest_2_40 ?_
  refine rb_aload_n 3 rfl rfl ha3 dX0_digest_2_42 ?_
  obtain ⟨q1, eq1, Kq1⟩ := K
  subst eq1
  obtain ⟨x2, hrx2, Kx2⟩ := Kq1
  refine rc_get fl_X0_480_5 hrx2 dX0_digest_2_43 ?_
  refine rb_icge 115 (by decide) dX0_digest_2_46 (fun c3 => ?_) (fun c3 => ?_)
  · skip
    refine rb_iconst (v := (0 : Int32)) (by decide) dX0_digest_2_115 ?_
    refine rb_istore (ls' := [some (.long a0), none, some a2, some (.ref q1), some (.long a4), none, some (.int (0 : Int32)), none]) (by decide) rfl rfl dX0_digest_2_116 ?_
    exact ((Kx2).1 c3)
  · skip
    refine rb_ldc2 q1496 dX0_digest_2_49 ?_
    refine rb_lload rfl dX0_digest_2_52 ?_
    refine rb_lmul (z := ((31 : Int64) * a4)) rfl dX0_digest_2_54 ?_
    refine rb_aload_n 2 rfl rfl ha2 dX0_digest_2_55 ?_
    obtain ⟨q4, eq4, Kq4⟩ := ((Kx2).2 c3)
    subst eq4
    obtain ⟨v5, hrv5, hv5, Kv5⟩ := Kq4
    refine rc_get fl_X0_483_28 hrv5 dX0_digest_2_56 ?_
    refine rb_iload rfl dX0_digest_2_59 ?_
    obtain ⟨q6, eq6, Kq6⟩ := Kv5
    subst eq6
    obtain ⟨N7, f8, x9, hMx9, hix9, hxx9, Kx9⟩ := Kq6
    refine rc_iald hMx9 hix9 hxx9 dX0_digest_2_61 ?_
    refine rb_i2l (z := (x9).toInt64) rfl dX0_digest_2_62 ?_
    refine rb_ladd (z := (((31 : Int64) * a4) + (x9).toInt64)) rfl dX0_digest_2_63 ?_
    refine rb_lstore (ls' := [some (.long a0), none, some (.ref q4), some (.ref q1), some (.long (((31 : Int64) * a4) + (x9).toInt64)), none, some (.int a6), none]) (by decide) rfl rfl dX0_digest_2_64 ?_
    refine rb_iconst (v := (0 : Int32)) (by decide) dX0_digest_2_66 ?_
    refine rb_istore (ls' := [some (.long a0), none, some (.ref q4), some (.ref q1), some (.long (((31 : Int64) * a4) + (x9).toInt64)), none, some (.int a6), some (.int (0 : Int32))]) (by decide) rfl rfl dX0_digest_2_67 ?_
    exact Kx9
theorem sgX0_digest_2_69 {κ : rb_K} {n : Nat × Nat} {M : rb_H} {a0 : Int64} {a2 : Value} {a3 : Value} {a4 : Int64} {a6 : Int32} {a7 : Int32} (ha2 : rb_isR a2) (ha3 : rb_isR a3) (K : (∃ q1, a2 = .ref q1 ∧ (∃ (v2 : Value), rb_rd M q1 28 2 (v2) ∧ rb_isR v2 ∧ (∃ q3, v2 = .ref q3 ∧ (∃ (N4 : Nat) (f5 : Nat → Int32) (x6 : Int32), M.2 q3 = some (rb_I N4 f5) ∧ vp_in a6 N4 ∧ f5 (a6).toNatClampNeg = x6 ∧ ((x6 ≤ a7 → rb_Bd κ mX0_digest_2 n M 40 [some (.long a0), none, some (.ref q1), some a3, some (.long a4), none, some (.int (a6 + (1 : Int32))), some (.int a7)] []) ∧ (a7 < x6 → (∃ (v8 : Value), rb_rd M q1 28 1 (v8) ∧ rb_isR v8 ∧ (∃ q9, v8 = .ref q9 ∧ (∃ (N10 : Nat) (f11 : Nat → Int64) (x12 : Int64), M.2 q9 = some (rb_L N10 f11) ∧ vp_in (((12 : Int32) * a6) + a7) N10 ∧ f11 ((((12 : Int32) * a6) + a7)).toNatClampNeg = x12 ∧ rb_Bd κ mX0_digest_2 n M 69 [some (.long a0), none, some (.ref q1), some a3, some (.long (((31 : Int64) * a4) + x12)), none, some (.int a6), some (.int (a7 + (1 : Int32)))] [])))))))))) : rb_Bd κ mX0_digest_2 n M 69 [some (.long a0), none, some a2, some a3, some (.long a4), none, some (.int a6), some (.int a7)] [] := by
  refine rb_iload rfl dX0_digest_2_69 ?_
  refine rb_aload_n 2 rfl rfl ha2 dX0_digest_2_71 ?_
  obtain ⟨q1, eq1, Kq1⟩ := K
  subst eq1
  obtain ⟨v2, hrv2, hv2, Kv2⟩ := Kq1
  refine rc_get fl_X0_483_28 hrv2 dX0_digest_2_72 ?_
  refine rb_iload rfl dX0_digest_2_75 ?_
  obtain ⟨q3, eq3, Kq3⟩ := Kv2
  subst eq3
  obtain ⟨N4, f5, x6, hMx6, hix6, hxx6, Kx6⟩ := Kq3
  refine rc_iald hMx6 hix6 hxx6 dX0_digest_2_77 ?_
  refine rb_icge 109 (by decide) dX0_digest_2_78 (fun c7 => ?_) (fun c7 => ?_)
  · skip
    refine rb_iinc (ls' := [some (.long a0), none, some (.ref q1), some a3, some (.long a4), none, some (.int (a6 + (1 : Int32))), some (.int a7)]) (v := (a6 + (1 : Int32))) rfl rfl (by decide) rfl rfl dX0_digest_2_109 ?_
    refine rb_goto 40 (by decide) dX0_digest_2_112 ?_
    exact ((Kx6).1 c7)
  · skip
    refine rb_ldc2 q1496 dX0_digest_2_81 ?_
    refine rb_lload rfl dX0_digest_2_84 ?_
    refine rb_lmul (z := ((31 : Int64) * a4)) rfl dX0_digest_2_86 ?_
    refine rb_aload_n 2 rfl rfl (rb_isR_ref _) dX0_digest_2_87 ?_
    obtain ⟨v8, hrv8, hv8, Kv8⟩ := ((Kx6).2 c7)
    refine rc_get fl_X0_486_28 hrv8 dX0_digest_2_88 ?_
    refine rb_bipush (v := (12 : Int32)) (by decide) dX0_digest_2_91 ?_
    refine rb_iload rfl dX0_digest_2_93 ?_
    refine rb_imul (z := ((12 : Int32) * a6)) rfl dX0_digest_2_95 ?_
    refine rb_iload rfl dX0_digest_2_96 ?_
    refine rb_iadd (z := (((12 : Int32) * a6) + a7)) rfl dX0_digest_2_98 ?_
    obtain ⟨q9, eq9, Kq9⟩ := Kv8
    subst eq9
    obtain ⟨N10, f11, x12, hMx12, hix12, hxx12, Kx12⟩ := Kq9
    refine rc_lald hMx12 hix12 hxx12 dX0_digest_2_99 ?_
    refine rb_ladd (z := (((31 : Int64) * a4) + x12)) rfl dX0_digest_2_100 ?_
    refine rb_lstore (ls' := [some (.long a0), none, some (.ref q1), some a3, some (.long (((31 : Int64) * a4) + x12)), none, some (.int a6), some (.int a7)]) (by decide) (by simp [rb_o1, rb_isR_cat ha3]) rfl dX0_digest_2_101 ?_
    refine rb_iinc (ls' := [some (.long a0), none, some (.ref q1), some a3, some (.long (((31 : Int64) * a4) + x12)), none, some (.int a6), some (.int (a7 + (1 : Int32)))]) (v := (a7 + (1 : Int32))) rfl rfl (by decide) rfl rfl dX0_digest_2_103 ?_
    refine rb_goto 69 (by decide) dX0_digest_2_106 ?_
    exact Kx12
theorem sgX0_digest_2_118 {κ : rb_K} {n : Nat × Nat} {M : rb_H} {a0 : Int64} {a2 : Value} {a3 : Value} {a4 : Int64} {a6 : Int32} (ha2 : rb_isR a2) (ha3 : rb_isR a3) (K : (∃ q1, a3 = .ref q1 ∧ (∃ (x2 : Int32), rb_rd M q1 5 3 (.int x2) ∧ ((x2 ≤ a6 → (rb_fin κ n ∧ κ.2.2.1 (.returned (some (.long a4))) M)) ∧ (a6 < x2 → (∃ q4, a2 = .ref q4 ∧ (∃ (v5 : Value), rb_rd M q4 28 3 (v5) ∧ rb_isR v5 ∧ (∃ q6, v5 = .ref q6 ∧ (∃ (t10 N7 : Nat) (f8 : Nat → Option Nat) (v9 : Value), M.2 q6 = some (rb_R t10 N7 f8) ∧ (3 ≤ t10 ∧ t10 ≤ 6) ∧ vp_in a6 N7 ∧ va_rf (f8 (a6).toNatClampNeg) = v9 ∧ ((v9 = .null → rb_Bd κ mX0_digest_2 n M 118 [some (.long a0), none, some (.ref q4), some (.ref q1), some (.long (((31 : Int64) * a4) + ((-9 : Int32)).toInt64)), none, some (.int (a6 + (1 : Int32))), none] []) ∧ (∀ q11, v9 = .ref q11 → (∃ (v12 : Value), rb_rd M q4 28 3 (v12) ∧ rb_isR v12 ∧ (∃ q13, v12 = .ref q13 ∧ (∃ (t17 N14 : Nat) (f15 : Nat → Option Nat) (v16 : Value), M.2 q13 = some (rb_R t17 N14 f15) ∧ (3 ≤ t17 ∧ t17 ≤ 6) ∧ vp_in a6 N14 ∧ va_rf (f15 (a6).toNatClampNeg) = v16 ∧ (∃ q18, v16 = .ref q18 ∧ (∃ (x19 : Int32), rb_rd M q18 29 0 (.int x19) ∧ rb_Bd κ mX0_digest_2 n M 118 [some (.long a0), none, some (.ref q4), some (.ref q1), some (.long (((31 : Int64) * a4) + (x19).toInt64)), none, some (.int (a6 + (1 : Int32))), none] [])))))))))))))))) : rb_Bd κ mX0_digest_2 n M 118 [some (.long a0), none, some a2, some a3, some (.long a4), none, some (.int a6), none] [] := by
  refine rb_iload rfl dX0_digest_2_118 ?_
  refine rb_aload_n 3 rfl rfl ha3 dX0_digest_2_120 ?_
  obtain ⟨q1, eq1, Kq1⟩ := K
  subst eq1
  obtain ⟨x2, hrx2, Kx2⟩ := Kq1
  refine rc_get fl_X0_488_5 hrx2 dX0_digest_2_121 ?_
  refine rb_icge 168 (by decide) dX0_digest_2_124 (fun c3 => ?_) (fun c3 => ?_)
  · skip
    refine rb_lload rfl dX0_digest_2_168 ?_
    exact rb_lret rfl (((Kx2).1 c3)).1.1 (((Kx2).1 c3)).1.2 dX0_digest_2_170 (((Kx2).1 c3)).2
  · skip
    refine rb_ldc2 q1496 dX0_digest_2_127 ?_
    refine rb_lload rfl dX0_digest_2_130 ?_
    refine rb_lmul (z := ((31 : Int64) * a4)) rfl dX0_digest_2_132 ?_
    refine rb_aload_n 2 rfl rfl ha2 dX0_digest_2_133 ?_
    obtain ⟨q4, eq4, Kq4⟩ := ((Kx2).2 c3)
    subst eq4
    obtain ⟨v5, hrv5, hv5, Kv5⟩ := Kq4
    refine rc_get fl_X0_491_28 hrv5 dX0_digest_2_134 ?_
    refine rb_iload rfl dX0_digest_2_137 ?_
    obtain ⟨q6, eq6, Kq6⟩ := Kv5
    subst eq6
    obtain ⟨t10, N7, f8, v9, hMv9, htv9, hiv9, hxv9, Kv9⟩ := Kq6
    have hv9 := rc_isRf hxv9
    refine rc_aald hMv9 htv9 hiv9 hxv9 dX0_digest_2_139 ?_
    refine rb_ifnonnull hv9 148 (by decide) dX0_digest_2_140 (fun q11 e => ?_) (fun e => ?_)
    · subst e
      refine rb_aload_n 2 rfl rfl (rb_isR_ref _) dX0_digest_2_148 ?_
      obtain ⟨v12, hrv12, hv12, Kv12⟩ := ((Kv9).2 q11 rfl)
      refine rc_get fl_X0_491_28 hrv12 dX0_digest_2_149 ?_
      refine rb_iload rfl dX0_digest_2_152 ?_
      obtain ⟨q13, eq13, Kq13⟩ := Kv12
      subst eq13
      obtain ⟨t17, N14, f15, v16, hMv16, htv16, hiv16, hxv16, Kv16⟩ := Kq13
      have hv16 := rc_isRf hxv16
      refine rc_aald hMv16 htv16 hiv16 hxv16 dX0_digest_2_154 ?_
      obtain ⟨q18, eq18, Kq18⟩ := Kv16
      subst eq18
      obtain ⟨x19, hrx19, Kx19⟩ := Kq18
      refine rc_get fl_X0_443_29 hrx19 dX0_digest_2_155 ?_
      refine rb_i2l (z := (x19).toInt64) rfl dX0_digest_2_158 ?_
      refine rb_ladd (z := (((31 : Int64) * a4) + (x19).toInt64)) rfl dX0_digest_2_159 ?_
      refine rb_lstore (ls' := [some (.long a0), none, some (.ref q4), some (.ref q1), some (.long (((31 : Int64) * a4) + (x19).toInt64)), none, some (.int a6), none]) (by decide) rfl rfl dX0_digest_2_160 ?_
      refine rb_iinc (ls' := [some (.long a0), none, some (.ref q4), some (.ref q1), some (.long (((31 : Int64) * a4) + (x19).toInt64)), none, some (.int (a6 + (1 : Int32))), none]) (v := (a6 + (1 : Int32))) rfl rfl (by decide) rfl rfl dX0_digest_2_162 ?_
      refine rb_goto 118 (by decide) dX0_digest_2_165 ?_
      exact Kx19
    · subst e
      refine rb_bipush (v := (-9 : Int32)) (by decide) dX0_digest_2_143 ?_
      refine rb_goto 158 (by decide) dX0_digest_2_145 ?_
      refine rb_i2l (z := ((-9 : Int32)).toInt64) rfl dX0_digest_2_158 ?_
      refine rb_ladd (z := (((31 : Int64) * a4) + ((-9 : Int32)).toInt64)) rfl dX0_digest_2_159 ?_
      refine rb_lstore (ls' := [some (.long a0), none, some (.ref q4), some (.ref q1), some (.long (((31 : Int64) * a4) + ((-9 : Int32)).toInt64)), none, some (.int a6), none]) (by decide) rfl rfl dX0_digest_2_160 ?_
      refine rb_iinc (ls' := [some (.long a0), none, some (.ref q4), some (.ref q1), some (.long (((31 : Int64) * a4) + ((-9 : Int32)).toInt64)), none, some (.int (a6 + (1 : Int32))), none]) (v := (a6 + (1 : Int32))) rfl rfl (by decide) rfl rfl dX0_digest_2_162 ?_
      refine rb_goto 118 (by decide) dX0_digest_2_165 ?_
      exact ((Kv9).1 rfl)
