set_option maxRecDepth 100000
theorem sgJ1_init_0 {κ : rb_K} {n : Nat × Nat} {M : rb_H} {a0 : Nat} (K : (∃ (ci6 : Nat) (d1 : Nat) (n2 : Nat × Nat) (Q3 : Outcome → rb_H → Prop), rb_Ct κ.1 yJ0_init wJ0_init d1 n2 [.ref a0] M Q3 ∧ rb_dp κ d1 ∧ rb_rom κ (n.1 + n2.1, n.2 + n2.2) ∧ rb_ob M a0 ci6 ∧ ∀ (o : Outcome) (M5 : rb_H), Q3 o M5 → (o = .returned none ∧ (rb_fin κ (n.1 + n2.1, n.2 + n2.2) ∧ κ.2.2.1 (.returned none) M5)))) : rb_Bd κ mJ1_init n M 0 [some (.ref a0)] [] := by
  refine rb_aload_n 0 rfl rfl (rb_isR_ref _) dJ1_init_0 ?_
  obtain ⟨ci6, d1, n2, Q3, h1v4, hdv4, hnv4, hov4, Kv4⟩ := K
  refine rb_call (st_J1_1 ci6) (rest := []) h1v4 rfl rfl (rc_rc rfl hov4) (Nat.le_of_ble_eq_true rfl) hdv4.1 hdv4.2 hnv4.1 hnv4.2 dJ1_init_1 (fun o M5 hpv4 => ?_)
  obtain ⟨eo, KKv4⟩ := Kv4 o M5 hpv4
  subst eo
  show rb_Bd κ mJ1_init (n.1 + n2.1, n.2 + n2.2) M5 4 [some (.ref a0)] []
  exact rb_vret rfl (KKv4).1.1 (KKv4).1.2 dJ1_init_4 (KKv4).2
theorem sgJ2_init_0 {κ : rb_K} {n : Nat × Nat} {M : rb_H} {a0 : Nat} (K : (rb_dp κ 0 ∧ (rb_fin κ n ∧ κ.2.2.1 (.returned none) M))) : rb_Bd κ mJ2_init n M 0 [some (.ref a0)] [] := by
  refine rb_aload_n 0 rfl rfl (rb_isR_ref _) dJ2_init_0 ?_
  refine rb_objInit q223 q123 q124 (K).1.1 (Nat.le_trans (Nat.le_of_ble_eq_true rfl) (K).1.2) dJ2_init_1 ?_
  exact rb_vret rfl ((K).2).1.1 ((K).2).1.2 dJ2_init_4 ((K).2).2
theorem sgJ3_init_0 {κ : rb_K} {n : Nat × Nat} {M : rb_H} {a0 : Nat} (K : (∃ (ci6 : Nat) (d1 : Nat) (n2 : Nat × Nat) (Q3 : Outcome → rb_H → Prop), rb_Ct κ.1 yJ2_init wJ2_init d1 n2 [.ref a0] M Q3 ∧ rb_dp κ d1 ∧ rb_rom κ (n.1 + n2.1, n.2 + n2.2) ∧ rb_ob M a0 ci6 ∧ ∀ (o : Outcome) (M5 : rb_H), Q3 o M5 → (o = .returned none ∧ (∃ fs7, M5.2 a0 = some (rb_O 7 fs7) ∧ 0 < fs7.length ∧ (rb_fin κ (n.1 + n2.1, n.2 + n2.2) ∧ κ.2.2.1 (.returned none) (rb_up M5 a0 (rb_O 7 (fs7.set 0 (.int (0 : Int32)))))))))) : rb_Bd κ mJ3_init n M 0 [some (.ref a0)] [] := by
  refine rb_aload_n 0 rfl rfl (rb_isR_ref _) dJ3_init_0 ?_
  obtain ⟨ci6, d1, n2, Q3, h1v4, hdv4, hnv4, hov4, Kv4⟩ := K
  refine rb_call (st_J3_1 ci6) (rest := []) h1v4 rfl rfl (rc_rc rfl hov4) (Nat.le_of_ble_eq_true rfl) hdv4.1 hdv4.2 hnv4.1 hnv4.2 dJ3_init_1 (fun o M5 hpv4 => ?_)
  obtain ⟨eo, KKv4⟩ := Kv4 o M5 hpv4
  subst eo
  show rb_Bd κ mJ3_init (n.1 + n2.1, n.2 + n2.2) M5 4 [some (.ref a0)] []
  refine rb_aload_n 0 rfl rfl (rb_isR_ref _) dJ3_init_4 ?_
  refine rb_iconst (v := (0 : Int32)) (by decide) dJ3_init_5 ?_
  obtain ⟨fs7, hMfs7, hlfs7, Kfs7⟩ := KKv4
  refine rb_put fl_J3_7_7 (fun q hq => by cases hq; exact Or.inl rfl) rfl rfl hMfs7 hlfs7 dJ3_init_6 ?_
  exact rb_vret rfl (Kfs7).1.1 (Kfs7).1.2 dJ3_init_9 (Kfs7).2
theorem sgJ4_init_0 {κ : rb_K} {n : Nat × Nat} {M : rb_H} {a0 : Nat} (K : (∃ (ci6 : Nat) (d1 : Nat) (n2 : Nat × Nat) (Q3 : Outcome → rb_H → Prop), rb_Ct κ.1 yJ3_init wJ3_init d1 n2 [.ref a0] M Q3 ∧ rb_dp κ d1 ∧ rb_rom κ (n.1 + n2.1, n.2 + n2.2) ∧ rb_ob M a0 ci6 ∧ ∀ (o : Outcome) (M5 : rb_H), Q3 o M5 → (o = .returned none ∧ (∃ fs7, M5.2 a0 = some (rb_O 7 fs7) ∧ 1 < fs7.length ∧ (rb_fin κ (n.1 + n2.1, n.2 + n2.2) ∧ κ.2.2.1 (.returned none) (rb_up M5 a0 (rb_O 7 (fs7.set 1 (.ref (rb_dc κ.1)))))))))) : rb_Bd κ mJ4_init n M 0 [some (.ref a0)] [] := by
  refine rb_aload_n 0 rfl rfl (rb_isR_ref _) dJ4_init_0 ?_
  obtain ⟨ci6, d1, n2, Q3, h1v4, hdv4, hnv4, hov4, Kv4⟩ := K
  refine rb_call (st_J4_1 ci6) (rest := []) h1v4 rfl rfl (rc_rc rfl hov4) (Nat.le_of_ble_eq_true rfl) hdv4.1 hdv4.2 hnv4.1 hnv4.2 dJ4_init_1 (fun o M5 hpv4 => ?_)
  obtain ⟨eo, KKv4⟩ := Kv4 o M5 hpv4
  subst eo
  show rb_Bd κ mJ4_init (n.1 + n2.1, n.2 + n2.2) M5 4 [some (.ref a0)] []
  refine rb_aload_n 0 rfl rfl (rb_isR_ref _) dJ4_init_4 ?_
  refine rb_getDC q224 q225 q83 dJ4_init_5 ?_
  obtain ⟨fs7, hMfs7, hlfs7, Kfs7⟩ := KKv4
  refine rb_put fl_J4_9_7 (fun q hq => by cases hq; exact Or.inl rfl) (rb_nfA (rb_isR_ref _) _).1 (rb_nfA (rb_isR_ref _) _).2 hMfs7 hlfs7 dJ4_init_8 ?_
  exact rb_vret rfl (Kfs7).1.1 (Kfs7).1.2 dJ4_init_11 (Kfs7).2
theorem sgJ4_size_0 {κ : rb_K} {n : Nat × Nat} {M : rb_H} {a0 : Nat} (K : (∃ (x1 : Int32), rb_rd M a0 7 2 (.int x1) ∧ (rb_fin κ n ∧ κ.2.2.1 (.returned (some (.int x1))) M))) : rb_Bd κ mJ4_size n M 0 [some (.ref a0)] [] := by
  refine rb_aload_n 0 rfl rfl (rb_isR_ref _) dJ4_size_0 ?_
  obtain ⟨x1, hrx1, Kx1⟩ := K
  refine rc_get fl_J4_48_7 hrx1 dJ4_size_1 ?_
  exact rb_iret rfl rfl (Kx1).1.1 (Kx1).1.2 dJ4_size_4 (Kx1).2
theorem sgJ4_add_0 {κ : rb_K} {n : Nat × Nat} {M : rb_H} {a0 : Nat} {a1 : Value} (ha1 : rb_isR a1) (K : (∃ (x1 : Int32), rb_rd M a0 7 0 (.int x1) ∧ (∃ fs2, M.2 a0 = some (rb_O 7 fs2) ∧ 0 < fs2.length ∧ (∃ (v3 : Value), rb_rd (rb_up M a0 (rb_O 7 (fs2.set 0 (.int (x1 + (1 : Int32)))))) a0 7 1 (v3) ∧ rb_isR v3 ∧ (∃ (x4 : Int32), rb_rd (rb_up M a0 (rb_O 7 (fs2.set 0 (.int (x1 + (1 : Int32)))))) a0 7 2 (.int x4) ∧ (∃ (d5 : Nat) (n6 : Nat × Nat) (Q7 : Outcome → rb_H → Prop), rb_Ct κ.1 yJ4_add_2 wJ4_add_2 d5 n6 [.ref a0, a1, v3, .int x4] (rb_up M a0 (rb_O 7 (fs2.set 0 (.int (x1 + (1 : Int32)))))) Q7 ∧ rb_dp κ d5 ∧ rb_rom κ (n.1 + n6.1, n.2 + n6.2) ∧ rb_ob (rb_up M a0 (rb_O 7 (fs2.set 0 (.int (x1 + (1 : Int32)))))) a0 7 ∧ ∀ (o : Outcome) (M9 : rb_H), Q7 o M9 → (o = .returned none ∧ (rb_fin κ (n.1 + n6.1, n.2 + n6.2) ∧ κ.2.2.1 (.returned (some (.int (1 : Int32)))) M9)))))))) : rb_Bd κ mJ4_add n M 0 [some (.ref a0), some a1] [] := by
  refine rb_aload_n 0 rfl rfl (rb_isR_ref _) dJ4_add_0 ?_
  refine rb_dup rfl dJ4_add_1 ?_
  obtain ⟨x1, hrx1, Kx1⟩ := K
  refine rc_get fl_J4_63_7 hrx1 dJ4_add_2 ?_
  refine rb_iconst (v := (1 : Int32)) (by decide) dJ4_add_5 ?_
  refine rb_iadd (z := (x1 + (1 : Int32))) rfl dJ4_add_6 ?_
  obtain ⟨fs2, hMfs2, hlfs2, Kfs2⟩ := Kx1
  refine rb_put fl_J4_63_7 (fun q hq => by cases hq; exact Or.inl rfl) rfl rfl hMfs2 hlfs2 dJ4_add_7 ?_
  refine rb_aload_n 0 rfl rfl (rb_isR_ref _) dJ4_add_10 ?_
  refine rb_aload_n 1 rfl rfl ha1 dJ4_add_11 ?_
  refine rb_aload_n 0 rfl rfl (rb_isR_ref _) dJ4_add_12 ?_
  obtain ⟨v3, hrv3, hv3, Kv3⟩ := Kfs2
  refine rc_get fl_J4_9_7 hrv3 dJ4_add_13 ?_
  refine rb_aload_n 0 rfl rfl (rb_isR_ref _) dJ4_add_16 ?_
  obtain ⟨x4, hrx4, Kx4⟩ := Kv3
  refine rc_get fl_J4_48_7 hrx4 dJ4_add_17 ?_
  obtain ⟨d5, n6, Q7, h1v8, hdv8, hnv8, hov8, Kv8⟩ := Kx4
  refine rb_call st_J4_131_7 (rest := []) h1v8 rfl rfl (rc_rc rfl hov8) (Nat.le_of_ble_eq_true rfl) hdv8.1 hdv8.2 hnv8.1 hnv8.2 dJ4_add_20 (fun o M9 hpv8 => ?_)
  obtain ⟨eo, KKv8⟩ := Kv8 o M9 hpv8
  subst eo
  show rb_Bd κ mJ4_add (n.1 + n6.1, n.2 + n6.2) M9 23 [some (.ref a0), some a1] []
  refine rb_iconst (v := (1 : Int32)) (by decide) dJ4_add_23 ?_
  exact rb_iret rfl (by decide) (KKv8).1.1 (KKv8).1.2 dJ4_add_24 (KKv8).2
theorem sgJ4_add_2_0 {κ : rb_K} {n : Nat × Nat} {M : rb_H} {a0 : Nat} {a1 : Value} {a2 : Value} {a3 : Int32} (ha1 : rb_isR a1) (ha2 : rb_isR a2) (K : (∃ q1, a2 = .ref q1 ∧ (∃ (x2 : Int32), rb_ln κ.1 M q1 x2 ∧ ((¬ a3 = x2 → (∃ q4, a1 = .ref q4 ∧ (∃ (t5 N6 ci8 : Nat) (f7 : Nat → Option Nat), M.2 q1 = some (rb_R t5 N6 f7) ∧ (3 ≤ t5 ∧ t5 ≤ 6) ∧ vp_in a3 N6 ∧ rb_ob M q4 ci8 ∧ rb_AS ci8 t5 ∧ (∃ fs9, (rb_up M q1 (rb_R t5 N6 (va_up f7 (a3).toNatClampNeg (some q4)))).2 a0 = some (rb_O 7 fs9) ∧ 2 < fs9.length ∧ (rb_fin κ n ∧ κ.2.2.1 (.returned none) (rb_up (rb_up M q1 (rb_R t5 N6 (va_up f7 (a3).toNatClampNeg (some q4)))) a0 (rb_O 7 (fs9.set 2 (.int (a3 + (1 : Int32))))))))))) ∧ (a3 = x2 → (∃ (d10 : Nat) (n11 : Nat × Nat) (Q12 : Outcome → rb_H → Prop), rb_Ct κ.1 yJ4_grow wJ4_grow d10 n11 [.ref a0] M Q12 ∧ rb_dp κ d10 ∧ rb_rom κ (n.1 + n11.1, n.2 + n11.2) ∧ rb_ob M a0 7 ∧ ∀ (o : Outcome) (M14 : rb_H), Q12 o M14 → (∃ (v13 : Value), o = .returned (some v13) ∧ rb_isR v13 ∧ (∃ q15, v13 = .ref q15 ∧ (∃ q16, a1 = .ref q16 ∧ (∃ (t17 N18 ci20 : Nat) (f19 : Nat → Option Nat), M14.2 q15 = some (rb_R t17 N18 f19) ∧ (3 ≤ t17 ∧ t17 ≤ 6) ∧ vp_in a3 N18 ∧ rb_ob M14 q16 ci20 ∧ rb_AS ci20 t17 ∧ (∃ fs21, (rb_up M14 q15 (rb_R t17 N18 (va_up f19 (a3).toNatClampNeg (some q16)))).2 a0 = some (rb_O 7 fs21) ∧ 2 < fs21.length ∧ (rb_fin κ (n.1 + n11.1, n.2 + n11.2) ∧ κ.2.2.1 (.returned none) (rb_up (rb_up M14 q15 (rb_R t17 N18 (va_up f19 (a3).toNatClampNeg (some q16)))) a0 (rb_O 7 (fs21.set 2 (.int (a3 + (1 : Int32)))))))))))))))))) : rb_Bd κ mJ4_add_2 n M 0 [some (.ref a0), some a1, some a2, some (.int a3)] [] := by
  refine rb_iload_n 3 rfl rfl dJ4_add_2_0 ?_
  refine rb_aload_n 2 rfl rfl ha2 dJ4_add_2_1 ?_
  obtain ⟨q1, eq1, Kq1⟩ := K
  subst eq1
  obtain ⟨x2, hxx2, Kx2⟩ := Kq1
  refine rc_alen hxx2 dJ4_add_2_2 ?_
  refine rb_icne 11 (by decide) dJ4_add_2_3 (fun c3 => ?_) (fun c3 => ?_)
  · skip
    refine rb_aload_n 2 rfl rfl (rb_isR_ref _) dJ4_add_2_11 ?_
    refine rb_iload_n 3 rfl rfl dJ4_add_2_12 ?_
    refine rb_aload_n 1 rfl rfl ha1 dJ4_add_2_13 ?_
    obtain ⟨q4, eq4, Kq4⟩ := ((Kx2).1 c3)
    subst eq4
    obtain ⟨t5, N6, ci8, f7, hMf7, htf7, hif7, ⟨fsf7, hof7⟩, haf7, Kf7⟩ := Kq4
    refine rb_aast hMf7 htf7.1 htf7.2 hof7 haf7 hif7 dJ4_add_2_14 ?_
    refine rb_aload_n 0 rfl rfl (rb_isR_ref _) dJ4_add_2_15 ?_
    refine rb_iload_n 3 rfl rfl dJ4_add_2_16 ?_
    refine rb_iconst (v := (1 : Int32)) (by decide) dJ4_add_2_17 ?_
    refine rb_iadd (z := (a3 + (1 : Int32))) rfl dJ4_add_2_18 ?_
    obtain ⟨fs9, hMfs9, hlfs9, Kfs9⟩ := Kf7
    refine rb_put fl_J4_48_7 (fun q hq => by cases hq; exact Or.inl rfl) rfl rfl hMfs9 hlfs9 dJ4_add_2_19 ?_
    exact rb_vret rfl (Kfs9).1.1 (Kfs9).1.2 dJ4_add_2_22 (Kfs9).2
  · skip
    refine rb_aload_n 0 rfl rfl (rb_isR_ref _) dJ4_add_2_6 ?_
    obtain ⟨d10, n11, Q12, h1v13, hdv13, hnv13, hov13, Kv13⟩ := ((Kx2).2 c3)
    refine rb_call st_J4_129_7 (rest := []) h1v13 rfl rfl (rc_rc rfl hov13) (Nat.le_of_ble_eq_true rfl) hdv13.1 hdv13.2 hnv13.1 hnv13.2 dJ4_add_2_7 (fun o M14 hpv13 => ?_)
    obtain ⟨v13, eo, hv13, KKv13⟩ := Kv13 o M14 hpv13
    subst eo
    show rb_Bd κ mJ4_add_2 (n.1 + n11.1, n.2 + n11.2) M14 10 [some (.ref a0), some a1, some (.ref q1), some (.int a3)] [v13]
    refine rb_astore_n 2 rfl (ls' := [some (.ref a0), some a1, some v13, some (.int a3)]) (by decide) (by simp [rb_o1, rb_isR_cat ha1]) rfl hv13 dJ4_add_2_10 ?_
    refine rb_aload_n 2 rfl rfl hv13 dJ4_add_2_11 ?_
    refine rb_iload_n 3 rfl rfl dJ4_add_2_12 ?_
    refine rb_aload_n 1 rfl rfl ha1 dJ4_add_2_13 ?_
    obtain ⟨q15, eq15, Kq15⟩ := KKv13
    subst eq15
    obtain ⟨q16, eq16, Kq16⟩ := Kq15
    subst eq16
    obtain ⟨t17, N18, ci20, f19, hMf19, htf19, hif19, ⟨fsf19, hof19⟩, haf19, Kf19⟩ := Kq16
    refine rb_aast hMf19 htf19.1 htf19.2 hof19 haf19 hif19 dJ4_add_2_14 ?_
    refine rb_aload_n 0 rfl rfl (rb_isR_ref _) dJ4_add_2_15 ?_
    refine rb_iload_n 3 rfl rfl dJ4_add_2_16 ?_
    refine rb_iconst (v := (1 : Int32)) (by decide) dJ4_add_2_17 ?_
    refine rb_iadd (z := (a3 + (1 : Int32))) rfl dJ4_add_2_18 ?_
    obtain ⟨fs21, hMfs21, hlfs21, Kfs21⟩ := Kf19
    refine rb_put fl_J4_48_7 (fun q hq => by cases hq; exact Or.inl rfl) rfl rfl hMfs21 hlfs21 dJ4_add_2_19 ?_
    exact rb_vret rfl (Kfs21).1.1 (Kfs21).1.2 dJ4_add_2_22 (Kfs21).2
theorem sgJ4_grow_0 {κ : rb_K} {n : Nat × Nat} {M : rb_H} {a0 : Nat} (K : (∃ (x1 : Int32), rb_rd M a0 7 2 (.int x1) ∧ (∃ (d2 : Nat) (n3 : Nat × Nat) (Q4 : Outcome → rb_H → Prop), rb_Ct κ.1 yJ4_grow_2 wJ4_grow_2 d2 n3 [.ref a0, .int (x1 + (1 : Int32))] M Q4 ∧ rb_dp κ d2 ∧ rb_rom κ (n.1 + n3.1, n.2 + n3.2) ∧ rb_ob M a0 7 ∧ ∀ (o : Outcome) (M6 : rb_H), Q4 o M6 → (∃ (v5 : Value), o = .returned (some v5) ∧ rb_isR v5 ∧ (rb_fin κ (n.1 + n3.1, n.2 + n3.2) ∧ κ.2.2.1 (.returned (some v5)) M6))))) : rb_Bd κ mJ4_grow n M 0 [some (.ref a0)] [] := by
  refine rb_aload_n 0 rfl rfl (rb_isR_ref _) dJ4_grow_0 ?_
  refine rb_aload_n 0 rfl rfl (rb_isR_ref _) dJ4_grow_1 ?_
  obtain ⟨x1, hrx1, Kx1⟩ := K
  refine rc_get fl_J4_48_7 hrx1 dJ4_grow_2 ?_
  refine rb_iconst (v := (1 : Int32)) (by decide) dJ4_grow_5 ?_
  refine rb_iadd (z := (x1 + (1 : Int32))) rfl dJ4_grow_6 ?_
  obtain ⟨d2, n3, Q4, h1v5, hdv5, hnv5, hov5, Kv5⟩ := Kx1
  refine rb_call st_J4_69_7 (rest := []) h1v5 rfl rfl (rc_rc rfl hov5) (Nat.le_of_ble_eq_true rfl) hdv5.1 hdv5.2 hnv5.1 hnv5.2 dJ4_grow_7 (fun o M6 hpv5 => ?_)
  obtain ⟨v5, eo, hv5, KKv5⟩ := Kv5 o M6 hpv5
  subst eo
  show rb_Bd κ mJ4_grow (n.1 + n3.1, n.2 + n3.2) M6 10 [some (.ref a0)] [v5]
  exact rb_aret rfl (Or.inr ⟨_, rfl⟩) hv5 (KKv5).1.1 (KKv5).1.2 dJ4_grow_10 (KKv5).2
theorem sgJ4_grow_2_0 {κ : rb_K} {n : Nat × Nat} {M : rb_H} {a0 : Nat} {a1 : Int32} (K : (∃ (v1 : Value), rb_rd M a0 7 1 (v1) ∧ rb_isR v1 ∧ (∃ q2, v1 = .ref q2 ∧ (∃ (x3 : Int32), rb_ln κ.1 M q2 x3 ∧ ((0 < x3 → (∃ (d5 : Nat) (n6 : Nat × Nat) (Q7 : Outcome → rb_H → Prop), rb_Ct κ.1 yJ5_newLength wJ5_newLength d5 n6 [.int x3, .int (a1 - x3), .int (x3 >>> ((1 : Int32) &&& 31))] M Q7 ∧ rb_dp κ d5 ∧ rb_rom κ (n.1 + n6.1, n.2 + n6.2) ∧ ∀ (o : Outcome) (M9 : rb_H), Q7 o M9 → (∃ (x8 : Int32), o = .returned (some (.int x8)) ∧ (∃ (v10 : Value), rb_rd M9 a0 7 1 (v10) ∧ rb_isR v10 ∧ (∃ (d11 : Nat) (n12 : Nat × Nat) (Q13 : Outcome → rb_H → Prop), rb_Ct κ.1 yJ7_copyOf wJ7_copyOf d11 n12 [v10, .int x8] M9 Q13 ∧ rb_dp κ d11 ∧ rb_rom κ (n.1 + n6.1 + n12.1, n.2 + n6.2 + n12.2) ∧ ∀ (o : Outcome) (M15 : rb_H), Q13 o M15 → (∃ (v14 : Value), o = .returned (some v14) ∧ rb_isR v14 ∧ (∃ fs16, M15.2 a0 = some (rb_O 7 fs16) ∧ 1 < fs16.length ∧ (rb_fin κ (n.1 + n6.1 + n12.1, n.2 + n6.2 + n12.2) ∧ κ.2.2.1 (.returned (some v14)) (rb_up M15 a0 (rb_O 7 (fs16.set 1 v14))))))))))) ∧ (x3 ≤ 0 → (∃ (v17 : Value), rb_rd M a0 7 1 (v17) ∧ rb_isR v17 ∧ ((v17 = (.ref (rb_dc κ.1)) → (∃ (d19 : Nat) (n20 : Nat × Nat) (Q21 : Outcome → rb_H → Prop), rb_Ct κ.1 yJ6_max wJ6_max d19 n20 [.int (10 : Int32), .int a1] M Q21 ∧ rb_dp κ d19 ∧ rb_rom κ (n.1 + n20.1, n.2 + n20.2) ∧ ∀ (o : Outcome) (M23 : rb_H), Q21 o M23 → (∃ (x22 : Int32), o = .returned (some (.int x22)) ∧ (∃ N24, x22 = nI N24 ∧ N24 ≤ 67108864 ∧ rb_rom κ (n.1 + n20.1 + 1, n.2 + n20.2 + N24) ∧ (∃ fs25, (rb_nw M23 (rb_R 3 N24 (fun _ => none))).2 a0 = some (rb_O 7 fs25) ∧ 1 < fs25.length ∧ (rb_fin κ (n.1 + n20.1 + 1, n.2 + n20.2 + N24) ∧ κ.2.2.1 (.returned (some (.ref M23.1))) (rb_up (rb_nw M23 (rb_R 3 N24 (fun _ => none))) a0 (rb_O 7 (fs25.set 1 (.ref M23.1)))))))))) ∧ (¬ v17 = (.ref (rb_dc κ.1)) → (∃ (d26 : Nat) (n27 : Nat × Nat) (Q28 : Outcome → rb_H → Prop), rb_Ct κ.1 yJ5_newLength wJ5_newLength d26 n27 [.int x3, .int (a1 - x3), .int (x3 >>> ((1 : Int32) &&& 31))] M Q28 ∧ rb_dp κ d26 ∧ rb_rom κ (n.1 + n27.1, n.2 + n27.2) ∧ ∀ (o : Outcome) (M30 : rb_H), Q28 o M30 → (∃ (x29 : Int32), o = .returned (some (.int x29)) ∧ (∃ (v31 : Value), rb_rd M30 a0 7 1 (v31) ∧ rb_isR v31 ∧ (∃ (d32 : Nat) (n33 : Nat × Nat) (Q34 : Outcome → rb_H → Prop), rb_Ct κ.1 yJ7_copyOf wJ7_copyOf d32 n33 [v31, .int x29] M30 Q34 ∧ rb_dp κ d32 ∧ rb_rom κ (n.1 + n27.1 + n33.1, n.2 + n27.2 + n33.2) ∧ ∀ (o : Outcome) (M36 : rb_H), Q34 o M36 → (∃ (v35 : Value), o = .returned (some v35) ∧ rb_isR v35 ∧ (∃ fs37, M36.2 a0 = some (rb_O 7 fs37) ∧ 1 < fs37.length ∧ (rb_fin κ (n.1 + n27.1 + n33.1, n.2 + n27.2 + n33.2) ∧ κ.2.2.1 (.returned (some v35)) (rb_up M36 a0 (rb_O 7 (fs37.set 1 v35))))))))))))))))))) : rb_Bd κ mJ4_grow_2 n M 0 [some (.ref a0), some (.int a1), none, none] [] := by
  refine rb_aload_n 0 rfl rfl (rb_isR_ref _) dJ4_grow_2_0 ?_
  obtain ⟨v1, hrv1, hv1, Kv1⟩ := K
  refine rc_get fl_J4_9_7 hrv1 dJ4_grow_2_1 ?_
  obtain ⟨q2, eq2, Kq2⟩ := Kv1
  subst eq2
  obtain ⟨x3, hxx3, Kx3⟩ := Kq2
  refine rc_alen hxx3 dJ4_grow_2_4 ?_
  refine rb_istore_n 2 rfl (ls' := [some (.ref a0), some (.int a1), some (.int x3), none]) (by decide) rfl rfl dJ4_grow_2_5 ?_
  refine rb_iload_n 2 rfl rfl dJ4_grow_2_6 ?_
  refine rb_ifgt 20 (by decide) dJ4_grow_2_7 (fun c4 => ?_) (fun c4 => ?_)
  · skip
    refine rb_iload_n 2 rfl rfl dJ4_grow_2_20 ?_
    refine rb_iload_n 1 rfl rfl dJ4_grow_2_21 ?_
    refine rb_iload_n 2 rfl rfl dJ4_grow_2_22 ?_
    refine rb_isub (z := (a1 - x3)) rfl dJ4_grow_2_23 ?_
    refine rb_iload_n 2 rfl rfl dJ4_grow_2_24 ?_
    refine rb_iconst (v := (1 : Int32)) (by decide) dJ4_grow_2_25 ?_
    refine rb_ishr (z := (x3 >>> ((1 : Int32) &&& 31))) rfl dJ4_grow_2_26 ?_
    obtain ⟨d5, n6, Q7, h1x8, hdx8, hnx8, Kx8⟩ := ((Kx3).1 c4)
    refine rb_call st_J4_73 (rest := []) h1x8 rfl rfl mm_rn (Nat.le_of_ble_eq_true rfl) hdx8.1 hdx8.2 hnx8.1 hnx8.2 dJ4_grow_2_27 (fun o M9 hpx8 => ?_)
    obtain ⟨x8, eo, KKx8⟩ := Kx8 o M9 hpx8
    subst eo
    show rb_Bd κ mJ4_grow_2 (n.1 + n6.1, n.2 + n6.2) M9 30 [some (.ref a0), some (.int a1), some (.int x3), none] [.int x8]
    refine rb_istore_n 3 rfl (ls' := [some (.ref a0), some (.int a1), some (.int x3), some (.int x8)]) (by decide) rfl rfl dJ4_grow_2_30 ?_
    refine rb_aload_n 0 rfl rfl (rb_isR_ref _) dJ4_grow_2_31 ?_
    refine rb_aload_n 0 rfl rfl (rb_isR_ref _) dJ4_grow_2_32 ?_
    obtain ⟨v10, hrv10, hv10, Kv10⟩ := KKx8
    refine rc_get fl_J4_9_7 hrv10 dJ4_grow_2_33 ?_
    refine rb_iload_n 3 rfl rfl dJ4_grow_2_36 ?_
    obtain ⟨d11, n12, Q13, h1v14, hdv14, hnv14, Kv14⟩ := Kv10
    refine rb_call st_J4_66 (rest := [.ref a0]) h1v14 rfl rfl mm_rn (Nat.le_of_ble_eq_true rfl) hdv14.1 hdv14.2 hnv14.1 hnv14.2 dJ4_grow_2_37 (fun o M15 hpv14 => ?_)
    obtain ⟨v14, eo, hv14, KKv14⟩ := Kv14 o M15 hpv14
    subst eo
    show rb_Bd κ mJ4_grow_2 (n.1 + n6.1 + n12.1, n.2 + n6.2 + n12.2) M15 40 [some (.ref a0), some (.int a1), some (.int x3), some (.int x8)] [v14, .ref a0]
    refine rb_dup_x1 (rb_isR_cat hv14) rfl dJ4_grow_2_40 ?_
    obtain ⟨fs16, hMfs16, hlfs16, Kfs16⟩ := KKv14
    refine rb_put fl_J4_9_7 (fun q hq => by cases hq; exact Or.inl rfl) (rb_nfA hv14 _).1 (rb_nfA hv14 _).2 hMfs16 hlfs16 dJ4_grow_2_41 ?_
    exact rb_aret rfl (Or.inr ⟨_, rfl⟩) hv14 (Kfs16).1.1 (Kfs16).1.2 dJ4_grow_2_44 (Kfs16).2
  · skip
    refine rb_aload_n 0 rfl rfl (rb_isR_ref _) dJ4_grow_2_10 ?_
    obtain ⟨v17, hrv17, hv17, Kv17⟩ := ((Kx3).2 c4)
    refine rc_get fl_J4_9_7 hrv17 dJ4_grow_2_11 ?_
    refine rb_getDC q224 q225 q83 dJ4_grow_2_14 ?_
    refine rb_iaeq hv17 (rb_isR_ref _) 45 (by decide) dJ4_grow_2_17 (fun c18 => ?_) (fun c18 => ?_)
    · skip
      refine rb_aload_n 0 rfl rfl (rb_isR_ref _) dJ4_grow_2_45 ?_
      refine rb_bipush (v := (10 : Int32)) (by decide) dJ4_grow_2_46 ?_
      refine rb_iload_n 1 rfl rfl dJ4_grow_2_48 ?_
      obtain ⟨d19, n20, Q21, h1x22, hdx22, hnx22, Kx22⟩ := ((Kv17).1 c18)
      refine rb_call st_J4_79 (rest := [.ref a0]) h1x22 rfl rfl mm_rn (Nat.le_of_ble_eq_true rfl) hdx22.1 hdx22.2 hnx22.1 hnx22.2 dJ4_grow_2_49 (fun o M23 hpx22 => ?_)
      obtain ⟨x22, eo, KKx22⟩ := Kx22 o M23 hpx22
      subst eo
      show rb_Bd κ mJ4_grow_2 (n.1 + n20.1, n.2 + n20.2) M23 52 [some (.ref a0), some (.int a1), some (.int x3), none] [.int x22, .ref a0]
      obtain ⟨N24, hxN24, hNN24, hrN24, KN24⟩ := KKx22
      refine rb_anew (t := 3) (N := N24) (by decide) (by decide) q544 q535 hxN24 hNN24 hrN24.1 hrN24.2 dJ4_grow_2_52 ?_
      show rb_Bd κ mJ4_grow_2 (n.1 + n20.1 + 1, n.2 + n20.2 + N24) (rb_nw M23 (rb_R 3 N24 (fun _ => none))) 55 [some (.ref a0), some (.int a1), some (.int x3), none] [.ref M23.1, .ref a0]
      refine rb_dup_x1 rfl rfl dJ4_grow_2_55 ?_
      obtain ⟨fs25, hMfs25, hlfs25, Kfs25⟩ := KN24
      refine rb_put fl_J4_9_7 (fun q hq => by cases hq; exact Or.inl rfl) (rb_nfA (rb_isR_ref _) _).1 (rb_nfA (rb_isR_ref _) _).2 hMfs25 hlfs25 dJ4_grow_2_56 ?_
      exact rb_aret rfl (Or.inr ⟨_, rfl⟩) (rb_isR_ref _) (Kfs25).1.1 (Kfs25).1.2 dJ4_grow_2_59 (Kfs25).2
    · skip
      refine rb_iload_n 2 rfl rfl dJ4_grow_2_20 ?_
      refine rb_iload_n 1 rfl rfl dJ4_grow_2_21 ?_
      refine rb_iload_n 2 rfl rfl dJ4_grow_2_22 ?_
      refine rb_isub (z := (a1 - x3)) rfl dJ4_grow_2_23 ?_
      refine rb_iload_n 2 rfl rfl dJ4_grow_2_24 ?_
      refine rb_iconst (v := (1 : Int32)) (by decide) dJ4_grow_2_25 ?_
      refine rb_ishr (z := (x3 >>> ((1 : Int32) &&& 31))) rfl dJ4_grow_2_26 ?_
      obtain ⟨d26, n27, Q28, h1x29, hdx29, hnx29, Kx29⟩ := ((Kv17).2 c18)
      refine rb_call st_J4_73 (rest := []) h1x29 rfl rfl mm_rn (Nat.le_of_ble_eq_true rfl) hdx29.1 hdx29.2 hnx29.1 hnx29.2 dJ4_grow_2_27 (fun o M30 hpx29 => ?_)
      obtain ⟨x29, eo, KKx29⟩ := Kx29 o M30 hpx29
      subst eo
      show rb_Bd κ mJ4_grow_2 (n.1 + n27.1, n.2 + n27.2) M30 30 [some (.ref a0), some (.int a1), some (.int x3), none] [.int x29]
      refine rb_istore_n 3 rfl (ls' := [some (.ref a0), some (.int a1), some (.int x3), some (.int x29)]) (by decide) rfl rfl dJ4_grow_2_30 ?_
      refine rb_aload_n 0 rfl rfl (rb_isR_ref _) dJ4_grow_2_31 ?_
      refine rb_aload_n 0 rfl rfl (rb_isR_ref _) dJ4_grow_2_32 ?_
      obtain ⟨v31, hrv31, hv31, Kv31⟩ := KKx29
      refine rc_get fl_J4_9_7 hrv31 dJ4_grow_2_33 ?_
      refine rb_iload_n 3 rfl rfl dJ4_grow_2_36 ?_
      obtain ⟨d32, n33, Q34, h1v35, hdv35, hnv35, Kv35⟩ := Kv31
      refine rb_call st_J4_66 (rest := [.ref a0]) h1v35 rfl rfl mm_rn (Nat.le_of_ble_eq_true rfl) hdv35.1 hdv35.2 hnv35.1 hnv35.2 dJ4_grow_2_37 (fun o M36 hpv35 => ?_)
      obtain ⟨v35, eo, hv35, KKv35⟩ := Kv35 o M36 hpv35
      subst eo
      show rb_Bd κ mJ4_grow_2 (n.1 + n27.1 + n33.1, n.2 + n27.2 + n33.2) M36 40 [some (.ref a0), some (.int a1), some (.int x3), some (.int x29)] [v35, .ref a0]
      refine rb_dup_x1 (rb_isR_cat hv35) rfl dJ4_grow_2_40 ?_
      obtain ⟨fs37, hMfs37, hlfs37, Kfs37⟩ := KKv35
      refine rb_put fl_J4_9_7 (fun q hq => by cases hq; exact Or.inl rfl) (rb_nfA hv35 _).1 (rb_nfA hv35 _).2 hMfs37 hlfs37 dJ4_grow_2_41 ?_
      exact rb_aret rfl (Or.inr ⟨_, rfl⟩) hv35 (Kfs37).1.1 (Kfs37).1.2 dJ4_grow_2_44 (Kfs37).2
theorem sgJ4_get_0 {κ : rb_K} {n : Nat × Nat} {M : rb_H} {a0 : Nat} {a1 : Int32} (K : (∃ (x1 : Int32), rb_rd M a0 7 2 (.int x1) ∧ (∃ (d2 : Nat) (n3 : Nat × Nat) (Q4 : Outcome → rb_H → Prop), rb_Ct κ.1 yJ8_checkIndex wJ8_checkIndex d2 n3 [.int a1, .int x1] M Q4 ∧ rb_dp κ d2 ∧ rb_rom κ (n.1 + n3.1, n.2 + n3.2) ∧ ∀ (o : Outcome) (M6 : rb_H), Q4 o M6 → (∃ (x5 : Int32), o = .returned (some (.int x5)) ∧ (∃ (d7 : Nat) (n8 : Nat × Nat) (Q9 : Outcome → rb_H → Prop), rb_Ct κ.1 yJ4_elementData wJ4_elementData d7 n8 [.ref a0, .int a1] M6 Q9 ∧ rb_dp κ d7 ∧ rb_rom κ (n.1 + n3.1 + n8.1, n.2 + n3.2 + n8.2) ∧ rb_ob M6 a0 7 ∧ ∀ (o : Outcome) (M11 : rb_H), Q9 o M11 → (∃ (v10 : Value), o = .returned (some v10) ∧ rb_isR v10 ∧ (rb_fin κ (n.1 + n3.1 + n8.1, n.2 + n3.2 + n8.2) ∧ κ.2.2.1 (.returned (some v10)) M11))))))) : rb_Bd κ mJ4_get n M 0 [some (.ref a0), some (.int a1)] [] := by
  refine rb_iload_n 1 rfl rfl dJ4_get_0 ?_
  refine rb_aload_n 0 rfl rfl (rb_isR_ref _) dJ4_get_1 ?_
  obtain ⟨x1, hrx1, Kx1⟩ := K
  refine rc_get fl_J4_48_7 hrx1 dJ4_get_2 ?_
  obtain ⟨d2, n3, Q4, h1x5, hdx5, hnx5, Kx5⟩ := Kx1
  refine rb_call st_J4_118 (rest := []) h1x5 rfl rfl mm_rn (Nat.le_of_ble_eq_true rfl) hdx5.1 hdx5.2 hnx5.1 hnx5.2 dJ4_get_5 (fun o M6 hpx5 => ?_)
  obtain ⟨x5, eo, KKx5⟩ := Kx5 o M6 hpx5
  subst eo
  show rb_Bd κ mJ4_get (n.1 + n3.1, n.2 + n3.2) M6 8 [some (.ref a0), some (.int a1)] [.int x5]
  refine rb_pop rfl dJ4_get_8 ?_
  refine rb_aload_n 0 rfl rfl (rb_isR_ref _) dJ4_get_9 ?_
  refine rb_iload_n 1 rfl rfl dJ4_get_10 ?_
  obtain ⟨d7, n8, Q9, h1v10, hdv10, hnv10, hov10, Kv10⟩ := KKx5
  refine rb_call st_J4_123_7 (rest := []) h1v10 rfl rfl (rc_rc rfl hov10) (Nat.le_of_ble_eq_true rfl) hdv10.1 hdv10.2 hnv10.1 hnv10.2 dJ4_get_11 (fun o M11 hpv10 => ?_)
  obtain ⟨v10, eo, hv10, KKv10⟩ := Kv10 o M11 hpv10
  subst eo
  show rb_Bd κ mJ4_get (n.1 + n3.1 + n8.1, n.2 + n3.2 + n8.2) M11 14 [some (.ref a0), some (.int a1)] [v10]
  exact rb_aret rfl (Or.inl ⟨_, rfl⟩) hv10 (KKv10).1.1 (KKv10).1.2 dJ4_get_14 (KKv10).2
theorem sgJ4_elementData_0 {κ : rb_K} {n : Nat × Nat} {M : rb_H} {a0 : Nat} {a1 : Int32} (K : (∃ (v1 : Value), rb_rd M a0 7 1 (v1) ∧ rb_isR v1 ∧ (∃ q2, v1 = .ref q2 ∧ (∃ (t6 N3 : Nat) (f4 : Nat → Option Nat) (v5 : Value), M.2 q2 = some (rb_R t6 N3 f4) ∧ (3 ≤ t6 ∧ t6 ≤ 6) ∧ vp_in a1 N3 ∧ va_rf (f4 (a1).toNatClampNeg) = v5 ∧ (rb_fin κ n ∧ κ.2.2.1 (.returned (some v5)) M))))) : rb_Bd κ mJ4_elementData n M 0 [some (.ref a0), some (.int a1)] [] := by
  refine rb_aload_n 0 rfl rfl (rb_isR_ref _) dJ4_elementData_0 ?_
  obtain ⟨v1, hrv1, hv1, Kv1⟩ := K
  refine rc_get fl_J4_9_7 hrv1 dJ4_elementData_1 ?_
  refine rb_iload_n 1 rfl rfl dJ4_elementData_4 ?_
  obtain ⟨q2, eq2, Kq2⟩ := Kv1
  subst eq2
  obtain ⟨t6, N3, f4, v5, hMv5, htv5, hiv5, hxv5, Kv5⟩ := Kq2
  have hv5 := rc_isRf hxv5
  refine rc_aald hMv5 htv5 hiv5 hxv5 dJ4_elementData_5 ?_
  exact rb_aret rfl (Or.inl ⟨_, rfl⟩) hv5 (Kv5).1.1 (Kv5).1.2 dJ4_elementData_6 (Kv5).2
theorem sgJ4_contains_0 {κ : rb_K} {n : Nat × Nat} {M : rb_H} {a0 : Nat} {a1 : Value} (ha1 : rb_isR a1) (K : (∃ (d1 : Nat) (n2 : Nat × Nat) (Q3 : Outcome → rb_H → Prop), rb_Ct κ.1 yJ4_indexOf wJ4_indexOf d1 n2 [.ref a0, a1] M Q3 ∧ rb_dp κ d1 ∧ rb_rom κ (n.1 + n2.1, n.2 + n2.2) ∧ rb_ob M a0 7 ∧ ∀ (o : Outcome) (M5 : rb_H), Q3 o M5 → (∃ (x4 : Int32), o = .returned (some (.int x4)) ∧ ((x4 < 0 → (rb_fin κ (n.1 + n2.1, n.2 + n2.2) ∧ κ.2.2.1 (.returned (some (.int (0 : Int32)))) M5)) ∧ (0 ≤ x4 → (rb_fin κ (n.1 + n2.1, n.2 + n2.2) ∧ κ.2.2.1 (.returned (some (.int (1 : Int32)))) M5)))))) : rb_Bd κ mJ4_contains n M 0 [some (.ref a0), some a1] [] := by
  refine rb_aload_n 0 rfl rfl (rb_isR_ref _) dJ4_contains_0 ?_
  refine rb_aload_n 1 rfl rfl ha1 dJ4_contains_1 ?_
  obtain ⟨d1, n2, Q3, h1x4, hdx4, hnx4, hox4, Kx4⟩ := K
  refine rb_call st_J4_85_7 (rest := []) h1x4 rfl rfl (rc_rc rfl hox4) (Nat.le_of_ble_eq_true rfl) hdx4.1 hdx4.2 hnx4.1 hnx4.2 dJ4_contains_2 (fun o M5 hpx4 => ?_)
  obtain ⟨x4, eo, KKx4⟩ := Kx4 o M5 hpx4
  subst eo
  show rb_Bd κ mJ4_contains (n.1 + n2.1, n.2 + n2.2) M5 5 [some (.ref a0), some a1] [.int x4]
  refine rb_iflt 12 (by decide) dJ4_contains_5 (fun c6 => ?_) (fun c6 => ?_)
  · skip
    refine rb_iconst (v := (0 : Int32)) (by decide) dJ4_contains_12 ?_
    exact rb_iret rfl (by decide) (((KKx4).1 c6)).1.1 (((KKx4).1 c6)).1.2 dJ4_contains_13 (((KKx4).1 c6)).2
  · skip
    refine rb_iconst (v := (1 : Int32)) (by decide) dJ4_contains_8 ?_
    refine rb_goto 13 (by decide) dJ4_contains_9 ?_
    exact rb_iret rfl (by decide) (((KKx4).2 c6)).1.1 (((KKx4).2 c6)).1.2 dJ4_contains_13 (((KKx4).2 c6)).2
theorem sgJ4_indexOf_0 {κ : rb_K} {n : Nat × Nat} {M : rb_H} {a0 : Nat} {a1 : Value} (ha1 : rb_isR a1) (K : (∃ (x1 : Int32), rb_rd M a0 7 2 (.int x1) ∧ (∃ (d2 : Nat) (n3 : Nat × Nat) (Q4 : Outcome → rb_H → Prop), rb_Ct κ.1 yJ4_indexOfRange wJ4_indexOfRange d2 n3 [.ref a0, a1, .int (0 : Int32), .int x1] M Q4 ∧ rb_dp κ d2 ∧ rb_rom κ (n.1 + n3.1, n.2 + n3.2) ∧ rb_ob M a0 7 ∧ ∀ (o : Outcome) (M6 : rb_H), Q4 o M6 → (∃ (x5 : Int32), o = .returned (some (.int x5)) ∧ (rb_fin κ (n.1 + n3.1, n.2 + n3.2) ∧ κ.2.2.1 (.returned (some (.int x5))) M6))))) : rb_Bd κ mJ4_indexOf n M 0 [some (.ref a0), some a1] [] := by
  refine rb_aload_n 0 rfl rfl (rb_isR_ref _) dJ4_indexOf_0 ?_
  refine rb_aload_n 1 rfl rfl ha1 dJ4_indexOf_1 ?_
  refine rb_iconst (v := (0 : Int32)) (by decide) dJ4_indexOf_2 ?_
  refine rb_aload_n 0 rfl rfl (rb_isR_ref _) dJ4_indexOf_3 ?_
  obtain ⟨x1, hrx1, Kx1⟩ := K
  refine rc_get fl_J4_48_7 hrx1 dJ4_indexOf_4 ?_
  obtain ⟨d2, n3, Q4, h1x5, hdx5, hnx5, hox5, Kx5⟩ := Kx1
  refine rb_call st_J4_89_7 (rest := []) h1x5 rfl rfl (rc_rc rfl hox5) (Nat.le_of_ble_eq_true rfl) hdx5.1 hdx5.2 hnx5.1 hnx5.2 dJ4_indexOf_7 (fun o M6 hpx5 => ?_)
  obtain ⟨x5, eo, KKx5⟩ := Kx5 o M6 hpx5
  subst eo
  show rb_Bd κ mJ4_indexOf (n.1 + n3.1, n.2 + n3.2) M6 10 [some (.ref a0), some a1] [.int x5]
  exact rb_iret rfl rfl (KKx5).1.1 (KKx5).1.2 dJ4_indexOf_10 (KKx5).2
theorem sgJ4_indexOfRange_0 {κ : rb_K} {n : Nat × Nat} {M : rb_H} {a0 : Nat} {a1 : Value} {a2 : Int32} {a3 : Int32} (ha1 : rb_isR a1) (K : (∃ (v1 : Value), rb_rd M a0 7 1 (v1) ∧ rb_isR v1 ∧ ((a1 = .null → rb_Bd κ mJ4_indexOfRange n M 13 [some (.ref a0), some (.null), some (.int a2), some (.int a3), some v1, some (.int a2)] []) ∧ (∀ q2, a1 = .ref q2 → rb_Bd κ mJ4_indexOfRange n M 42 [some (.ref a0), some (.ref q2), some (.int a2), some (.int a3), some v1, some (.int a2)] [])))) : rb_Bd κ mJ4_indexOfRange n M 0 [some (.ref a0), some a1, some (.int a2), some (.int a3), none, none] [] := by
  refine rb_aload_n 0 rfl rfl (rb_isR_ref _) dJ4_indexOfRange_0 ?_
  obtain ⟨v1, hrv1, hv1, Kv1⟩ := K
  refine rc_get fl_J4_9_7 hrv1 dJ4_indexOfRange_1 ?_
  refine rb_astore (ls' := [some (.ref a0), some a1, some (.int a2), some (.int a3), some v1, none]) (by decide) rfl rfl hv1 dJ4_indexOfRange_4 ?_
  refine rb_aload_n 1 rfl rfl ha1 dJ4_indexOfRange_6 ?_
  refine rb_ifnonnull ha1 39 (by decide) dJ4_indexOfRange_7 (fun q2 e => ?_) (fun e => ?_)
  · subst e
    refine rb_iload_n 2 rfl rfl dJ4_indexOfRange_39 ?_
    refine rb_istore (ls' := [some (.ref a0), some (.ref q2), some (.int a2), some (.int a3), some v1, some (.int a2)]) (by decide) (by simp [rb_o1, rb_isR_cat hv1]) rfl dJ4_indexOfRange_40 ?_
    exact ((Kv1).2 q2 rfl)
  · subst e
    refine rb_iload_n 2 rfl rfl dJ4_indexOfRange_10 ?_
    refine rb_istore (ls' := [some (.ref a0), some (.null), some (.int a2), some (.int a3), some v1, some (.int a2)]) (by decide) (by simp [rb_o1, rb_isR_cat hv1]) rfl dJ4_indexOfRange_11 ?_
    exact ((Kv1).1 rfl)
theorem sgJ4_indexOfRange_13 {κ : rb_K} {n : Nat × Nat} {M : rb_H} {a0 : Nat} {a1 : Value} {a2 : Int32} {a3 : Int32} {a4 : Value} {a5 : Int32} (ha1 : rb_isR a1) (ha4 : rb_isR a4) (K : ((a3 ≤ a5 → (rb_fin κ n ∧ κ.2.2.1 (.returned (some (.int (-1 : Int32)))) M)) ∧ (a5 < a3 → (∃ q2, a4 = .ref q2 ∧ (∃ (t6 N3 : Nat) (f4 : Nat → Option Nat) (v5 : Value), M.2 q2 = some (rb_R t6 N3 f4) ∧ (3 ≤ t6 ∧ t6 ≤ 6) ∧ vp_in a5 N3 ∧ va_rf (f4 (a5).toNatClampNeg) = v5 ∧ ((v5 = .null → (rb_fin κ n ∧ κ.2.2.1 (.returned (some (.int a5))) M)) ∧ (∀ q7, v5 = .ref q7 → rb_Bd κ mJ4_indexOfRange n M 13 [some (.ref a0), some a1, some (.int a2), some (.int a3), some (.ref q2), some (.int (a5 + (1 : Int32)))] []))))))) : rb_Bd κ mJ4_indexOfRange n M 13 [some (.ref a0), some a1, some (.int a2), some (.int a3), some a4, some (.int a5)] [] := by
  refine rb_iload rfl dJ4_indexOfRange_13 ?_
  refine rb_iload_n 3 rfl rfl dJ4_indexOfRange_15 ?_
  refine rb_icge 36 (by decide) dJ4_indexOfRange_16 (fun c1 => ?_) (fun c1 => ?_)
  · skip
    refine rb_goto 69 (by decide) dJ4_indexOfRange_36 ?_
    refine rb_iconst (v := (-1 : Int32)) (by decide) dJ4_indexOfRange_69 ?_
    exact rb_iret rfl rfl (((K).1 c1)).1.1 (((K).1 c1)).1.2 dJ4_indexOfRange_70 (((K).1 c1)).2
  · skip
    refine rb_aload rfl ha4 dJ4_indexOfRange_19 ?_
    refine rb_iload rfl dJ4_indexOfRange_21 ?_
    obtain ⟨q2, eq2, Kq2⟩ := ((K).2 c1)
    subst eq2
    obtain ⟨t6, N3, f4, v5, hMv5, htv5, hiv5, hxv5, Kv5⟩ := Kq2
    have hv5 := rc_isRf hxv5
    refine rc_aald hMv5 htv5 hiv5 hxv5 dJ4_indexOfRange_23 ?_
    refine rb_ifnonnull hv5 30 (by decide) dJ4_indexOfRange_24 (fun q7 e => ?_) (fun e => ?_)
    · subst e
      refine rb_iinc (ls' := [some (.ref a0), some a1, some (.int a2), some (.int a3), some (.ref q2), some (.int (a5 + (1 : Int32)))]) (v := (a5 + (1 : Int32))) rfl rfl (by decide) rfl rfl dJ4_indexOfRange_30 ?_
      refine rb_goto 13 (by decide) dJ4_indexOfRange_33 ?_
      exact ((Kv5).2 q7 rfl)
    · subst e
      refine rb_iload rfl dJ4_indexOfRange_27 ?_
      exact rb_iret rfl rfl (((Kv5).1 rfl)).1.1 (((Kv5).1 rfl)).1.2 dJ4_indexOfRange_29 (((Kv5).1 rfl)).2
theorem sgJ4_indexOfRange_42 {κ : rb_K} {n : Nat × Nat} {M : rb_H} {a0 : Nat} {a1 : Value} {a2 : Int32} {a3 : Int32} {a4 : Value} {a5 : Int32} (ha1 : rb_isR a1) (ha4 : rb_isR a4) (K : ((a3 ≤ a5 → (rb_fin κ n ∧ κ.2.2.1 (.returned (some (.int (-1 : Int32)))) M)) ∧ (a5 < a3 → (∃ q2, a4 = .ref q2 ∧ (∃ (t6 N3 : Nat) (f4 : Nat → Option Nat) (v5 : Value), M.2 q2 = some (rb_R t6 N3 f4) ∧ (3 ≤ t6 ∧ t6 ≤ 6) ∧ vp_in a5 N3 ∧ va_rf (f4 (a5).toNatClampNeg) = v5 ∧ (∃ q7, a1 = .ref q7 ∧ (∃ q8, v5 = .ref q8 ∧ (∃ (x9 : Int32), x9 = (if q7 = q8 then (1 : Int32) else 0) ∧ (rb_ob M q7 5 ∨ rb_ob M q7 6) ∧ rb_dp κ 0 ∧ (((if q7 = q8 then (1 : Int32) else 0) = 0 → rb_Bd κ mJ4_indexOfRange n M 42 [some (.ref a0), some (.ref q7), some (.int a2), some (.int a3), some (.ref q2), some (.int (a5 + (1 : Int32)))] []) ∧ (¬ (if q7 = q8 then (1 : Int32) else 0) = 0 → (rb_fin κ n ∧ κ.2.2.1 (.returned (some (.int a5))) M))))))))))) : rb_Bd κ mJ4_indexOfRange n M 42 [some (.ref a0), some a1, some (.int a2), some (.int a3), some a4, some (.int a5)] [] := by
  refine rb_iload rfl dJ4_indexOfRange_42 ?_
  refine rb_iload_n 3 rfl rfl dJ4_indexOfRange_44 ?_
  refine rb_icge 69 (by decide) dJ4_indexOfRange_45 (fun c1 => ?_) (fun c1 => ?_)
  · skip
    refine rb_iconst (v := (-1 : Int32)) (by decide) dJ4_indexOfRange_69 ?_
    exact rb_iret rfl rfl (((K).1 c1)).1.1 (((K).1 c1)).1.2 dJ4_indexOfRange_70 (((K).1 c1)).2
  · skip
    refine rb_aload_n 1 rfl rfl ha1 dJ4_indexOfRange_48 ?_
    refine rb_aload rfl ha4 dJ4_indexOfRange_49 ?_
    refine rb_iload rfl dJ4_indexOfRange_51 ?_
    obtain ⟨q2, eq2, Kq2⟩ := ((K).2 c1)
    subst eq2
    obtain ⟨t6, N3, f4, v5, hMv5, htv5, hiv5, hxv5, Kv5⟩ := Kq2
    have hv5 := rc_isRf hxv5
    refine rc_aald hMv5 htv5 hiv5 hxv5 dJ4_indexOfRange_53 ?_
    obtain ⟨q7, eq7, Kq7⟩ := Kv5
    subst eq7
    obtain ⟨q8, eq8, Kq8⟩ := Kq7
    subst eq8
    obtain ⟨x9, hxx9, hbx9, hdx9, Kx9⟩ := Kq8
    subst hxx9
    have kk : rb_Bd κ mJ4_indexOfRange n M 57 [some (.ref a0), some (.ref q7), some (.int a2), some (.int a3), some (.ref q2), some (.int a5)] [.int (if q7 = q8 then 1 else 0)] := by
      refine rb_ifeq 63 (by decide) dJ4_indexOfRange_57 (fun c10 => ?_) (fun c10 => ?_)
      · skip
        refine rb_iinc (ls' := [some (.ref a0), some (.ref q7), some (.int a2), some (.int a3), some (.ref q2), some (.int (a5 + (1 : Int32)))]) (v := (a5 + (1 : Int32))) rfl rfl (by decide) rfl rfl dJ4_indexOfRange_63 ?_
        refine rb_goto 42 (by decide) dJ4_indexOfRange_66 ?_
        exact ((Kx9).1 c10)
      · skip
        refine rb_iload rfl dJ4_indexOfRange_60 ?_
        exact rb_iret rfl rfl (((Kx9).2 c10)).1.1 (((Kx9).2 c10)).1.2 dJ4_indexOfRange_62 (((Kx9).2 c10)).2
    rcases hbx9 with hbx9 | hbx9
    · exact rb_equals hbx9 rfl q580 q582 q581 q601 q612 (Nat.le_of_ble_eq_true rfl) hdx9.1 (Nat.le_trans (by decide) hdx9.2) dJ4_indexOfRange_54 kk
    · exact rb_equals hbx9 rfl q580 q582 q581 q590 q612 (Nat.le_of_ble_eq_true rfl) hdx9.1 (Nat.le_trans (by decide) hdx9.2) dJ4_indexOfRange_54 kk
theorem sgJ4_isEmpty_0 {κ : rb_K} {n : Nat × Nat} {M : rb_H} {a0 : Nat} (K : (∃ (x1 : Int32), rb_rd M a0 7 2 (.int x1) ∧ ((¬ x1 = 0 → (rb_fin κ n ∧ κ.2.2.1 (.returned (some (.int (0 : Int32)))) M)) ∧ (x1 = 0 → (rb_fin κ n ∧ κ.2.2.1 (.returned (some (.int (1 : Int32)))) M))))) : rb_Bd κ mJ4_isEmpty n M 0 [some (.ref a0)] [] := by
  refine rb_aload_n 0 rfl rfl (rb_isR_ref _) dJ4_isEmpty_0 ?_
  obtain ⟨x1, hrx1, Kx1⟩ := K
  refine rc_get fl_J4_48_7 hrx1 dJ4_isEmpty_1 ?_
  refine rb_ifne 11 (by decide) dJ4_isEmpty_4 (fun c2 => ?_) (fun c2 => ?_)
  · skip
    refine rb_iconst (v := (0 : Int32)) (by decide) dJ4_isEmpty_11 ?_
    exact rb_iret rfl (by decide) (((Kx1).1 c2)).1.1 (((Kx1).1 c2)).1.2 dJ4_isEmpty_12 (((Kx1).1 c2)).2
  · skip
    refine rb_iconst (v := (1 : Int32)) (by decide) dJ4_isEmpty_7 ?_
    refine rb_goto 12 (by decide) dJ4_isEmpty_8 ?_
    exact rb_iret rfl (by decide) (((Kx1).2 c2)).1.1 (((Kx1).2 c2)).1.2 dJ4_isEmpty_12 (((Kx1).2 c2)).2
theorem sgJ4_clear_0 {κ : rb_K} {n : Nat × Nat} {M : rb_H} {a0 : Nat} (K : (∃ (x1 : Int32), rb_rd M a0 7 0 (.int x1) ∧ (∃ fs2, M.2 a0 = some (rb_O 7 fs2) ∧ 0 < fs2.length ∧ (∃ (v3 : Value), rb_rd (rb_up M a0 (rb_O 7 (fs2.set 0 (.int (x1 + (1 : Int32)))))) a0 7 1 (v3) ∧ rb_isR v3 ∧ (∃ (x4 : Int32), rb_rd (rb_up M a0 (rb_O 7 (fs2.set 0 (.int (x1 + (1 : Int32)))))) a0 7 2 (.int x4) ∧ (∃ fs5, (rb_up M a0 (rb_O 7 (fs2.set 0 (.int (x1 + (1 : Int32)))))).2 a0 = some (rb_O 7 fs5) ∧ 2 < fs5.length ∧ rb_Bd κ mJ4_clear n (rb_up (rb_up M a0 (rb_O 7 (fs2.set 0 (.int (x1 + (1 : Int32)))))) a0 (rb_O 7 (fs5.set 2 (.int (0 : Int32))))) 27 [some (.ref a0), some v3, some (.int x4), some (.int (0 : Int32))] [])))))) : rb_Bd κ mJ4_clear n M 0 [some (.ref a0), none, none, none] [] := by
  refine rb_aload_n 0 rfl rfl (rb_isR_ref _) dJ4_clear_0 ?_
  refine rb_dup rfl dJ4_clear_1 ?_
  obtain ⟨x1, hrx1, Kx1⟩ := K
  refine rc_get fl_J4_63_7 hrx1 dJ4_clear_2 ?_
  refine rb_iconst (v := (1 : Int32)) (by decide) dJ4_clear_5 ?_
  refine rb_iadd (z := (x1 + (1 : Int32))) rfl dJ4_clear_6 ?_
  obtain ⟨fs2, hMfs2, hlfs2, Kfs2⟩ := Kx1
  refine rb_put fl_J4_63_7 (fun q hq => by cases hq; exact Or.inl rfl) rfl rfl hMfs2 hlfs2 dJ4_clear_7 ?_
  refine rb_aload_n 0 rfl rfl (rb_isR_ref _) dJ4_clear_10 ?_
  obtain ⟨v3, hrv3, hv3, Kv3⟩ := Kfs2
  refine rc_get fl_J4_9_7 hrv3 dJ4_clear_11 ?_
  refine rb_astore_n 1 rfl (ls' := [some (.ref a0), some v3, none, none]) (by decide) rfl rfl hv3 dJ4_clear_14 ?_
  refine rb_aload_n 0 rfl rfl (rb_isR_ref _) dJ4_clear_15 ?_
  obtain ⟨x4, hrx4, Kx4⟩ := Kv3
  refine rc_get fl_J4_48_7 hrx4 dJ4_clear_16 ?_
  refine rb_istore_n 2 rfl (ls' := [some (.ref a0), some v3, some (.int x4), none]) (by decide) (by simp [rb_o1, rb_isR_cat hv3]) rfl dJ4_clear_19 ?_
  refine rb_aload_n 0 rfl rfl (rb_isR_ref _) dJ4_clear_20 ?_
  refine rb_iconst (v := (0 : Int32)) (by decide) dJ4_clear_21 ?_
  refine rb_dup_x1 rfl rfl dJ4_clear_22 ?_
  obtain ⟨fs5, hMfs5, hlfs5, Kfs5⟩ := Kx4
  refine rb_put fl_J4_48_7 (fun q hq => by cases hq; exact Or.inl rfl) rfl rfl hMfs5 hlfs5 dJ4_clear_23 ?_
  refine rb_istore_n 3 rfl (ls' := [some (.ref a0), some v3, some (.int x4), some (.int (0 : Int32))]) (by decide) rfl rfl dJ4_clear_26 ?_
  exact Kfs5
theorem sgJ4_clear_27 {κ : rb_K} {n : Nat × Nat} {M : rb_H} {a0 : Nat} {a1 : Value} {a2 : Int32} {a3 : Int32} (ha1 : rb_isR a1) (K : ((a2 ≤ a3 → (rb_fin κ n ∧ κ.2.2.1 (.returned none) M)) ∧ (a3 < a2 → (∃ q2, a1 = .ref q2 ∧ (∃ (t3 N4 : Nat) (f5 : Nat → Option Nat), M.2 q2 = some (rb_R t3 N4 f5) ∧ (3 ≤ t3 ∧ t3 ≤ 6) ∧ vp_in a3 N4 ∧ rb_Bd κ mJ4_clear n (rb_up M q2 (rb_R t3 N4 (va_up f5 (a3).toNatClampNeg none))) 27 [some (.ref a0), some (.ref q2), some (.int a2), some (.int (a3 + (1 : Int32)))] []))))) : rb_Bd κ mJ4_clear n M 27 [some (.ref a0), some a1, some (.int a2), some (.int a3)] [] := by
  refine rb_iload_n 3 rfl rfl dJ4_clear_27 ?_
  refine rb_iload_n 2 rfl rfl dJ4_clear_28 ?_
  refine rb_icge 42 (by decide) dJ4_clear_29 (fun c1 => ?_) (fun c1 => ?_)
  · skip
    exact rb_vret rfl (((K).1 c1)).1.1 (((K).1 c1)).1.2 dJ4_clear_42 (((K).1 c1)).2
  · skip
    refine rb_aload_n 1 rfl rfl ha1 dJ4_clear_32 ?_
    refine rb_iload_n 3 rfl rfl dJ4_clear_33 ?_
    refine rb_null dJ4_clear_34 ?_
    obtain ⟨q2, eq2, Kq2⟩ := ((K).2 c1)
    subst eq2
    obtain ⟨t3, N4, f5, hMf5, htf5, hif5, Kf5⟩ := Kq2
    refine rb_aastN hMf5 htf5.1 htf5.2 hif5 dJ4_clear_35 ?_
    refine rb_iinc (ls' := [some (.ref a0), some (.ref q2), some (.int a2), some (.int (a3 + (1 : Int32)))]) (v := (a3 + (1 : Int32))) rfl rfl (by decide) rfl rfl dJ4_clear_36 ?_
    refine rb_goto 27 (by decide) dJ4_clear_39 ?_
    exact Kf5
theorem sgJ5_newLength_0 {κ : rb_K} {n : Nat × Nat} {M : rb_H} {a0 : Int32} {a1 : Int32} {a2 : Int32} (K : (∃ (d1 : Nat) (n2 : Nat × Nat) (Q3 : Outcome → rb_H → Prop), rb_Ct κ.1 yJ6_max wJ6_max d1 n2 [.int a1, .int a2] M Q3 ∧ rb_dp κ d1 ∧ rb_rom κ (n.1 + n2.1, n.2 + n2.2) ∧ ∀ (o : Outcome) (M5 : rb_H), Q3 o M5 → (∃ (x4 : Int32), o = .returned (some (.int x4)) ∧ (((a0 + x4) ≤ (0 : Int32) → (∃ (d7 : Nat) (n8 : Nat × Nat) (Q9 : Outcome → rb_H → Prop), rb_Ct κ.1 yJ5_hugeLength wJ5_hugeLength d7 n8 [.int a0, .int a1] M5 Q9 ∧ rb_dp κ d7 ∧ rb_rom κ (n.1 + n2.1 + n8.1, n.2 + n2.2 + n8.2) ∧ ∀ (o : Outcome) (M11 : rb_H), Q9 o M11 → (∃ (x10 : Int32), o = .returned (some (.int x10)) ∧ (rb_fin κ (n.1 + n2.1 + n8.1, n.2 + n2.2 + n8.2) ∧ κ.2.2.1 (.returned (some (.int x10))) M11)))) ∧ ((0 : Int32) < (a0 + x4) → (((2147483639 : Int32) < (a0 + x4) → (∃ (d13 : Nat) (n14 : Nat × Nat) (Q15 : Outcome → rb_H → Prop), rb_Ct κ.1 yJ5_hugeLength wJ5_hugeLength d13 n14 [.int a0, .int a1] M5 Q15 ∧ rb_dp κ d13 ∧ rb_rom κ (n.1 + n2.1 + n14.1, n.2 + n2.2 + n14.2) ∧ ∀ (o : Outcome) (M17 : rb_H), Q15 o M17 → (∃ (x16 : Int32), o = .returned (some (.int x16)) ∧ (rb_fin κ (n.1 + n2.1 + n14.1, n.2 + n2.2 + n14.2) ∧ κ.2.2.1 (.returned (some (.int x16))) M17)))) ∧ ((a0 + x4) ≤ (2147483639 : Int32) → (rb_fin κ (n.1 + n2.1, n.2 + n2.2) ∧ κ.2.2.1 (.returned (some (.int (a0 + x4)))) M5)))))))) : rb_Bd κ mJ5_newLength n M 0 [some (.int a0), some (.int a1), some (.int a2), none] [] := by
  refine rb_iload_n 0 rfl rfl dJ5_newLength_0 ?_
  refine rb_iload_n 1 rfl rfl dJ5_newLength_1 ?_
  refine rb_iload_n 2 rfl rfl dJ5_newLength_2 ?_
  obtain ⟨d1, n2, Q3, h1x4, hdx4, hnx4, Kx4⟩ := K
  refine rb_call st_J5_194 (rest := [.int a0]) h1x4 rfl rfl mm_rn (Nat.le_of_ble_eq_true rfl) hdx4.1 hdx4.2 hnx4.1 hnx4.2 dJ5_newLength_3 (fun o M5 hpx4 => ?_)
  obtain ⟨x4, eo, KKx4⟩ := Kx4 o M5 hpx4
  subst eo
  show rb_Bd κ mJ5_newLength (n.1 + n2.1, n.2 + n2.2) M5 6 [some (.int a0), some (.int a1), some (.int a2), none] [.int x4, .int a0]
  refine rb_iadd (z := (a0 + x4)) rfl dJ5_newLength_6 ?_
  refine rb_istore_n 3 rfl (ls' := [some (.int a0), some (.int a1), some (.int a2), some (.int (a0 + x4))]) (by decide) rfl rfl dJ5_newLength_7 ?_
  refine rb_iconst (v := (0 : Int32)) (by decide) dJ5_newLength_8 ?_
  refine rb_iload_n 3 rfl rfl dJ5_newLength_9 ?_
  refine rb_icge 21 (by decide) dJ5_newLength_10 (fun c6 => ?_) (fun c6 => ?_)
  · skip
    refine rb_iload_n 0 rfl rfl dJ5_newLength_21 ?_
    refine rb_iload_n 1 rfl rfl dJ5_newLength_22 ?_
    obtain ⟨d7, n8, Q9, h1x10, hdx10, hnx10, Kx10⟩ := ((KKx4).1 c6)
    refine rb_call st_J5_201 (rest := []) h1x10 rfl rfl mm_rn (Nat.le_of_ble_eq_true rfl) hdx10.1 hdx10.2 hnx10.1 hnx10.2 dJ5_newLength_23 (fun o M11 hpx10 => ?_)
    obtain ⟨x10, eo, KKx10⟩ := Kx10 o M11 hpx10
    subst eo
    show rb_Bd κ mJ5_newLength (n.1 + n2.1 + n8.1, n.2 + n2.2 + n8.2) M11 26 [some (.int a0), some (.int a1), some (.int a2), some (.int (a0 + x4))] [.int x10]
    exact rb_iret rfl rfl (KKx10).1.1 (KKx10).1.2 dJ5_newLength_26 (KKx10).2
  · skip
    refine rb_iload_n 3 rfl rfl dJ5_newLength_13 ?_
    refine rb_ldc q490 dJ5_newLength_14 ?_
    refine rb_icgt 21 (by decide) dJ5_newLength_16 (fun c12 => ?_) (fun c12 => ?_)
    · skip
      refine rb_iload_n 0 rfl rfl dJ5_newLength_21 ?_
      refine rb_iload_n 1 rfl rfl dJ5_newLength_22 ?_
      obtain ⟨d13, n14, Q15, h1x16, hdx16, hnx16, Kx16⟩ := ((((KKx4).2 c6)).1 c12)
      refine rb_call st_J5_201 (rest := []) h1x16 rfl rfl mm_rn (Nat.le_of_ble_eq_true rfl) hdx16.1 hdx16.2 hnx16.1 hnx16.2 dJ5_newLength_23 (fun o M17 hpx16 => ?_)
      obtain ⟨x16, eo, KKx16⟩ := Kx16 o M17 hpx16
      subst eo
      show rb_Bd κ mJ5_newLength (n.1 + n2.1 + n14.1, n.2 + n2.2 + n14.2) M17 26 [some (.int a0), some (.int a1), some (.int a2), some (.int (a0 + x4))] [.int x16]
      exact rb_iret rfl rfl (KKx16).1.1 (KKx16).1.2 dJ5_newLength_26 (KKx16).2
    · skip
      refine rb_iload_n 3 rfl rfl dJ5_newLength_19 ?_
      exact rb_iret rfl rfl (((((KKx4).2 c6)).2 c12)).1.1 (((((KKx4).2 c6)).2 c12)).1.2 dJ5_newLength_20 (((((KKx4).2 c6)).2 c12)).2
theorem sgJ6_max_0 {κ : rb_K} {n : Nat × Nat} {M : rb_H} {a0 : Int32} {a1 : Int32} (K : ((a0 < a1 → (rb_fin κ n ∧ κ.2.2.1 (.returned (some (.int a1))) M)) ∧ (a1 ≤ a0 → (rb_fin κ n ∧ κ.2.2.1 (.returned (some (.int a0))) M)))) : rb_Bd κ mJ6_max n M 0 [some (.int a0), some (.int a1)] [] := by
  refine rb_iload_n 0 rfl rfl dJ6_max_0 ?_
  refine rb_iload_n 1 rfl rfl dJ6_max_1 ?_
  refine rb_iclt 9 (by decide) dJ6_max_2 (fun c1 => ?_) (fun c1 => ?_)
  · skip
    refine rb_iload_n 1 rfl rfl dJ6_max_9 ?_
    exact rb_iret rfl rfl (((K).1 c1)).1.1 (((K).1 c1)).1.2 dJ6_max_10 (((K).1 c1)).2
  · skip
    refine rb_iload_n 0 rfl rfl dJ6_max_5 ?_
    refine rb_goto 10 (by decide) dJ6_max_6 ?_
    exact rb_iret rfl rfl (((K).2 c1)).1.1 (((K).2 c1)).1.2 dJ6_max_10 (((K).2 c1)).2
theorem sgJ6_min_0 {κ : rb_K} {n : Nat × Nat} {M : rb_H} {a0 : Int32} {a1 : Int32} (K : ((a1 < a0 → (rb_fin κ n ∧ κ.2.2.1 (.returned (some (.int a1))) M)) ∧ (a0 ≤ a1 → (rb_fin κ n ∧ κ.2.2.1 (.returned (some (.int a0))) M)))) : rb_Bd κ mJ6_min n M 0 [some (.int a0), some (.int a1)] [] := by
  refine rb_iload_n 0 rfl rfl dJ6_min_0 ?_
  refine rb_iload_n 1 rfl rfl dJ6_min_1 ?_
  refine rb_icgt 9 (by decide) dJ6_min_2 (fun c1 => ?_) (fun c1 => ?_)
  · skip
    refine rb_iload_n 1 rfl rfl dJ6_min_9 ?_
    exact rb_iret rfl rfl (((K).1 c1)).1.1 (((K).1 c1)).1.2 dJ6_min_10 (((K).1 c1)).2
  · skip
    refine rb_iload_n 0 rfl rfl dJ6_min_5 ?_
    refine rb_goto 10 (by decide) dJ6_min_6 ?_
    exact rb_iret rfl rfl (((K).2 c1)).1.1 (((K).2 c1)).1.2 dJ6_min_10 (((K).2 c1)).2
theorem sgJ7_copyOf_0 {κ : rb_K} {n : Nat × Nat} {M : rb_H} {a0 : Value} {a1 : Int32} (ha0 : rb_isR a0) (K : (∃ q1, a0 = .ref q1 ∧ (∃ (N3 : Nat) (f2 : Nat → Option Nat), M.2 q1 = some (rb_R 3 N3 f2) ∧ rb_dp κ 0 ∧ (∃ (d4 : Nat) (n5 : Nat × Nat) (Q6 : Outcome → rb_H → Prop), rb_Ct κ.1 yJ7_copyOf_2 wJ7_copyOf_2 d4 n5 [.ref q1, .int a1, .ref (rb_mi κ.1)] M Q6 ∧ rb_dp κ d4 ∧ rb_rom κ (n.1 + n5.1, n.2 + n5.2) ∧ ∀ (o : Outcome) (M8 : rb_H), Q6 o M8 → (∃ (v7 : Value), o = .returned (some v7) ∧ rb_isR v7 ∧ (rb_fin κ (n.1 + n5.1, n.2 + n5.2) ∧ κ.2.2.1 (.returned (some v7)) M8)))))) : rb_Bd κ mJ7_copyOf n M 0 [some a0, some (.int a1)] [] := by
  refine rb_aload_n 0 rfl rfl ha0 dJ7_copyOf_0 ?_
  refine rb_iload_n 1 rfl rfl dJ7_copyOf_1 ?_
  refine rb_aload_n 0 rfl rfl ha0 dJ7_copyOf_2 ?_
  obtain ⟨q1, eq1, Kq1⟩ := K
  subst eq1
  obtain ⟨N3, f2, hMf2, hdf2, Kf2⟩ := Kq1
  refine rb_getC hMf2 q497 q2102 q2101 q498 q530 hdf2.1 (Nat.le_trans (Nat.le_of_ble_eq_true rfl) hdf2.2) dJ7_copyOf_3 ?_
  obtain ⟨d4, n5, Q6, h1v7, hdv7, hnv7, Kv7⟩ := Kf2
  refine rb_call st_J7_300 (rest := []) h1v7 rfl rfl mm_rn (Nat.le_of_ble_eq_true rfl) hdv7.1 hdv7.2 hnv7.1 hnv7.2 dJ7_copyOf_6 (fun o M8 hpv7 => ?_)
  obtain ⟨v7, eo, hv7, KKv7⟩ := Kv7 o M8 hpv7
  subst eo
  show rb_Bd κ mJ7_copyOf (n.1 + n5.1, n.2 + n5.2) M8 9 [some (.ref q1), some (.int a1)] [v7]
  exact rb_aret rfl (Or.inr ⟨_, rfl⟩) hv7 (KKv7).1.1 (KKv7).1.2 dJ7_copyOf_9 (KKv7).2
theorem sgJ7_copyOf_2_0 {κ : rb_K} {n : Nat × Nat} {M : rb_H} {a0 : Value} {a1 : Int32} {a2 : Value} (ha0 : rb_isR a0) (ha2 : rb_isR a2) (K : ((¬ a2 = (.ref (rb_mi κ.1)) → False) ∧ (a2 = (.ref (rb_mi κ.1)) → (∃ N2, a1 = nI N2 ∧ N2 ≤ 67108864 ∧ rb_rom κ (n.1 + 1, n.2 + N2) ∧ (∃ q3, a0 = .ref q3 ∧ (∃ (x4 : Int32), rb_ln κ.1 (rb_nw M (rb_R 3 N2 (fun _ => none))) q3 x4 ∧ (∃ (d5 : Nat) (n6 : Nat × Nat) (Q7 : Outcome → rb_H → Prop), rb_Ct κ.1 yJ6_min wJ6_min d5 n6 [.int x4, .int a1] (rb_nw M (rb_R 3 N2 (fun _ => none))) Q7 ∧ rb_dp κ d5 ∧ rb_rom κ (n.1 + 1 + n6.1, n.2 + N2 + n6.2) ∧ ∀ (o : Outcome) (M9 : rb_H), Q7 o M9 → (∃ (x8 : Int32), o = .returned (some (.int x8)) ∧ (∃ (N12 N13 : Nat) (f10 g11 : Nat → Option Nat), M9.2 q3 = some (rb_R 3 N12 f10) ∧ M9.2 M.1 = some (rb_R 3 N13 g11) ∧ (¬ (0 : Int32) < 0) ∧ (¬ (0 : Int32) < 0) ∧ (¬ x8 < 0) ∧ ((0 : Int32)).toNatClampNeg + (x8).toNatClampNeg ≤ N12 ∧ ((0 : Int32)).toNatClampNeg + (x8).toNatClampNeg ≤ N13 ∧ (∀ i : Nat, i < (x8).toNatClampNeg → ∀ y : Nat, f10 (((0 : Int32)).toNatClampNeg + i) = some y → ∃ ci, rb_ob M9 y ci ∧ rb_AS ci 3) ∧ rb_dp κ 0 ∧ (rb_fin κ (n.1 + 1 + n6.1, n.2 + N2 + n6.2) ∧ κ.2.2.1 (.returned (some (.ref M.1))) (rb_up M9 M.1 (rb_R 3 N13 (va_cpy f10 g11 ((0 : Int32)).toNatClampNeg ((0 : Int32)).toNatClampNeg (x8).toNatClampNeg))))))))))))) : rb_Bd κ mJ7_copyOf_2 n M 0 [some a0, some (.int a1), some a2, none] [] := by
  refine rb_aload_n 2 rfl rfl ha2 dJ7_copyOf_2_0 ?_
  refine rb_ldcM q534 dJ7_copyOf_2_1 ?_
  refine rb_iane ha2 (rb_isR_ref _) 13 (by decide) dJ7_copyOf_2_3 (fun c1 => ?_) (fun c1 => ?_)
  · skip
    refine rb_aload_n 2 rfl rfl ha2 dJ7_copyOf_2_13 ?_
    exact (((K).1 c1)).elim
  · skip
    refine rb_iload_n 1 rfl rfl dJ7_copyOf_2_6 ?_
    obtain ⟨N2, hxN2, hNN2, hrN2, KN2⟩ := ((K).2 c1)
    refine rb_anew (t := 3) (N := N2) (by decide) (by decide) q536 q535 hxN2 hNN2 hrN2.1 hrN2.2 dJ7_copyOf_2_7 ?_
    show rb_Bd κ mJ7_copyOf_2 (n.1 + 1, n.2 + N2) (rb_nw M (rb_R 3 N2 (fun _ => none))) 10 [some a0, some (.int a1), some a2, none] [.ref M.1]
    refine rb_goto 24 (by decide) dJ7_copyOf_2_10 ?_
    refine rb_astore_n 3 rfl (ls' := [some a0, some (.int a1), some a2, some (.ref M.1)]) (by decide) (by simp [rb_o1, rb_isR_cat ha2]) rfl (rb_isR_ref _) dJ7_copyOf_2_24 ?_
    refine rb_aload_n 0 rfl rfl ha0 dJ7_copyOf_2_25 ?_
    refine rb_iconst (v := (0 : Int32)) (by decide) dJ7_copyOf_2_26 ?_
    refine rb_aload_n 3 rfl rfl (rb_isR_ref _) dJ7_copyOf_2_27 ?_
    refine rb_iconst (v := (0 : Int32)) (by decide) dJ7_copyOf_2_28 ?_
    refine rb_aload_n 0 rfl rfl ha0 dJ7_copyOf_2_29 ?_
    obtain ⟨q3, eq3, Kq3⟩ := KN2
    subst eq3
    obtain ⟨x4, hxx4, Kx4⟩ := Kq3
    refine rc_alen hxx4 dJ7_copyOf_2_30 ?_
    refine rb_iload_n 1 rfl rfl dJ7_copyOf_2_31 ?_
    obtain ⟨d5, n6, Q7, h1x8, hdx8, hnx8, Kx8⟩ := Kx4
    refine rb_call st_J7_304 (rest := [.int (0 : Int32), .ref M.1, .int (0 : Int32), .ref q3]) h1x8 rfl rfl mm_rn (Nat.le_of_ble_eq_true rfl) hdx8.1 hdx8.2 hnx8.1 hnx8.2 dJ7_copyOf_2_32 (fun o M9 hpx8 => ?_)
    obtain ⟨x8, eo, KKx8⟩ := Kx8 o M9 hpx8
    subst eo
    show rb_Bd κ mJ7_copyOf_2 (n.1 + 1 + n6.1, n.2 + N2 + n6.2) M9 35 [some (.ref q3), some (.int a1), some a2, some (.ref M.1)] [.int x8, .int (0 : Int32), .ref M.1, .int (0 : Int32), .ref q3]
    obtain ⟨N12, N13, f10, g11, hm0, hm1, hc1, hc2, hc3, hc4, hc5, hel, hdf10, Kf10⟩ := KKx8
    refine rb_acopy hm0 hm1 q540 q542 q541 q90 hc1 hc2 hc3 hc4 hc5 hel hdf10.1 (Nat.le_trans (Nat.le_of_ble_eq_true rfl) hdf10.2) dJ7_copyOf_2_35 ?_
    refine rb_aload_n 3 rfl rfl (rb_isR_ref _) dJ7_copyOf_2_38 ?_
    exact rb_aret rfl (Or.inr ⟨_, rfl⟩) (rb_isR_ref _) (Kf10).1.1 (Kf10).1.2 dJ7_copyOf_2_39 (Kf10).2
theorem sgJ8_checkIndex_0 {κ : rb_K} {n : Nat × Nat} {M : rb_H} {a0 : Int32} {a1 : Int32} (K : (∃ (d1 : Nat) (n2 : Nat × Nat) (Q3 : Outcome → rb_H → Prop), rb_Ct κ.1 yJ9_checkIndex wJ9_checkIndex d1 n2 [.int a0, .int a1, .null] M Q3 ∧ rb_dp κ d1 ∧ rb_rom κ (n.1 + n2.1, n.2 + n2.2) ∧ ∀ (o : Outcome) (M5 : rb_H), Q3 o M5 → (∃ (x4 : Int32), o = .returned (some (.int x4)) ∧ (rb_fin κ (n.1 + n2.1, n.2 + n2.2) ∧ κ.2.2.1 (.returned (some (.int x4))) M5)))) : rb_Bd κ mJ8_checkIndex n M 0 [some (.int a0), some (.int a1)] [] := by
  refine rb_iload_n 0 rfl rfl dJ8_checkIndex_0 ?_
  refine rb_iload_n 1 rfl rfl dJ8_checkIndex_1 ?_
  refine rb_null dJ8_checkIndex_2 ?_
  obtain ⟨d1, n2, Q3, h1x4, hdx4, hnx4, Kx4⟩ := K
  refine rb_call st_J8_105 (rest := []) h1x4 rfl rfl mm_rn (Nat.le_of_ble_eq_true rfl) hdx4.1 hdx4.2 hnx4.1 hnx4.2 dJ8_checkIndex_3 (fun o M5 hpx4 => ?_)
  obtain ⟨x4, eo, KKx4⟩ := Kx4 o M5 hpx4
  subst eo
  show rb_Bd κ mJ8_checkIndex (n.1 + n2.1, n.2 + n2.2) M5 6 [some (.int a0), some (.int a1)] [.int x4]
  exact rb_iret rfl rfl (KKx4).1.1 (KKx4).1.2 dJ8_checkIndex_6 (KKx4).2
theorem sgJ9_checkIndex_0 {κ : rb_K} {n : Nat × Nat} {M : rb_H} {a0 : Int32} {a1 : Int32} {a2 : Value} (ha2 : rb_isR a2) (K : ((a0 < 0 → False) ∧ (0 ≤ a0 → ((a0 < a1 → (rb_fin κ n ∧ κ.2.2.1 (.returned (some (.int a0))) M)) ∧ (a1 ≤ a0 → False))))) : rb_Bd κ mJ9_checkIndex n M 0 [some (.int a0), some (.int a1), some a2] [] := by
  refine rb_iload_n 0 rfl rfl dJ9_checkIndex_0 ?_
  refine rb_iflt 9 (by decide) dJ9_checkIndex_1 (fun c1 => ?_) (fun c1 => ?_)
  · skip
    refine rb_aload_n 2 rfl rfl ha2 dJ9_checkIndex_9 ?_
    refine rb_iload_n 0 rfl rfl dJ9_checkIndex_10 ?_
    refine rb_iload_n 1 rfl rfl dJ9_checkIndex_11 ?_
    exact (((K).1 c1)).elim
  · skip
    refine rb_iload_n 0 rfl rfl dJ9_checkIndex_4 ?_
    refine rb_iload_n 1 rfl rfl dJ9_checkIndex_5 ?_
    refine rb_iclt 16 (by decide) dJ9_checkIndex_6 (fun c2 => ?_) (fun c2 => ?_)
    · skip
      refine rb_iload_n 0 rfl rfl dJ9_checkIndex_16 ?_
      exact rb_iret rfl rfl (((((K).2 c1)).1 c2)).1.1 (((((K).2 c1)).1 c2)).1.2 dJ9_checkIndex_17 (((((K).2 c1)).1 c2)).2
    · skip
      refine rb_aload_n 2 rfl rfl ha2 dJ9_checkIndex_9 ?_
      refine rb_iload_n 0 rfl rfl dJ9_checkIndex_10 ?_
      refine rb_iload_n 1 rfl rfl dJ9_checkIndex_11 ?_
      exact (((((K).2 c1)).2 c2)).elim
theorem sgX0_act_0 {κ : rb_K} {n : Nat × Nat} {M : rb_H} {a0 : Nat} {a1 : Int32} {a2 : Int32} {a3 : Int32} (K : (∃ (d1 : Nat) (n2 : Nat × Nat) (Q3 : Outcome → rb_H → Prop), rb_Ct κ.1 yX0_in wX0_in d1 n2 [.int a1, .int (0 : Int32), .int (19 : Int32)] M Q3 ∧ rb_dp κ d1 ∧ rb_rom κ (n.1 + n2.1, n.2 + n2.2) ∧ ∀ (o : Outcome) (M5 : rb_H), Q3 o M5 → (∃ (x4 : Int32), o = .returned (some (.int x4)) ∧ ((¬ x4 = 0 → (∃ (v7 : Value), rb_rd M5 a0 0 6 (v7) ∧ rb_isR v7 ∧ ((v7 = .null → (rb_fin κ (n.1 + n2.1, n.2 + n2.2) ∧ κ.2.2.1 (.returned (some (.int (-4 : Int32)))) M5)) ∧ (∀ q8, v7 = .ref q8 → (∃ (d9 : Nat) (n10 : Nat × Nat) (Q11 : Outcome → rb_H → Prop), rb_Ct κ.1 yX0_make wX0_make d9 n10 [.ref a0, .int a1, .int a2, .int a3] M5 Q11 ∧ rb_dp κ d9 ∧ rb_rom κ (n.1 + n2.1 + n10.1, n.2 + n2.2 + n10.2) ∧ rb_ob M5 a0 0 ∧ ∀ (o : Outcome) (M13 : rb_H), Q11 o M13 → (∃ (v12 : Value), o = .returned (some v12) ∧ rb_isR v12 ∧ (∃ (v14 : Value), rb_rd M13 a0 0 6 (v14) ∧ rb_isR v14 ∧ (∃ q15, v14 = .ref q15 ∧ (∃ (v16 : Value), rb_rd M13 q15 6 0 (v16) ∧ rb_isR v16 ∧ (∃ q17, v12 = .ref q17 ∧ ((∃ (ci24 : Nat) (y25 : MethodName) (w26 : Cond) (d19 : Nat) (n20 : Nat × Nat) (Q21 : Outcome → rb_H → Prop), rb_Go "RoleLoom" (.invokeinterface 254 2) 5 y25 w26 (some ci24) 2 ∧ rb_Ct κ.1 y25 w26 d19 n20 [.ref q17, v16] M13 Q21 ∧ rb_dp κ d19 ∧ rb_rom κ (n.1 + n2.1 + n10.1 + n20.1, n.2 + n2.2 + n10.2 + n20.2) ∧ rb_ob M13 q17 ci24 ∧ ∀ (o : Outcome) (M23 : rb_H), Q21 o M23 → (∃ (x22 : Int32), o = .returned (some (.int x22)) ∧ ((¬ x22 = 0 → (∃ (v28 : Value), rb_rd M23 a0 0 6 (v28) ∧ rb_isR v28 ∧ (∃ q29, v28 = .ref q29 ∧ (∃ (v30 : Value), rb_rd M23 q29 6 4 (v30) ∧ rb_isR v30 ∧ (∃ q31, v30 = .ref q31 ∧ (∃ (d32 : Nat) (n33 : Nat × Nat) (Q34 : Outcome → rb_H → Prop), rb_Ct κ.1 yJ4_size wJ4_size d32 n33 [.ref q31] M23 Q34 ∧ rb_dp κ d32 ∧ rb_rom κ (n.1 + n2.1 + n10.1 + n20.1 + n33.1, n.2 + n2.2 + n10.2 + n20.2 + n33.2) ∧ rb_ob M23 q31 7 ∧ ∀ (o : Outcome) (M36 : rb_H), Q34 o M36 → (∃ (x35 : Int32), o = .returned (some (.int x35)) ∧ ((¬ x35 = (10 : Int32) → (∃ (v38 : Value), rb_rd M36 a0 0 7 (v38) ∧ rb_isR v38 ∧ (∃ q39, v38 = .ref q39 ∧ (∃ (d40 : Nat) (n41 : Nat × Nat) (Q42 : Outcome → rb_H → Prop), rb_Ct κ.1 yJ4_isEmpty wJ4_isEmpty d40 n41 [.ref q39] M36 Q42 ∧ rb_dp κ d40 ∧ rb_rom κ (n.1 + n2.1 + n10.1 + n20.1 + n33.1 + n41.1, n.2 + n2.2 + n10.2 + n20.2 + n33.2 + n41.2) ∧ rb_ob M36 q39 7 ∧ ∀ (o : Outcome) (M44 : rb_H), Q42 o M44 → (∃ (x43 : Int32), o = .returned (some (.int x43)) ∧ ((¬ x43 = 0 → (∃ (v46 : Value), rb_rd M44 a0 0 6 (v46) ∧ rb_isR v46 ∧ (∃ q47, v46 = .ref q47 ∧ (∃ (v48 : Value), rb_rd M44 q47 6 4 (v48) ∧ rb_isR v48 ∧ (∃ q49, v48 = .ref q49 ∧ (∃ (d50 : Nat) (n51 : Nat × Nat) (Q52 : Outcome → rb_H → Prop), rb_Ct κ.1 yJ4_add wJ4_add d50 n51 [.ref q49, .ref q17] M44 Q52 ∧ rb_dp κ d50 ∧ rb_rom κ (n.1 + n2.1 + n10.1 + n20.1 + n33.1 + n41.1 + n51.1, n.2 + n2.2 + n10.2 + n20.2 + n33.2 + n41.2 + n51.2) ∧ rb_ob M44 q49 7 ∧ ∀ (o : Outcome) (M54 : rb_H), Q52 o M54 → (∃ (x53 : Int32), o = .returned (some (.int x53)) ∧ (∃ (v55 : Value), rb_rd M54 a0 0 6 (v55) ∧ rb_isR v55 ∧ (∃ q56, v55 = .ref q56 ∧ (∃ (v57 : Value), rb_rd M54 q56 6 4 (v57) ∧ rb_isR v57 ∧ (∃ q58, v57 = .ref q58 ∧ (∃ (d59 : Nat) (n60 : Nat × Nat) (Q61 : Outcome → rb_H → Prop), rb_Ct κ.1 yJ4_size wJ4_size d59 n60 [.ref q58] M54 Q61 ∧ rb_dp κ d59 ∧ rb_rom κ (n.1 + n2.1 + n10.1 + n20.1 + n33.1 + n41.1 + n51.1 + n60.1, n.2 + n2.2 + n10.2 + n20.2 + n33.2 + n41.2 + n51.2 + n60.2) ∧ rb_ob M54 q58 7 ∧ ∀ (o : Outcome) (M63 : rb_H), Q61 o M63 → (∃ (x62 : Int32), o = .returned (some (.int x62)) ∧ (rb_fin κ (n.1 + n2.1 + n10.1 + n20.1 + n33.1 + n41.1 + n51.1 + n60.1, n.2 + n2.2 + n10.2 + n20.2 + n33.2 + n41.2 + n51.2 + n60.2) ∧ κ.2.2.1 (.returned (some (.int x62))) M63)))))))))))))) ∧ (x43 = 0 → (rb_fin κ (n.1 + n2.1 + n10.1 + n20.1 + n33.1 + n41.1, n.2 + n2.2 + n10.2 + n20.2 + n33.2 + n41.2) ∧ κ.2.2.1 (.returned (some (.int (-4 : Int32)))) M44)))))))) ∧ (x35 = (10 : Int32) → (rb_fin κ (n.1 + n2.1 + n10.1 + n20.1 + n33.1, n.2 + n2.2 + n10.2 + n20.2 + n33.2) ∧ κ.2.2.1 (.returned (some (.int (-2 : Int32)))) M36)))))))))) ∧ (x22 = 0 → (rb_fin κ (n.1 + n2.1 + n10.1 + n20.1, n.2 + n2.2 + n10.2 + n20.2) ∧ κ.2.2.1 (.returned (some (.int (-1 : Int32)))) M23))))) ∨ (∃ ciE18, (ciE18 = 9 ∨ ciE18 = 16 ∨ ciE18 = 21) ∧ rb_ob M13 q17 ciE18 ∧ rb_dp κ 0 ∧ ((¬ (1 : Int32) = 0 → (∃ (v65 : Value), rb_rd M13 a0 0 6 (v65) ∧ rb_isR v65 ∧ (∃ q66, v65 = .ref q66 ∧ (∃ (v67 : Value), rb_rd M13 q66 6 4 (v67) ∧ rb_isR v67 ∧ (∃ q68, v67 = .ref q68 ∧ (∃ (d69 : Nat) (n70 : Nat × Nat) (Q71 : Outcome → rb_H → Prop), rb_Ct κ.1 yJ4_size wJ4_size d69 n70 [.ref q68] M13 Q71 ∧ rb_dp κ d69 ∧ rb_rom κ (n.1 + n2.1 + n10.1 + n70.1, n.2 + n2.2 + n10.2 + n70.2) ∧ rb_ob M13 q68 7 ∧ ∀ (o : Outcome) (M73 : rb_H), Q71 o M73 → (∃ (x72 : Int32), o = .returned (some (.int x72)) ∧ ((¬ x72 = (10 : Int32) → (∃ (v75 : Value), rb_rd M73 a0 0 7 (v75) ∧ rb_isR v75 ∧ (∃ q76, v75 = .ref q76 ∧ (∃ (d77 : Nat) (n78 : Nat × Nat) (Q79 : Outcome → rb_H → Prop), rb_Ct κ.1 yJ4_isEmpty wJ4_isEmpty d77 n78 [.ref q76] M73 Q79 ∧ rb_dp κ d77 ∧ rb_rom κ (n.1 + n2.1 + n10.1 + n70.1 + n78.1, n.2 + n2.2 + n10.2 + n70.2 + n78.2) ∧ rb_ob M73 q76 7 ∧ ∀ (o : Outcome) (M81 : rb_H), Q79 o M81 → (∃ (x80 : Int32), o = .returned (some (.int x80)) ∧ ((¬ x80 = 0 → (∃ (v83 : Value), rb_rd M81 a0 0 6 (v83) ∧ rb_isR v83 ∧ (∃ q84, v83 = .ref q84 ∧ (∃ (v85 : Value), rb_rd M81 q84 6 4 (v85) ∧ rb_isR v85 ∧ (∃ q86, v85 = .ref q86 ∧ (∃ (d87 : Nat) (n88 : Nat × Nat) (Q89 : Outcome → rb_H → Prop), rb_Ct κ.1 yJ4_add wJ4_add d87 n88 [.ref q86, .ref q17] M81 Q89 ∧ rb_dp κ d87 ∧ rb_rom κ (n.1 + n2.1 + n10.1 + n70.1 + n78.1 + n88.1, n.2 + n2.2 + n10.2 + n70.2 + n78.2 + n88.2) ∧ rb_ob M81 q86 7 ∧ ∀ (o : Outcome) (M91 : rb_H), Q89 o M91 → (∃ (x90 : Int32), o = .returned (some (.int x90)) ∧ (∃ (v92 : Value), rb_rd M91 a0 0 6 (v92) ∧ rb_isR v92 ∧ (∃ q93, v92 = .ref q93 ∧ (∃ (v94 : Value), rb_rd M91 q93 6 4 (v94) ∧ rb_isR v94 ∧ (∃ q95, v94 = .ref q95 ∧ (∃ (d96 : Nat) (n97 : Nat × Nat) (Q98 : Outcome → rb_H → Prop), rb_Ct κ.1 yJ4_size wJ4_size d96 n97 [.ref q95] M91 Q98 ∧ rb_dp κ d96 ∧ rb_rom κ (n.1 + n2.1 + n10.1 + n70.1 + n78.1 + n88.1 + n97.1, n.2 + n2.2 + n10.2 + n70.2 + n78.2 + n88.2 + n97.2) ∧ rb_ob M91 q95 7 ∧ ∀ (o : Outcome) (M100 : rb_H), Q98 o M100 → (∃ (x99 : Int32), o = .returned (some (.int x99)) ∧ (rb_fin κ (n.1 + n2.1 + n10.1 + n70.1 + n78.1 + n88.1 + n97.1, n.2 + n2.2 + n10.2 + n70.2 + n78.2 + n88.2 + n97.2) ∧ κ.2.2.1 (.returned (some (.int x99))) M100)))))))))))))) ∧ (x80 = 0 → (rb_fin κ (n.1 + n2.1 + n10.1 + n70.1 + n78.1, n.2 + n2.2 + n10.2 + n70.2 + n78.2) ∧ κ.2.2.1 (.returned (some (.int (-4 : Int32)))) M81)))))))) ∧ (x72 = (10 : Int32) → (rb_fin κ (n.1 + n2.1 + n10.1 + n70.1, n.2 + n2.2 + n10.2 + n70.2) ∧ κ.2.2.1 (.returned (some (.int (-2 : Int32)))) M73)))))))))) ∧ ((1 : Int32) = 0 → (rb_fin κ (n.1 + n2.1 + n10.1, n.2 + n2.2 + n10.2) ∧ κ.2.2.1 (.returned (some (.int (-1 : Int32)))) M13))))))))))))))) ∧ (x4 = 0 → (rb_fin κ (n.1 + n2.1, n.2 + n2.2) ∧ κ.2.2.1 (.returned (some (.int (-1 : Int32)))) M5)))))) : rb_Bd κ mX0_act n M 0 [some (.ref a0), some (.int a1), some (.int a2), some (.int a3), none, none] [] := by
  refine rb_iload_n 1 rfl rfl dX0_act_0 ?_
  refine rb_iconst (v := (0 : Int32)) (by decide) dX0_act_1 ?_
  refine rb_bipush (v := (19 : Int32)) (by decide) dX0_act_2 ?_
  obtain ⟨d1, n2, Q3, h1x4, hdx4, hnx4, Kx4⟩ := K
  refine rb_call st_X0_45 (rest := []) h1x4 rfl rfl mm_rn (Nat.le_of_ble_eq_true rfl) hdx4.1 hdx4.2 hnx4.1 hnx4.2 dX0_act_4 (fun o M5 hpx4 => ?_)
  obtain ⟨x4, eo, KKx4⟩ := Kx4 o M5 hpx4
  subst eo
  show rb_Bd κ mX0_act (n.1 + n2.1, n.2 + n2.2) M5 7 [some (.ref a0), some (.int a1), some (.int a2), some (.int a3), none, none] [.int x4]
  refine rb_ifne 12 (by decide) dX0_act_7 (fun c6 => ?_) (fun c6 => ?_)
  · skip
    refine rb_aload_n 0 rfl rfl (rb_isR_ref _) dX0_act_12 ?_
    obtain ⟨v7, hrv7, hv7, Kv7⟩ := ((KKx4).1 c6)
    refine rc_get fl_X0_238_0 hrv7 dX0_act_13 ?_
    refine rb_ifnonnull hv7 22 (by decide) dX0_act_16 (fun q8 e => ?_) (fun e => ?_)
    · subst e
      refine rb_aload_n 0 rfl rfl (rb_isR_ref _) dX0_act_22 ?_
      refine rb_iload_n 1 rfl rfl dX0_act_23 ?_
      refine rb_iload_n 2 rfl rfl dX0_act_24 ?_
      refine rb_iload_n 3 rfl rfl dX0_act_25 ?_
      obtain ⟨d9, n10, Q11, h1v12, hdv12, hnv12, hov12, Kv12⟩ := ((Kv7).2 q8 rfl)
      refine rb_call st_X0_250_0 (rest := []) h1v12 rfl rfl (rc_rc rfl hov12) (Nat.le_of_ble_eq_true rfl) hdv12.1 hdv12.2 hnv12.1 hnv12.2 dX0_act_26 (fun o M13 hpv12 => ?_)
      obtain ⟨v12, eo, hv12, KKv12⟩ := Kv12 o M13 hpv12
      subst eo
      show rb_Bd κ mX0_act (n.1 + n2.1 + n10.1, n.2 + n2.2 + n10.2) M13 29 [some (.ref a0), some (.int a1), some (.int a2), some (.int a3), none, none] [v12]
      refine rb_astore (ls' := [some (.ref a0), some (.int a1), some (.int a2), some (.int a3), some v12, none]) (by decide) rfl rfl hv12 dX0_act_29 ?_
      refine rb_aload rfl hv12 dX0_act_31 ?_
      refine rb_astore (ls' := [some (.ref a0), some (.int a1), some (.int a2), some (.int a3), some v12, some v12]) (by decide) (by simp [rb_o1, rb_isR_cat hv12]) rfl hv12 dX0_act_33 ?_
      refine rb_aload rfl hv12 dX0_act_35 ?_
      refine rb_aload_n 0 rfl rfl (rb_isR_ref _) dX0_act_37 ?_
      obtain ⟨v14, hrv14, hv14, Kv14⟩ := KKv12
      refine rc_get fl_X0_238_0 hrv14 dX0_act_38 ?_
      obtain ⟨q15, eq15, Kq15⟩ := Kv14
      subst eq15
      obtain ⟨v16, hrv16, hv16, Kv16⟩ := Kq15
      refine rc_get fl_X0_23_6 hrv16 dX0_act_41 ?_
      obtain ⟨q17, eq17, Kq17⟩ := Kv16
      subst eq17
      rcases Kq17 with KE18 | ⟨ciE18, hcE18, hbE18, hdE18, KE18⟩
      · skip
        obtain ⟨ci24, y25, w26, d19, n20, Q21, hgx22, h1x22, hdx22, hnx22, hox22, Kx22⟩ := KE18
        refine rb_call hgx22 (rest := []) h1x22 rfl rfl (rc_rc rfl hox22) (Nat.le_of_ble_eq_true rfl) hdx22.1 hdx22.2 hnx22.1 hnx22.2 dX0_act_44 (fun o M23 hpx22 => ?_)
        obtain ⟨x22, eo, KKx22⟩ := Kx22 o M23 hpx22
        subst eo
        show rb_Bd κ mX0_act (n.1 + n2.1 + n10.1 + n20.1, n.2 + n2.2 + n10.2 + n20.2) M23 49 [some (.ref a0), some (.int a1), some (.int a2), some (.int a3), some (.ref q17), some (.ref q17)] [.int x22]
        refine rb_ifne 54 (by decide) dX0_act_49 (fun c27 => ?_) (fun c27 => ?_)
        · skip
          refine rb_aload_n 0 rfl rfl (rb_isR_ref _) dX0_act_54 ?_
          obtain ⟨v28, hrv28, hv28, Kv28⟩ := ((KKx22).1 c27)
          refine rc_get fl_X0_238_0 hrv28 dX0_act_55 ?_
          obtain ⟨q29, eq29, Kq29⟩ := Kv28
          subst eq29
          obtain ⟨v30, hrv30, hv30, Kv30⟩ := Kq29
          refine rc_get fl_X0_260_6 hrv30 dX0_act_58 ?_
          obtain ⟨q31, eq31, Kq31⟩ := Kv30
          subst eq31
          obtain ⟨d32, n33, Q34, h1x35, hdx35, hnx35, hox35, Kx35⟩ := Kq31
          refine rb_call st_X0_201_7 (rest := []) h1x35 rfl rfl (rc_rc rfl hox35) (Nat.le_of_ble_eq_true rfl) hdx35.1 hdx35.2 hnx35.1 hnx35.2 dX0_act_61 (fun o M36 hpx35 => ?_)
          obtain ⟨x35, eo, KKx35⟩ := Kx35 o M36 hpx35
          subst eo
          show rb_Bd κ mX0_act (n.1 + n2.1 + n10.1 + n20.1 + n33.1, n.2 + n2.2 + n10.2 + n20.2 + n33.2) M36 64 [some (.ref a0), some (.int a1), some (.int a2), some (.int a3), some (.ref q17), some (.ref q17)] [.int x35]
          refine rb_bipush (v := (10 : Int32)) (by decide) dX0_act_64 ?_
          refine rb_icne 72 (by decide) dX0_act_66 (fun c37 => ?_) (fun c37 => ?_)
          · skip
            refine rb_aload_n 0 rfl rfl (rb_isR_ref _) dX0_act_72 ?_
            obtain ⟨v38, hrv38, hv38, Kv38⟩ := ((KKx35).1 c37)
            refine rc_get fl_X0_136_0 hrv38 dX0_act_73 ?_
            obtain ⟨q39, eq39, Kq39⟩ := Kv38
            subst eq39
            obtain ⟨d40, n41, Q42, h1x43, hdx43, hnx43, hox43, Kx43⟩ := Kq39
            refine rb_call st_X0_228_7 (rest := []) h1x43 rfl rfl (rc_rc rfl hox43) (Nat.le_of_ble_eq_true rfl) hdx43.1 hdx43.2 hnx43.1 hnx43.2 dX0_act_76 (fun o M44 hpx43 => ?_)
            obtain ⟨x43, eo, KKx43⟩ := Kx43 o M44 hpx43
            subst eo
            show rb_Bd κ mX0_act (n.1 + n2.1 + n10.1 + n20.1 + n33.1 + n41.1, n.2 + n2.2 + n10.2 + n20.2 + n33.2 + n41.2) M44 79 [some (.ref a0), some (.int a1), some (.int a2), some (.int a3), some (.ref q17), some (.ref q17)] [.int x43]
            refine rb_ifne 85 (by decide) dX0_act_79 (fun c45 => ?_) (fun c45 => ?_)
            · skip
              refine rb_aload_n 0 rfl rfl (rb_isR_ref _) dX0_act_85 ?_
              obtain ⟨v46, hrv46, hv46, Kv46⟩ := ((KKx43).1 c45)
              refine rc_get fl_X0_238_0 hrv46 dX0_act_86 ?_
              obtain ⟨q47, eq47, Kq47⟩ := Kv46
              subst eq47
              obtain ⟨v48, hrv48, hv48, Kv48⟩ := Kq47
              refine rc_get fl_X0_260_6 hrv48 dX0_act_89 ?_
              refine rb_aload rfl (rb_isR_ref _) dX0_act_92 ?_
              obtain ⟨q49, eq49, Kq49⟩ := Kv48
              subst eq49
              obtain ⟨d50, n51, Q52, h1x53, hdx53, hnx53, hox53, Kx53⟩ := Kq49
              refine rb_call st_X0_210_7 (rest := []) h1x53 rfl rfl (rc_rc rfl hox53) (Nat.le_of_ble_eq_true rfl) hdx53.1 hdx53.2 hnx53.1 hnx53.2 dX0_act_94 (fun o M54 hpx53 => ?_)
              obtain ⟨x53, eo, KKx53⟩ := Kx53 o M54 hpx53
              subst eo
              show rb_Bd κ mX0_act (n.1 + n2.1 + n10.1 + n20.1 + n33.1 + n41.1 + n51.1, n.2 + n2.2 + n10.2 + n20.2 + n33.2 + n41.2 + n51.2) M54 97 [some (.ref a0), some (.int a1), some (.int a2), some (.int a3), some (.ref q17), some (.ref q17)] [.int x53]
              refine rb_pop rfl dX0_act_97 ?_
              refine rb_aload_n 0 rfl rfl (rb_isR_ref _) dX0_act_98 ?_
              obtain ⟨v55, hrv55, hv55, Kv55⟩ := KKx53
              refine rc_get fl_X0_238_0 hrv55 dX0_act_99 ?_
              obtain ⟨q56, eq56, Kq56⟩ := Kv55
              subst eq56
              obtain ⟨v57, hrv57, hv57, Kv57⟩ := Kq56
              refine rc_get fl_X0_260_6 hrv57 dX0_act_102 ?_
              obtain ⟨q58, eq58, Kq58⟩ := Kv57
              subst eq58
              obtain ⟨d59, n60, Q61, h1x62, hdx62, hnx62, hox62, Kx62⟩ := Kq58
              refine rb_call st_X0_201_7 (rest := []) h1x62 rfl rfl (rc_rc rfl hox62) (Nat.le_of_ble_eq_true rfl) hdx62.1 hdx62.2 hnx62.1 hnx62.2 dX0_act_105 (fun o M63 hpx62 => ?_)
              obtain ⟨x62, eo, KKx62⟩ := Kx62 o M63 hpx62
              subst eo
              show rb_Bd κ mX0_act (n.1 + n2.1 + n10.1 + n20.1 + n33.1 + n41.1 + n51.1 + n60.1, n.2 + n2.2 + n10.2 + n20.2 + n33.2 + n41.2 + n51.2 + n60.2) M63 108 [some (.ref a0), some (.int a1), some (.int a2), some (.int a3), some (.ref q17), some (.ref q17)] [.int x62]
              exact rb_iret rfl rfl (KKx62).1.1 (KKx62).1.2 dX0_act_108 (KKx62).2
            · skip
              refine rb_bipush (v := (-4 : Int32)) (by decide) dX0_act_82 ?_
              exact rb_iret rfl rfl (((KKx43).2 c45)).1.1 (((KKx43).2 c45)).1.2 dX0_act_84 (((KKx43).2 c45)).2
          · skip
            refine rb_bipush (v := (-2 : Int32)) (by decide) dX0_act_69 ?_
            exact rb_iret rfl rfl (((KKx35).2 c37)).1.1 (((KKx35).2 c37)).1.2 dX0_act_71 (((KKx35).2 c37)).2
        · skip
          refine rb_iconst (v := (-1 : Int32)) (by decide) dX0_act_52 ?_
          exact rb_iret rfl rfl (((KKx22).2 c27)).1.1 (((KKx22).2 c27)).1.2 dX0_act_53 (((KKx22).2 c27)).2
      · skip
        refine rb_fitsE hcE18 hbE18 rfl (Nat.le_of_ble_eq_true rfl) hdE18 dX0_act_44 ?_
        refine rb_ifne 54 (by decide) dX0_act_49 (fun c64 => ?_) (fun c64 => ?_)
        · skip
          refine rb_aload_n 0 rfl rfl (rb_isR_ref _) dX0_act_54 ?_
          obtain ⟨v65, hrv65, hv65, Kv65⟩ := ((KE18).1 c64)
          refine rc_get fl_X0_238_0 hrv65 dX0_act_55 ?_
          obtain ⟨q66, eq66, Kq66⟩ := Kv65
          subst eq66
          obtain ⟨v67, hrv67, hv67, Kv67⟩ := Kq66
          refine rc_get fl_X0_260_6 hrv67 dX0_act_58 ?_
          obtain ⟨q68, eq68, Kq68⟩ := Kv67
          subst eq68
          obtain ⟨d69, n70, Q71, h1x72, hdx72, hnx72, hox72, Kx72⟩ := Kq68
          refine rb_call st_X0_201_7 (rest := []) h1x72 rfl rfl (rc_rc rfl hox72) (Nat.le_of_ble_eq_true rfl) hdx72.1 hdx72.2 hnx72.1 hnx72.2 dX0_act_61 (fun o M73 hpx72 => ?_)
          obtain ⟨x72, eo, KKx72⟩ := Kx72 o M73 hpx72
          subst eo
          show rb_Bd κ mX0_act (n.1 + n2.1 + n10.1 + n70.1, n.2 + n2.2 + n10.2 + n70.2) M73 64 [some (.ref a0), some (.int a1), some (.int a2), some (.int a3), some (.ref q17), some (.ref q17)] [.int x72]
          refine rb_bipush (v := (10 : Int32)) (by decide) dX0_act_64 ?_
          refine rb_icne 72 (by decide) dX0_act_66 (fun c74 => ?_) (fun c74 => ?_)
          · skip
            refine rb_aload_n 0 rfl rfl (rb_isR_ref _) dX0_act_72 ?_
            obtain ⟨v75, hrv75, hv75, Kv75⟩ := ((KKx72).1 c74)
            refine rc_get fl_X0_136_0 hrv75 dX0_act_73 ?_
            obtain ⟨q76, eq76, Kq76⟩ := Kv75
            subst eq76
            obtain ⟨d77, n78, Q79, h1x80, hdx80, hnx80, hox80, Kx80⟩ := Kq76
            refine rb_call st_X0_228_7 (rest := []) h1x80 rfl rfl (rc_rc rfl hox80) (Nat.le_of_ble_eq_true rfl) hdx80.1 hdx80.2 hnx80.1 hnx80.2 dX0_act_76 (fun o M81 hpx80 => ?_)
            obtain ⟨x80, eo, KKx80⟩ := Kx80 o M81 hpx80
            subst eo
            show rb_Bd κ mX0_act (n.1 + n2.1 + n10.1 + n70.1 + n78.1, n.2 + n2.2 + n10.2 + n70.2 + n78.2) M81 79 [some (.ref a0), some (.int a1), some (.int a2), some (.int a3), some (.ref q17), some (.ref q17)] [.int x80]
            refine rb_ifne 85 (by decide) dX0_act_79 (fun c82 => ?_) (fun c82 => ?_)
            · skip
              refine rb_aload_n 0 rfl rfl (rb_isR_ref _) dX0_act_85 ?_
              obtain ⟨v83, hrv83, hv83, Kv83⟩ := ((KKx80).1 c82)
              refine rc_get fl_X0_238_0 hrv83 dX0_act_86 ?_
              obtain ⟨q84, eq84, Kq84⟩ := Kv83
              subst eq84
              obtain ⟨v85, hrv85, hv85, Kv85⟩ := Kq84
              refine rc_get fl_X0_260_6 hrv85 dX0_act_89 ?_
              refine rb_aload rfl (rb_isR_ref _) dX0_act_92 ?_
              obtain ⟨q86, eq86, Kq86⟩ := Kv85
              subst eq86
              obtain ⟨d87, n88, Q89, h1x90, hdx90, hnx90, hox90, Kx90⟩ := Kq86
              refine rb_call st_X0_210_7 (rest := []) h1x90 rfl rfl (rc_rc rfl hox90) (Nat.le_of_ble_eq_true rfl) hdx90.1 hdx90.2 hnx90.1 hnx90.2 dX0_act_94 (fun o M91 hpx90 => ?_)
              obtain ⟨x90, eo, KKx90⟩ := Kx90 o M91 hpx90
              subst eo
              show rb_Bd κ mX0_act (n.1 + n2.1 + n10.1 + n70.1 + n78.1 + n88.1, n.2 + n2.2 + n10.2 + n70.2 + n78.2 + n88.2) M91 97 [some (.ref a0), some (.int a1), some (.int a2), some (.int a3), some (.ref q17), some (.ref q17)] [.int x90]
              refine rb_pop rfl dX0_act_97 ?_
              refine rb_aload_n 0 rfl rfl (rb_isR_ref _) dX0_act_98 ?_
              obtain ⟨v92, hrv92, hv92, Kv92⟩ := KKx90
              refine rc_get fl_X0_238_0 hrv92 dX0_act_99 ?_
              obtain ⟨q93, eq93, Kq93⟩ := Kv92
              subst eq93
              obtain ⟨v94, hrv94, hv94, Kv94⟩ := Kq93
              refine rc_get fl_X0_260_6 hrv94 dX0_act_102 ?_
              obtain ⟨q95, eq95, Kq95⟩ := Kv94
              subst eq95
              obtain ⟨d96, n97, Q98, h1x99, hdx99, hnx99, hox99, Kx99⟩ := Kq95
              refine rb_call st_X0_201_7 (rest := []) h1x99 rfl rfl (rc_rc rfl hox99) (Nat.le_of_ble_eq_true rfl) hdx99.1 hdx99.2 hnx99.1 hnx99.2 dX0_act_105 (fun o M100 hpx99 => ?_)
              obtain ⟨x99, eo, KKx99⟩ := Kx99 o M100 hpx99
              subst eo
              show rb_Bd κ mX0_act (n.1 + n2.1 + n10.1 + n70.1 + n78.1 + n88.1 + n97.1, n.2 + n2.2 + n10.2 + n70.2 + n78.2 + n88.2 + n97.2) M100 108 [some (.ref a0), some (.int a1), some (.int a2), some (.int a3), some (.ref q17), some (.ref q17)] [.int x99]
              exact rb_iret rfl rfl (KKx99).1.1 (KKx99).1.2 dX0_act_108 (KKx99).2
            · skip
              refine rb_bipush (v := (-4 : Int32)) (by decide) dX0_act_82 ?_
              exact rb_iret rfl rfl (((KKx80).2 c82)).1.1 (((KKx80).2 c82)).1.2 dX0_act_84 (((KKx80).2 c82)).2
          · skip
            refine rb_bipush (v := (-2 : Int32)) (by decide) dX0_act_69 ?_
            exact rb_iret rfl rfl (((KKx72).2 c74)).1.1 (((KKx72).2 c74)).1.2 dX0_act_71 (((KKx72).2 c74)).2
        · skip
          refine rb_iconst (v := (-1 : Int32)) (by decide) dX0_act_52 ?_
          exact rb_iret rfl rfl (((KE18).2 c64)).1.1 (((KE18).2 c64)).1.2 dX0_act_53 (((KE18).2 c64)).2
    · subst e
      refine rb_bipush (v := (-4 : Int32)) (by decide) dX0_act_19 ?_
      exact rb_iret rfl rfl (((Kv7).1 rfl)).1.1 (((Kv7).1 rfl)).1.2 dX0_act_21 (((Kv7).1 rfl)).2
  · skip
    refine rb_iconst (v := (-1 : Int32)) (by decide) dX0_act_10 ?_
    exact rb_iret rfl rfl (((KKx4).2 c6)).1.1 (((KKx4).2 c6)).1.2 dX0_act_11 (((KKx4).2 c6)).2
