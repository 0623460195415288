set_option maxRecDepth 100000
theorem rb_isR_cat {v : Value} (h : rb_isR v) : v.category = 1 := by rcases h with rfl | ⟨a, rfl⟩ <;> rfl
theorem rb_cR (a : Nat) : (Value.ref a).category = 1 := rfl
theorem rb_cI (a : Int32) : (Value.int a).category = 1 := rfl
theorem rb_cJ (a : Int64) : (Value.long a).category = 2 := rfl
theorem rb_cN : Value.null.category = 1 := rfl
theorem mm_sw18 (x lo : Int) : (x < lo ∨ lo + 18 < x) ∨ x = lo + 0 ∨ x = lo + 1 ∨ x = lo + 2 ∨ x = lo + 3 ∨ x = lo + 4 ∨ x = lo + 5 ∨ x = lo + 6 ∨ x = lo + 7 ∨ x = lo + 8 ∨ x = lo + 9 ∨ x = lo + 10 ∨ x = lo + 11 ∨ x = lo + 12 ∨ x = lo + 13 ∨ x = lo + 14 ∨ x = lo + 15 ∨ x = lo + 16 ∨ x = lo + 17 ∨ x = lo + 18 := by omega
theorem sgX1_init_0 {κ : rb_K} {n : Nat × Nat} {M : rb_H} {a0 : Nat} (K : (∃ (ci6 : Nat) (d1 : Nat) (n2 : Nat × Nat) (Q3 : Outcome → rb_H → Prop), rb_Ct κ.1 yJ1_init wJ1_init d1 n2 [.ref a0] M Q3 ∧ rb_dp κ d1 ∧ rb_rom κ (n.1 + n2.1, n.2 + n2.2) ∧ rb_ob M a0 ci6 ∧ ∀ (o : Outcome) (M5 : rb_H), Q3 o M5 → (o = .returned none ∧ (rb_fin κ (n.1 + n2.1, n.2 + n2.2) ∧ κ.2.2.1 (.returned none) M5)))) : rb_Bd κ mX1_init n M 0 [some (.ref a0)] [] := by
  refine rb_aload_n 0 rfl rfl (rb_isR_ref _) dX1_init_0 ?_
  obtain ⟨ci6, d1, n2, Q3, h1v4, hdv4, hnv4, hov4, Kv4⟩ := K
  refine rb_call (st_X1_1 ci6) (rest := []) h1v4 rfl rfl (rc_rc rfl hov4) (Nat.le_of_ble_eq_true rfl) hdv4.1 hdv4.2 hnv4.1 hnv4.2 dX1_init_1 (fun o M5 hpv4 => ?_)
  obtain ⟨eo, KKv4⟩ := Kv4 o M5 hpv4
  subst eo
  show rb_Bd κ mX1_init (n.1 + n2.1, n.2 + n2.2) M5 4 [some (.ref a0)] []
  exact rb_vret rfl (KKv4).1.1 (KKv4).1.2 dX1_init_4 (KKv4).2
theorem sgX10_init_0 {κ : rb_K} {n : Nat × Nat} {M : rb_H} {a0 : Nat} {a1 : Value} {a2 : Int32} (ha1 : rb_isR a1) (K : (∃ (ci2 k3 : Nat) (fs1 : List Value), rb_FL "RoleLoom$Add" 1 ci2 k3 ∧ (∀ q : vw_C, rb_cl[ci2]? = some q → (q.2.1 k3).2.2.2 = false ∨ ("RoleLoom$Add" = (q.2.1 k3).1 ∧ "<init>" = "<init>")) ∧ narrow (rb_ty ci2 k3) a1 = a1 ∧ fits (rb_ty ci2 k3) a1 = true ∧ M.2 a0 = some (rb_O ci2 fs1) ∧ k3 < fs1.length ∧ (∃ (ci9 : Nat) (d4 : Nat) (n5 : Nat × Nat) (Q6 : Outcome → rb_H → Prop), rb_Ct κ.1 yX7_init wX7_init d4 n5 [.ref a0, a1, .int a2, .int (0 : Int32)] (rb_up M a0 (rb_O ci2 (fs1.set k3 a1))) Q6 ∧ rb_dp κ d4 ∧ rb_rom κ (n.1 + n5.1, n.2 + n5.2) ∧ rb_ob (rb_up M a0 (rb_O ci2 (fs1.set k3 a1))) a0 ci9 ∧ ∀ (o : Outcome) (M8 : rb_H), Q6 o M8 → (o = .returned none ∧ (rb_fin κ (n.1 + n5.1, n.2 + n5.2) ∧ κ.2.2.1 (.returned none) M8))))) : rb_Bd κ mX10_init n M 0 [some (.ref a0), some a1, some (.int a2)] [] := by
  refine rb_aload_n 0 rfl rfl (rb_isR_ref _) dX10_init_0 ?_
  refine rb_aload_n 1 rfl rfl ha1 dX10_init_1 ?_
  obtain ⟨ci2, k3, fs1, hffs1, hgfs1, hnfs1, hmfs1, hMfs1, hlfs1, Kfs1⟩ := K
  refine rb_put hffs1 hgfs1 hnfs1 hmfs1 hMfs1 hlfs1 dX10_init_2 ?_
  refine rb_aload_n 0 rfl rfl (rb_isR_ref _) dX10_init_5 ?_
  refine rb_aload_n 1 rfl rfl ha1 dX10_init_6 ?_
  refine rb_iload_n 2 rfl rfl dX10_init_7 ?_
  refine rb_iconst (v := (0 : Int32)) (by decide) dX10_init_8 ?_
  obtain ⟨ci9, d4, n5, Q6, h1v7, hdv7, hnv7, hov7, Kv7⟩ := Kfs1
  refine rb_call (st_X10_7 ci9) (rest := []) h1v7 rfl rfl (rc_rc rfl hov7) (Nat.le_of_ble_eq_true rfl) hdv7.1 hdv7.2 hnv7.1 hnv7.2 dX10_init_9 (fun o M8 hpv7 => ?_)
  obtain ⟨eo, KKv7⟩ := Kv7 o M8 hpv7
  subst eo
  show rb_Bd κ mX10_init (n.1 + n5.1, n.2 + n5.2) M8 12 [some (.ref a0), some a1, some (.int a2)] []
  exact rb_vret rfl (KKv7).1.1 (KKv7).1.2 dX10_init_12 (KKv7).2
theorem sgX10_fits_0 {κ : rb_K} {n : Nat × Nat} {M : rb_H} {a0 : Nat} {a1 : Value} (ha1 : rb_isR a1) (K : (∃ (ci2 k3 : Nat) (x1 : Int32), rb_FL "RoleLoom$Add" 13 ci2 k3 ∧ rb_rd M a0 ci2 k3 (.int x1) ∧ (∃ (d4 : Nat) (n5 : Nat × Nat) (Q6 : Outcome → rb_H → Prop), rb_Ct κ.1 yX0_isNumber wX0_isNumber d4 n5 [.int x1] M Q6 ∧ rb_dp κ d4 ∧ rb_rom κ (n.1 + n5.1, n.2 + n5.2) ∧ ∀ (o : Outcome) (M8 : rb_H), Q6 o M8 → (∃ (x7 : Int32), o = .returned (some (.int x7)) ∧ (narrow .boolean (.int x7) = .int x7 ∧ rb_fin κ (n.1 + n5.1, n.2 + n5.2) ∧ κ.2.2.1 (.returned (some (.int x7))) M8))))) : rb_Bd κ mX10_fits n M 0 [some (.ref a0), some a1] [] := by
  refine rb_aload_n 0 rfl rfl (rb_isR_ref _) dX10_fits_0 ?_
  obtain ⟨ci2, k3, x1, hfx1, hrx1, Kx1⟩ := K
  refine rc_get hfx1 hrx1 dX10_fits_1 ?_
  obtain ⟨d4, n5, Q6, h1x7, hdx7, hnx7, Kx7⟩ := Kx1
  refine rb_call st_X10_17 (rest := []) h1x7 rfl rfl mm_rn (Nat.le_of_ble_eq_true rfl) hdx7.1 hdx7.2 hnx7.1 hnx7.2 dX10_fits_4 (fun o M8 hpx7 => ?_)
  obtain ⟨x7, eo, KKx7⟩ := Kx7 o M8 hpx7
  subst eo
  show rb_Bd κ mX10_fits (n.1 + n5.1, n.2 + n5.2) M8 7 [some (.ref a0), some a1] [.int x7]
  exact rb_iret rfl (KKx7).1 (KKx7).2.1.1 (KKx7).2.1.2 dX10_fits_7 (KKx7).2.2
theorem sgX10_act_0 {κ : rb_K} {n : Nat × Nat} {M : rb_H} {a0 : Nat} {a1 : Value} {a2 : Int64} (ha1 : rb_isR a1) (K : (∃ (ci2 k3 : Nat) (x1 : Int32), rb_FL "RoleLoom$Add" 13 ci2 k3 ∧ rb_rd M a0 ci2 k3 (.int x1) ∧ (rb_fin κ n ∧ κ.2.2.1 (.returned (some (.long (a2 + (x1).toInt64)))) M))) : rb_Bd κ mX10_act n M 0 [some (.ref a0), some a1, some (.long a2), none] [] := by
  refine rb_lload_n 2 rfl rfl dX10_act_0 ?_
  refine rb_aload_n 0 rfl rfl (rb_isR_ref _) dX10_act_1 ?_
  obtain ⟨ci2, k3, x1, hfx1, hrx1, Kx1⟩ := K
  refine rc_get hfx1 hrx1 dX10_act_2 ?_
  refine rb_i2l (z := (x1).toInt64) rfl dX10_act_5 ?_
  refine rb_ladd (z := (a2 + (x1).toInt64)) rfl dX10_act_6 ?_
  exact rb_lret rfl (Kx1).1.1 (Kx1).1.2 dX10_act_7 (Kx1).2
theorem sgX11_init_0 {κ : rb_K} {n : Nat × Nat} {M : rb_H} {a0 : Nat} {a1 : Value} {a2 : Int32} (ha1 : rb_isR a1) (K : (∃ (ci2 k3 : Nat) (fs1 : List Value), rb_FL "RoleLoom$Times" 1 ci2 k3 ∧ (∀ q : vw_C, rb_cl[ci2]? = some q → (q.2.1 k3).2.2.2 = false ∨ ("RoleLoom$Times" = (q.2.1 k3).1 ∧ "<init>" = "<init>")) ∧ narrow (rb_ty ci2 k3) a1 = a1 ∧ fits (rb_ty ci2 k3) a1 = true ∧ M.2 a0 = some (rb_O ci2 fs1) ∧ k3 < fs1.length ∧ (∃ (ci9 : Nat) (d4 : Nat) (n5 : Nat × Nat) (Q6 : Outcome → rb_H → Prop), rb_Ct κ.1 yX10_init wX10_init d4 n5 [.ref a0, a1, .int a2] (rb_up M a0 (rb_O ci2 (fs1.set k3 a1))) Q6 ∧ rb_dp κ d4 ∧ rb_rom κ (n.1 + n5.1, n.2 + n5.2) ∧ rb_ob (rb_up M a0 (rb_O ci2 (fs1.set k3 a1))) a0 ci9 ∧ ∀ (o : Outcome) (M8 : rb_H), Q6 o M8 → (o = .returned none ∧ (rb_fin κ (n.1 + n5.1, n.2 + n5.2) ∧ κ.2.2.1 (.returned none) M8))))) : rb_Bd κ mX11_init n M 0 [some (.ref a0), some a1, some (.int a2)] [] := by
  refine rb_aload_n 0 rfl rfl (rb_isR_ref _) dX11_init_0 ?_
  refine rb_aload_n 1 rfl rfl ha1 dX11_init_1 ?_
  obtain ⟨ci2, k3, fs1, hffs1, hgfs1, hnfs1, hmfs1, hMfs1, hlfs1, Kfs1⟩ := K
  refine rb_put hffs1 hgfs1 hnfs1 hmfs1 hMfs1 hlfs1 dX11_init_2 ?_
  refine rb_aload_n 0 rfl rfl (rb_isR_ref _) dX11_init_5 ?_
  refine rb_aload_n 1 rfl rfl ha1 dX11_init_6 ?_
  refine rb_iload_n 2 rfl rfl dX11_init_7 ?_
  obtain ⟨ci9, d4, n5, Q6, h1v7, hdv7, hnv7, hov7, Kv7⟩ := Kfs1
  refine rb_call (st_X11_7 ci9) (rest := []) h1v7 rfl rfl (rc_rc rfl hov7) (Nat.le_of_ble_eq_true rfl) hdv7.1 hdv7.2 hnv7.1 hnv7.2 dX11_init_8 (fun o M8 hpv7 => ?_)
  obtain ⟨eo, KKv7⟩ := Kv7 o M8 hpv7
  subst eo
  show rb_Bd κ mX11_init (n.1 + n5.1, n.2 + n5.2) M8 11 [some (.ref a0), some a1, some (.int a2)] []
  exact rb_vret rfl (KKv7).1.1 (KKv7).1.2 dX11_init_11 (KKv7).2
theorem sgX11_act_0 {κ : rb_K} {n : Nat × Nat} {M : rb_H} {a0 : Nat} {a1 : Value} {a2 : Int64} (ha1 : rb_isR a1) (K : (∃ (ci2 k3 : Nat) (x1 : Int32), rb_FL "RoleLoom$Times" 13 ci2 k3 ∧ rb_rd M a0 ci2 k3 (.int x1) ∧ (rb_fin κ n ∧ κ.2.2.1 (.returned (some (.long (a2 * (x1).toInt64)))) M))) : rb_Bd κ mX11_act n M 0 [some (.ref a0), some a1, some (.long a2), none] [] := by
  refine rb_lload_n 2 rfl rfl dX11_act_0 ?_
  refine rb_aload_n 0 rfl rfl (rb_isR_ref _) dX11_act_1 ?_
  obtain ⟨ci2, k3, x1, hfx1, hrx1, Kx1⟩ := K
  refine rc_get hfx1 hrx1 dX11_act_2 ?_
  refine rb_i2l (z := (x1).toInt64) rfl dX11_act_5 ?_
  refine rb_lmul (z := (a2 * (x1).toInt64)) rfl dX11_act_6 ?_
  exact rb_lret rfl (Kx1).1.1 (Kx1).1.2 dX11_act_7 (Kx1).2
theorem sgX12_init_0 {κ : rb_K} {n : Nat × Nat} {M : rb_H} {a0 : Nat} {a1 : Value} {a2 : Int32} (ha1 : rb_isR a1) (K : (∃ (ci2 k3 : Nat) (fs1 : List Value), rb_FL "RoleLoom$Get" 1 ci2 k3 ∧ (∀ q : vw_C, rb_cl[ci2]? = some q → (q.2.1 k3).2.2.2 = false ∨ ("RoleLoom$Get" = (q.2.1 k3).1 ∧ "<init>" = "<init>")) ∧ narrow (rb_ty ci2 k3) a1 = a1 ∧ fits (rb_ty ci2 k3) a1 = true ∧ M.2 a0 = some (rb_O ci2 fs1) ∧ k3 < fs1.length ∧ (∃ (ci9 : Nat) (d4 : Nat) (n5 : Nat × Nat) (Q6 : Outcome → rb_H → Prop), rb_Ct κ.1 yX7_init wX7_init d4 n5 [.ref a0, a1, .int a2, .int (0 : Int32)] (rb_up M a0 (rb_O ci2 (fs1.set k3 a1))) Q6 ∧ rb_dp κ d4 ∧ rb_rom κ (n.1 + n5.1, n.2 + n5.2) ∧ rb_ob (rb_up M a0 (rb_O ci2 (fs1.set k3 a1))) a0 ci9 ∧ ∀ (o : Outcome) (M8 : rb_H), Q6 o M8 → (o = .returned none ∧ (rb_fin κ (n.1 + n5.1, n.2 + n5.2) ∧ κ.2.2.1 (.returned none) M8))))) : rb_Bd κ mX12_init n M 0 [some (.ref a0), some a1, some (.int a2)] [] := by
  refine rb_aload_n 0 rfl rfl (rb_isR_ref _) dX12_init_0 ?_
  refine rb_aload_n 1 rfl rfl ha1 dX12_init_1 ?_
  obtain ⟨ci2, k3, fs1, hffs1, hgfs1, hnfs1, hmfs1, hMfs1, hlfs1, Kfs1⟩ := K
  refine rb_put hffs1 hgfs1 hnfs1 hmfs1 hMfs1 hlfs1 dX12_init_2 ?_
  refine rb_aload_n 0 rfl rfl (rb_isR_ref _) dX12_init_5 ?_
  refine rb_aload_n 1 rfl rfl ha1 dX12_init_6 ?_
  refine rb_iload_n 2 rfl rfl dX12_init_7 ?_
  refine rb_iconst (v := (0 : Int32)) (by decide) dX12_init_8 ?_
  obtain ⟨ci9, d4, n5, Q6, h1v7, hdv7, hnv7, hov7, Kv7⟩ := Kfs1
  refine rb_call (st_X12_7 ci9) (rest := []) h1v7 rfl rfl (rc_rc rfl hov7) (Nat.le_of_ble_eq_true rfl) hdv7.1 hdv7.2 hnv7.1 hnv7.2 dX12_init_9 (fun o M8 hpv7 => ?_)
  obtain ⟨eo, KKv7⟩ := Kv7 o M8 hpv7
  subst eo
  show rb_Bd κ mX12_init (n.1 + n5.1, n.2 + n5.2) M8 12 [some (.ref a0), some a1, some (.int a2)] []
  exact rb_vret rfl (KKv7).1.1 (KKv7).1.2 dX12_init_12 (KKv7).2
theorem sgX12_fits_0 {κ : rb_K} {n : Nat × Nat} {M : rb_H} {a0 : Nat} {a1 : Value} (ha1 : rb_isR a1) (K : (∃ (ci2 k3 : Nat) (x1 : Int32), rb_FL "RoleLoom$Get" 25 ci2 k3 ∧ rb_rd M a0 ci2 k3 (.int x1) ∧ (∃ q4, a1 = .ref q4 ∧ (∃ (x5 : Int32), rb_rd M q4 5 1 (.int x5) ∧ (∃ (d6 : Nat) (n7 : Nat × Nat) (Q8 : Outcome → rb_H → Prop), rb_Ct κ.1 yX0_in wX0_in d6 n7 [.int x1, .int (0 : Int32), .int (x5 - (1 : Int32))] M Q8 ∧ rb_dp κ d6 ∧ rb_rom κ (n.1 + n7.1, n.2 + n7.2) ∧ ∀ (o : Outcome) (M10 : rb_H), Q8 o M10 → (∃ (x9 : Int32), o = .returned (some (.int x9)) ∧ (narrow .boolean (.int x9) = .int x9 ∧ rb_fin κ (n.1 + n7.1, n.2 + n7.2) ∧ κ.2.2.1 (.returned (some (.int x9))) M10))))))) : rb_Bd κ mX12_fits n M 0 [some (.ref a0), some a1] [] := by
  refine rb_aload_n 0 rfl rfl (rb_isR_ref _) dX12_fits_0 ?_
  obtain ⟨ci2, k3, x1, hfx1, hrx1, Kx1⟩ := K
  refine rc_get hfx1 hrx1 dX12_fits_1 ?_
  refine rb_iconst (v := (0 : Int32)) (by decide) dX12_fits_4 ?_
  refine rb_aload_n 1 rfl rfl ha1 dX12_fits_5 ?_
  obtain ⟨q4, eq4, Kq4⟩ := Kx1
  subst eq4
  obtain ⟨x5, hrx5, Kx5⟩ := Kq4
  refine rc_get fl_X12_29_5 hrx5 dX12_fits_6 ?_
  refine rb_iconst (v := (1 : Int32)) (by decide) dX12_fits_9 ?_
  refine rb_isub (z := (x5 - (1 : Int32))) rfl dX12_fits_10 ?_
  obtain ⟨d6, n7, Q8, h1x9, hdx9, hnx9, Kx9⟩ := Kx5
  refine rb_call st_X12_33 (rest := []) h1x9 rfl rfl mm_rn (Nat.le_of_ble_eq_true rfl) hdx9.1 hdx9.2 hnx9.1 hnx9.2 dX12_fits_11 (fun o M10 hpx9 => ?_)
  obtain ⟨x9, eo, KKx9⟩ := Kx9 o M10 hpx9
  subst eo
  show rb_Bd κ mX12_fits (n.1 + n7.1, n.2 + n7.2) M10 14 [some (.ref a0), some (.ref q4)] [.int x9]
  exact rb_iret rfl (KKx9).1 (KKx9).2.1.1 (KKx9).2.1.2 dX12_fits_14 (KKx9).2.2
theorem sgX12_act_0 {κ : rb_K} {n : Nat × Nat} {M : rb_H} {a0 : Nat} {a1 : Value} {a2 : Int64} (ha1 : rb_isR a1) (K : (∃ q1, a1 = .ref q1 ∧ (∃ (v2 : Value), rb_rd M q1 3 1 (v2) ∧ rb_isR v2 ∧ (∃ q3, v2 = .ref q3 ∧ (∃ (v4 : Value), rb_rd M q3 28 0 (v4) ∧ rb_isR v4 ∧ (∃ (ci6 k7 : Nat) (x5 : Int32), rb_FL "RoleLoom$Get" 25 ci6 k7 ∧ rb_rd M a0 ci6 k7 (.int x5) ∧ (∃ q8, v4 = .ref q8 ∧ (∃ (N9 : Nat) (f10 : Nat → Int64) (x11 : Int64), M.2 q8 = some (rb_L N9 f10) ∧ vp_in x5 N9 ∧ f10 (x5).toNatClampNeg = x11 ∧ (rb_fin κ n ∧ κ.2.2.1 (.returned (some (.long x11))) M))))))))) : rb_Bd κ mX12_act n M 0 [some (.ref a0), some a1, some (.long a2), none] [] := by
  refine rb_aload_n 1 rfl rfl ha1 dX12_act_0 ?_
  obtain ⟨q1, eq1, Kq1⟩ := K
  subst eq1
  obtain ⟨v2, hrv2, hv2, Kv2⟩ := Kq1
  refine rc_get fl_X12_13_3 hrv2 dX12_act_1 ?_
  obtain ⟨q3, eq3, Kq3⟩ := Kv2
  subst eq3
  obtain ⟨v4, hrv4, hv4, Kv4⟩ := Kq3
  refine rc_get fl_X12_19_28 hrv4 dX12_act_4 ?_
  refine rb_aload_n 0 rfl rfl (rb_isR_ref _) dX12_act_7 ?_
  obtain ⟨ci6, k7, x5, hfx5, hrx5, Kx5⟩ := Kv4
  refine rc_get hfx5 hrx5 dX12_act_8 ?_
  obtain ⟨q8, eq8, Kq8⟩ := Kx5
  subst eq8
  obtain ⟨N9, f10, x11, hMx11, hix11, hxx11, Kx11⟩ := Kq8
  refine rc_lald hMx11 hix11 hxx11 dX12_act_11 ?_
  exact rb_lret rfl (Kx11).1.1 (Kx11).1.2 dX12_act_12 (Kx11).2
theorem sgX13_init_0 {κ : rb_K} {n : Nat × Nat} {M : rb_H} {a0 : Nat} {a1 : Value} {a2 : Int32} (ha1 : rb_isR a1) (K : (∃ (ci2 k3 : Nat) (fs1 : List Value), rb_FL "RoleLoom$Set" 1 ci2 k3 ∧ (∀ q : vw_C, rb_cl[ci2]? = some q → (q.2.1 k3).2.2.2 = false ∨ ("RoleLoom$Set" = (q.2.1 k3).1 ∧ "<init>" = "<init>")) ∧ narrow (rb_ty ci2 k3) a1 = a1 ∧ fits (rb_ty ci2 k3) a1 = true ∧ M.2 a0 = some (rb_O ci2 fs1) ∧ k3 < fs1.length ∧ (∃ (ci9 : Nat) (d4 : Nat) (n5 : Nat × Nat) (Q6 : Outcome → rb_H → Prop), rb_Ct κ.1 yX12_init wX12_init d4 n5 [.ref a0, a1, .int a2] (rb_up M a0 (rb_O ci2 (fs1.set k3 a1))) Q6 ∧ rb_dp κ d4 ∧ rb_rom κ (n.1 + n5.1, n.2 + n5.2) ∧ rb_ob (rb_up M a0 (rb_O ci2 (fs1.set k3 a1))) a0 ci9 ∧ ∀ (o : Outcome) (M8 : rb_H), Q6 o M8 → (o = .returned none ∧ (rb_fin κ (n.1 + n5.1, n.2 + n5.2) ∧ κ.2.2.1 (.returned none) M8))))) : rb_Bd κ mX13_init n M 0 [some (.ref a0), some a1, some (.int a2)] [] := by
  refine rb_aload_n 0 rfl rfl (rb_isR_ref _) dX13_init_0 ?_
  refine rb_aload_n 1 rfl rfl ha1 dX13_init_1 ?_
  obtain ⟨ci2, k3, fs1, hffs1, hgfs1, hnfs1, hmfs1, hMfs1, hlfs1, Kfs1⟩ := K
  refine rb_put hffs1 hgfs1 hnfs1 hmfs1 hMfs1 hlfs1 dX13_init_2 ?_
  refine rb_aload_n 0 rfl rfl (rb_isR_ref _) dX13_init_5 ?_
  refine rb_aload_n 1 rfl rfl ha1 dX13_init_6 ?_
  refine rb_iload_n 2 rfl rfl dX13_init_7 ?_
  obtain ⟨ci9, d4, n5, Q6, h1v7, hdv7, hnv7, hov7, Kv7⟩ := Kfs1
  refine rb_call (st_X13_7 ci9) (rest := []) h1v7 rfl rfl (rc_rc rfl hov7) (Nat.le_of_ble_eq_true rfl) hdv7.1 hdv7.2 hnv7.1 hnv7.2 dX13_init_8 (fun o M8 hpv7 => ?_)
  obtain ⟨eo, KKv7⟩ := Kv7 o M8 hpv7
  subst eo
  show rb_Bd κ mX13_init (n.1 + n5.1, n.2 + n5.2) M8 11 [some (.ref a0), some a1, some (.int a2)] []
  exact rb_vret rfl (KKv7).1.1 (KKv7).1.2 dX13_init_11 (KKv7).2
theorem sgX13_act_0 {κ : rb_K} {n : Nat × Nat} {M : rb_H} {a0 : Nat} {a1 : Value} {a2 : Int64} (ha1 : rb_isR a1) (K : (∃ q1, a1 = .ref q1 ∧ (∃ (v2 : Value), rb_rd M q1 3 1 (v2) ∧ rb_isR v2 ∧ (∃ q3, v2 = .ref q3 ∧ (∃ (v4 : Value), rb_rd M q3 28 0 (v4) ∧ rb_isR v4 ∧ (∃ (ci6 k7 : Nat) (x5 : Int32), rb_FL "RoleLoom$Set" 25 ci6 k7 ∧ rb_rd M a0 ci6 k7 (.int x5) ∧ (∃ q8, v4 = .ref q8 ∧ (∃ (N9 : Nat) (f10 : Nat → Int64), M.2 q8 = some (rb_L N9 f10) ∧ vp_in x5 N9 ∧ (rb_fin κ n ∧ κ.2.2.1 (.returned (some (.long a2))) (rb_up M q8 (rb_L N9 (va_up f10 (x5).toNatClampNeg a2)))))))))))) : rb_Bd κ mX13_act n M 0 [some (.ref a0), some a1, some (.long a2), none] [] := by
  refine rb_aload_n 1 rfl rfl ha1 dX13_act_0 ?_
  obtain ⟨q1, eq1, Kq1⟩ := K
  subst eq1
  obtain ⟨v2, hrv2, hv2, Kv2⟩ := Kq1
  refine rc_get fl_X13_13_3 hrv2 dX13_act_1 ?_
  obtain ⟨q3, eq3, Kq3⟩ := Kv2
  subst eq3
  obtain ⟨v4, hrv4, hv4, Kv4⟩ := Kq3
  refine rc_get fl_X13_19_28 hrv4 dX13_act_4 ?_
  refine rb_aload_n 0 rfl rfl (rb_isR_ref _) dX13_act_7 ?_
  obtain ⟨ci6, k7, x5, hfx5, hrx5, Kx5⟩ := Kv4
  refine rc_get hfx5 hrx5 dX13_act_8 ?_
  refine rb_lload_n 2 rfl rfl dX13_act_11 ?_
  obtain ⟨q8, eq8, Kq8⟩ := Kx5
  subst eq8
  obtain ⟨N9, f10, hMf10, hif10, Kf10⟩ := Kq8
  refine rb_last hMf10 hif10 dX13_act_12 ?_
  refine rb_lload_n 2 rfl rfl dX13_act_13 ?_
  exact rb_lret rfl (Kf10).1.1 (Kf10).1.2 dX13_act_14 (Kf10).2
theorem sgX14_init_0 {κ : rb_K} {n : Nat × Nat} {M : rb_H} {a0 : Nat} {a1 : Value} {a2 : Int32} (ha1 : rb_isR a1) (K : (∃ (ci2 k3 : Nat) (fs1 : List Value), rb_FL "RoleLoom$Share" 3 ci2 k3 ∧ (∀ q : vw_C, rb_cl[ci2]? = some q → (q.2.1 k3).2.2.2 = false ∨ ("RoleLoom$Share" = (q.2.1 k3).1 ∧ "<init>" = "<init>")) ∧ narrow (rb_ty ci2 k3) a1 = a1 ∧ fits (rb_ty ci2 k3) a1 = true ∧ M.2 a0 = some (rb_O ci2 fs1) ∧ k3 < fs1.length ∧ (∃ (ci9 : Nat) (d4 : Nat) (n5 : Nat × Nat) (Q6 : Outcome → rb_H → Prop), rb_Ct κ.1 yX12_init wX12_init d4 n5 [.ref a0, a1, .int a2] (rb_up M a0 (rb_O ci2 (fs1.set k3 a1))) Q6 ∧ rb_dp κ d4 ∧ rb_rom κ (n.1 + n5.1, n.2 + n5.2) ∧ rb_ob (rb_up M a0 (rb_O ci2 (fs1.set k3 a1))) a0 ci9 ∧ ∀ (o : Outcome) (M8 : rb_H), Q6 o M8 → (o = .returned none ∧ (rb_fin κ (n.1 + n5.1, n.2 + n5.2) ∧ κ.2.2.1 (.returned none) M8))))) : rb_Bd κ mX14_init n M 0 [some (.ref a0), some a1, some (.int a2)] [] := by
  refine rb_aload_n 0 rfl rfl (rb_isR_ref _) dX14_init_0 ?_
  refine rb_aload_n 1 rfl rfl ha1 dX14_init_1 ?_
  obtain ⟨ci2, k3, fs1, hffs1, hgfs1, hnfs1, hmfs1, hMfs1, hlfs1, Kfs1⟩ := K
  refine rb_put hffs1 hgfs1 hnfs1 hmfs1 hMfs1 hlfs1 dX14_init_2 ?_
  refine rb_aload_n 0 rfl rfl (rb_isR_ref _) dX14_init_5 ?_
  refine rb_aload_n 1 rfl rfl ha1 dX14_init_6 ?_
  refine rb_iload_n 2 rfl rfl dX14_init_7 ?_
  obtain ⟨ci9, d4, n5, Q6, h1v7, hdv7, hnv7, hov7, Kv7⟩ := Kfs1
  refine rb_call (st_X14_9 ci9) (rest := []) h1v7 rfl rfl (rc_rc rfl hov7) (Nat.le_of_ble_eq_true rfl) hdv7.1 hdv7.2 hnv7.1 hnv7.2 dX14_init_8 (fun o M8 hpv7 => ?_)
  obtain ⟨eo, KKv7⟩ := Kv7 o M8 hpv7
  subst eo
  show rb_Bd κ mX14_init (n.1 + n5.1, n.2 + n5.2) M8 11 [some (.ref a0), some a1, some (.int a2)] []
  exact rb_vret rfl (KKv7).1.1 (KKv7).1.2 dX14_init_11 (KKv7).2
theorem sgX14_act_0 {κ : rb_K} {n : Nat × Nat} {M : rb_H} {a0 : Nat} {a1 : Value} {a2 : Int64} (ha1 : rb_isR a1) (K : (∃ (ci6 : Nat) (d1 : Nat) (n2 : Nat × Nat) (Q3 : Outcome → rb_H → Prop), rb_Ct κ.1 yX12_act wX12_act d1 n2 [.ref a0, a1, .long a2] M Q3 ∧ rb_dp κ d1 ∧ rb_rom κ (n.1 + n2.1, n.2 + n2.2) ∧ rb_ob M a0 ci6 ∧ ∀ (o : Outcome) (M5 : rb_H), Q3 o M5 → (∃ (x4 : Int64), o = .returned (some (.long x4)) ∧ ((¬ x4 = (0 : Int64) → ((¬ x4 = 0) ∧ (rb_fin κ (n.1 + n2.1, n.2 + n2.2) ∧ κ.2.2.1 (.returned (some (.long (a2 / x4)))) M5))) ∧ (x4 = (0 : Int64) → (∃ (ci9 k10 : Nat) (v8 : Value), rb_FL "RoleLoom$Share" 3 ci9 k10 ∧ rb_rd M5 a0 ci9 k10 (v8) ∧ rb_isR v8 ∧ (∃ q11, v8 = .ref q11 ∧ (∃ (d12 : Nat) (n13 : Nat × Nat) (Q14 : Outcome → rb_H → Prop), rb_Ct κ.1 yX0_thrown wX0_thrown d12 n13 [.ref q11, a1, .int (10 : Int32), .long (0 : Int64)] M5 Q14 ∧ rb_dp κ d12 ∧ rb_rom κ (n.1 + n2.1 + n13.1, n.2 + n2.2 + n13.2) ∧ rb_ob M5 q11 0 ∧ ∀ (o : Outcome) (M16 : rb_H), Q14 o M16 → (∃ (v15 : Value), o = .returned (some v15) ∧ rb_isR v15 ∧ (∃ q17, v15 = .ref q17 ∧ (rb_fin κ (n.1 + n2.1 + n13.1, n.2 + n2.2 + n13.2) ∧ κ.2.2.1 (.threw q17) M16))))))))))) : rb_Bd κ mX14_act n M 0 [some (.ref a0), some a1, some (.long a2), none, none, none] [] := by
  refine rb_aload_n 0 rfl rfl (rb_isR_ref _) dX14_act_0 ?_
  refine rb_aload_n 1 rfl rfl ha1 dX14_act_1 ?_
  refine rb_lload_n 2 rfl rfl dX14_act_2 ?_
  obtain ⟨ci6, d1, n2, Q3, h1x4, hdx4, hnx4, hox4, Kx4⟩ := K
  refine rb_call (st_X14_15 ci6) (rest := []) h1x4 rfl rfl (rc_rc rfl hox4) (Nat.le_of_ble_eq_true rfl) hdx4.1 hdx4.2 hnx4.1 hnx4.2 dX14_act_3 (fun o M5 hpx4 => ?_)
  obtain ⟨x4, eo, KKx4⟩ := Kx4 o M5 hpx4
  subst eo
  show rb_Bd κ mX14_act (n.1 + n2.1, n.2 + n2.2) M5 6 [some (.ref a0), some a1, some (.long a2), none, none, none] [.long x4]
  refine rb_lstore (ls' := [some (.ref a0), some a1, some (.long a2), none, some (.long x4), none]) (by decide) rfl rfl dX14_act_6 ?_
  refine rb_lload rfl dX14_act_8 ?_
  refine rb_lconst (v := (0 : Int64)) (by decide) dX14_act_10 ?_
  refine rb_lc_ne 27 (by decide) dX14_act_11 dX14_act_12 (fun c7 => ?_) (fun c7 => ?_)
  · skip
    refine rb_lload_n 2 rfl rfl dX14_act_27 ?_
    refine rb_lload rfl dX14_act_28 ?_
    refine rb_ldiv (z := (a2 / x4)) (((KKx4).1 c7)).1 rfl dX14_act_30 ?_
    exact rb_lret rfl ((((KKx4).1 c7)).2).1.1 ((((KKx4).1 c7)).2).1.2 dX14_act_31 ((((KKx4).1 c7)).2).2
  · skip
    refine rb_aload_n 0 rfl rfl (rb_isR_ref _) dX14_act_15 ?_
    obtain ⟨ci9, k10, v8, hfv8, hrv8, hv8, Kv8⟩ := ((KKx4).2 c7)
    refine rc_get hfv8 hrv8 dX14_act_16 ?_
    refine rb_aload_n 1 rfl rfl ha1 dX14_act_19 ?_
    refine rb_bipush (v := (10 : Int32)) (by decide) dX14_act_20 ?_
    refine rb_lconst (v := (0 : Int64)) (by decide) dX14_act_22 ?_
    obtain ⟨q11, eq11, Kq11⟩ := Kv8
    subst eq11
    obtain ⟨d12, n13, Q14, h1v15, hdv15, hnv15, hov15, Kv15⟩ := Kq11
    refine rb_call st_X14_19_0 (rest := []) h1v15 rfl rfl (rc_rc rfl hov15) (Nat.le_of_ble_eq_true rfl) hdv15.1 hdv15.2 hnv15.1 hnv15.2 dX14_act_23 (fun o M16 hpv15 => ?_)
    obtain ⟨v15, eo, hv15, KKv15⟩ := Kv15 o M16 hpv15
    subst eo
    show rb_Bd κ mX14_act (n.1 + n2.1 + n13.1, n.2 + n2.2 + n13.2) M16 26 [some (.ref a0), some a1, some (.long a2), none, some (.long x4), none] [v15]
    obtain ⟨q17, eq17, Kq17⟩ := KKv15
    subst eq17
    exact rb_athrow (by decide) (Kq17).1.1 (Kq17).1.2 dX14_act_26 (Kq17).2
theorem sgX15_init_0 {κ : rb_K} {n : Nat × Nat} {M : rb_H} {a0 : Nat} {a1 : Value} {a2 : Int32} {a3 : Int32} (ha1 : rb_isR a1) (K : (∃ (ci2 k3 : Nat) (fs1 : List Value), rb_FL "RoleLoom$Over" 3 ci2 k3 ∧ (∀ q : vw_C, rb_cl[ci2]? = some q → (q.2.1 k3).2.2.2 = false ∨ ("RoleLoom$Over" = (q.2.1 k3).1 ∧ "<init>" = "<init>")) ∧ narrow (rb_ty ci2 k3) a1 = a1 ∧ fits (rb_ty ci2 k3) a1 = true ∧ M.2 a0 = some (rb_O ci2 fs1) ∧ k3 < fs1.length ∧ (∃ (ci9 : Nat) (d4 : Nat) (n5 : Nat × Nat) (Q6 : Outcome → rb_H → Prop), rb_Ct κ.1 yX7_init wX7_init d4 n5 [.ref a0, a1, .int a2, .int (0 : Int32)] (rb_up M a0 (rb_O ci2 (fs1.set k3 a1))) Q6 ∧ rb_dp κ d4 ∧ rb_rom κ (n.1 + n5.1, n.2 + n5.2) ∧ rb_ob (rb_up M a0 (rb_O ci2 (fs1.set k3 a1))) a0 ci9 ∧ ∀ (o : Outcome) (M8 : rb_H), Q6 o M8 → (o = .returned none ∧ (∃ (ci11 k12 : Nat) (fs10 : List Value), rb_FL "RoleLoom$Over" 15 ci11 k12 ∧ (∀ q : vw_C, rb_cl[ci11]? = some q → (q.2.1 k12).2.2.2 = false ∨ ("RoleLoom$Over" = (q.2.1 k12).1 ∧ "<init>" = "<init>")) ∧ narrow (rb_ty ci11 k12) (.int a3) = (.int a3) ∧ fits (rb_ty ci11 k12) (.int a3) = true ∧ M8.2 a0 = some (rb_O ci11 fs10) ∧ k12 < fs10.length ∧ (rb_fin κ (n.1 + n5.1, n.2 + n5.2) ∧ κ.2.2.1 (.returned none) (rb_up M8 a0 (rb_O ci11 (fs10.set k12 (.int a3)))))))))) : rb_Bd κ mX15_init n M 0 [some (.ref a0), some a1, some (.int a2), some (.int a3)] [] := by
  refine rb_aload_n 0 rfl rfl (rb_isR_ref _) dX15_init_0 ?_
  refine rb_aload_n 1 rfl rfl ha1 dX15_init_1 ?_
  obtain ⟨ci2, k3, fs1, hffs1, hgfs1, hnfs1, hmfs1, hMfs1, hlfs1, Kfs1⟩ := K
  refine rb_put hffs1 hgfs1 hnfs1 hmfs1 hMfs1 hlfs1 dX15_init_2 ?_
  refine rb_aload_n 0 rfl rfl (rb_isR_ref _) dX15_init_5 ?_
  refine rb_aload_n 1 rfl rfl ha1 dX15_init_6 ?_
  refine rb_iload_n 2 rfl rfl dX15_init_7 ?_
  refine rb_iconst (v := (0 : Int32)) (by decide) dX15_init_8 ?_
  obtain ⟨ci9, d4, n5, Q6, h1v7, hdv7, hnv7, hov7, Kv7⟩ := Kfs1
  refine rb_call (st_X15_9 ci9) (rest := []) h1v7 rfl rfl (rc_rc rfl hov7) (Nat.le_of_ble_eq_true rfl) hdv7.1 hdv7.2 hnv7.1 hnv7.2 dX15_init_9 (fun o M8 hpv7 => ?_)
  obtain ⟨eo, KKv7⟩ := Kv7 o M8 hpv7
  subst eo
  show rb_Bd κ mX15_init (n.1 + n5.1, n.2 + n5.2) M8 12 [some (.ref a0), some a1, some (.int a2), some (.int a3)] []
  refine rb_aload_n 0 rfl rfl (rb_isR_ref _) dX15_init_12 ?_
  refine rb_iload_n 3 rfl rfl dX15_init_13 ?_
  obtain ⟨ci11, k12, fs10, hffs10, hgfs10, hnfs10, hmfs10, hMfs10, hlfs10, Kfs10⟩ := KKv7
  refine rb_put hffs10 hgfs10 hnfs10 hmfs10 hMfs10 hlfs10 dX15_init_14 ?_
  exact rb_vret rfl (Kfs10).1.1 (Kfs10).1.2 dX15_init_17 (Kfs10).2
theorem sgX15_fits_0 {κ : rb_K} {n : Nat × Nat} {M : rb_H} {a0 : Nat} {a1 : Value} (ha1 : rb_isR a1) (K : (∃ (ci2 k3 : Nat) (x1 : Int32), rb_FL "RoleLoom$Over" 23 ci2 k3 ∧ rb_rd M a0 ci2 k3 (.int x1) ∧ (∃ (d4 : Nat) (n5 : Nat × Nat) (Q6 : Outcome → rb_H → Prop), rb_Ct κ.1 yX0_in wX0_in d4 n5 [.int x1, .int (0 : Int32), .int (7 : Int32)] M Q6 ∧ rb_dp κ d4 ∧ rb_rom κ (n.1 + n5.1, n.2 + n5.2) ∧ ∀ (o : Outcome) (M8 : rb_H), Q6 o M8 → (∃ (x7 : Int32), o = .returned (some (.int x7)) ∧ (narrow .boolean (.int x7) = .int x7 ∧ rb_fin κ (n.1 + n5.1, n.2 + n5.2) ∧ κ.2.2.1 (.returned (some (.int x7))) M8))))) : rb_Bd κ mX15_fits n M 0 [some (.ref a0), some a1] [] := by
  refine rb_aload_n 0 rfl rfl (rb_isR_ref _) dX15_fits_0 ?_
  obtain ⟨ci2, k3, x1, hfx1, hrx1, Kx1⟩ := K
  refine rc_get hfx1 hrx1 dX15_fits_1 ?_
  refine rb_iconst (v := (0 : Int32)) (by decide) dX15_fits_4 ?_
  refine rb_bipush (v := (7 : Int32)) (by decide) dX15_fits_5 ?_
  obtain ⟨d4, n5, Q6, h1x7, hdx7, hnx7, Kx7⟩ := Kx1
  refine rb_call st_X15_27 (rest := []) h1x7 rfl rfl mm_rn (Nat.le_of_ble_eq_true rfl) hdx7.1 hdx7.2 hnx7.1 hnx7.2 dX15_fits_7 (fun o M8 hpx7 => ?_)
  obtain ⟨x7, eo, KKx7⟩ := Kx7 o M8 hpx7
  subst eo
  show rb_Bd κ mX15_fits (n.1 + n5.1, n.2 + n5.2) M8 10 [some (.ref a0), some a1] [.int x7]
  exact rb_iret rfl (KKx7).1 (KKx7).2.1.1 (KKx7).2.1.2 dX15_fits_10 (KKx7).2.2
theorem sgX15_act_0 {κ : rb_K} {n : Nat × Nat} {M : rb_H} {a0 : Nat} {a1 : Value} {a2 : Int64} (ha1 : rb_isR a1) (K : (∃ (ci2 k3 : Nat) (x1 : Int32), rb_FL "RoleLoom$Over" 15 ci2 k3 ∧ rb_rd M a0 ci2 k3 (.int x1) ∧ ((x1 = 0 → (∃ (ci6 k7 : Nat) (v5 : Value), rb_FL "RoleLoom$Over" 3 ci6 k7 ∧ rb_rd M a0 ci6 k7 (v5) ∧ rb_isR v5 ∧ (∃ q8, v5 = .ref q8 ∧ (∃ (v9 : Value), rb_rd M q8 0 9 (v9) ∧ rb_isR v9 ∧ (∃ (ci11 k12 : Nat) (x10 : Int32), rb_FL "RoleLoom$Over" 23 ci11 k12 ∧ rb_rd M a0 ci11 k12 (.int x10) ∧ (∃ q13, v9 = .ref q13 ∧ (∃ (N14 : Nat) (f15 : Nat → Int64) (x16 : Int64), M.2 q13 = some (rb_L N14 f15) ∧ vp_in x10 N14 ∧ f15 (x10).toNatClampNeg = x16 ∧ (rb_fin κ n ∧ κ.2.2.1 (.returned (some (.long x16))) M)))))))) ∧ (¬ x1 = 0 → (∃ (ci18 k19 : Nat) (v17 : Value), rb_FL "RoleLoom$Over" 3 ci18 k19 ∧ rb_rd M a0 ci18 k19 (v17) ∧ rb_isR v17 ∧ (∃ q20, v17 = .ref q20 ∧ (∃ (v21 : Value), rb_rd M q20 0 9 (v21) ∧ rb_isR v21 ∧ (∃ (ci23 k24 : Nat) (x22 : Int32), rb_FL "RoleLoom$Over" 23 ci23 k24 ∧ rb_rd M a0 ci23 k24 (.int x22) ∧ (∃ q25, v21 = .ref q25 ∧ (∃ (N26 : Nat) (f27 : Nat → Int64), M.2 q25 = some (rb_L N26 f27) ∧ vp_in x22 N26 ∧ (∃ (ci29 k30 : Nat) (v28 : Value), rb_FL "RoleLoom$Over" 3 ci29 k30 ∧ rb_rd (rb_up M q25 (rb_L N26 (va_up f27 (x22).toNatClampNeg a2))) a0 ci29 k30 (v28) ∧ rb_isR v28 ∧ (∃ q31, v28 = .ref q31 ∧ (∃ (v32 : Value), rb_rd (rb_up M q25 (rb_L N26 (va_up f27 (x22).toNatClampNeg a2))) q31 0 9 (v32) ∧ rb_isR v32 ∧ (∃ (ci34 k35 : Nat) (x33 : Int32), rb_FL "RoleLoom$Over" 23 ci34 k35 ∧ rb_rd (rb_up M q25 (rb_L N26 (va_up f27 (x22).toNatClampNeg a2))) a0 ci34 k35 (.int x33) ∧ (∃ q36, v32 = .ref q36 ∧ (∃ (N37 : Nat) (f38 : Nat → Int64) (x39 : Int64), (rb_up M q25 (rb_L N26 (va_up f27 (x22).toNatClampNeg a2))).2 q36 = some (rb_L N37 f38) ∧ vp_in x33 N37 ∧ f38 (x33).toNatClampNeg = x39 ∧ (rb_fin κ n ∧ κ.2.2.1 (.returned (some (.long x39))) (rb_up M q25 (rb_L N26 (va_up f27 (x22).toNatClampNeg a2)))))))))))))))))))) : rb_Bd κ mX15_act n M 0 [some (.ref a0), some a1, some (.long a2), none] [] := by
  refine rb_aload_n 0 rfl rfl (rb_isR_ref _) dX15_act_0 ?_
  obtain ⟨ci2, k3, x1, hfx1, hrx1, Kx1⟩ := K
  refine rc_get hfx1 hrx1 dX15_act_1 ?_
  refine rb_ifeq 20 (by decide) dX15_act_4 (fun c4 => ?_) (fun c4 => ?_)
  · skip
    refine rb_aload_n 0 rfl rfl (rb_isR_ref _) dX15_act_20 ?_
    obtain ⟨ci6, k7, v5, hfv5, hrv5, hv5, Kv5⟩ := ((Kx1).1 c4)
    refine rc_get hfv5 hrv5 dX15_act_21 ?_
    obtain ⟨q8, eq8, Kq8⟩ := Kv5
    subst eq8
    obtain ⟨v9, hrv9, hv9, Kv9⟩ := Kq8
    refine rc_get fl_X15_19_0 hrv9 dX15_act_24 ?_
    refine rb_aload_n 0 rfl rfl (rb_isR_ref _) dX15_act_27 ?_
    obtain ⟨ci11, k12, x10, hfx10, hrx10, Kx10⟩ := Kv9
    refine rc_get hfx10 hrx10 dX15_act_28 ?_
    obtain ⟨q13, eq13, Kq13⟩ := Kx10
    subst eq13
    obtain ⟨N14, f15, x16, hMx16, hix16, hxx16, Kx16⟩ := Kq13
    refine rc_lald hMx16 hix16 hxx16 dX15_act_31 ?_
    exact rb_lret rfl (Kx16).1.1 (Kx16).1.2 dX15_act_32 (Kx16).2
  · skip
    refine rb_aload_n 0 rfl rfl (rb_isR_ref _) dX15_act_7 ?_
    obtain ⟨ci18, k19, v17, hfv17, hrv17, hv17, Kv17⟩ := ((Kx1).2 c4)
    refine rc_get hfv17 hrv17 dX15_act_8 ?_
    obtain ⟨q20, eq20, Kq20⟩ := Kv17
    subst eq20
    obtain ⟨v21, hrv21, hv21, Kv21⟩ := Kq20
    refine rc_get fl_X15_19_0 hrv21 dX15_act_11 ?_
    refine rb_aload_n 0 rfl rfl (rb_isR_ref _) dX15_act_14 ?_
    obtain ⟨ci23, k24, x22, hfx22, hrx22, Kx22⟩ := Kv21
    refine rc_get hfx22 hrx22 dX15_act_15 ?_
    refine rb_lload_n 2 rfl rfl dX15_act_18 ?_
    obtain ⟨q25, eq25, Kq25⟩ := Kx22
    subst eq25
    obtain ⟨N26, f27, hMf27, hif27, Kf27⟩ := Kq25
    refine rb_last hMf27 hif27 dX15_act_19 ?_
    refine rb_aload_n 0 rfl rfl (rb_isR_ref _) dX15_act_20 ?_
    obtain ⟨ci29, k30, v28, hfv28, hrv28, hv28, Kv28⟩ := Kf27
    refine rc_get hfv28 hrv28 dX15_act_21 ?_
    obtain ⟨q31, eq31, Kq31⟩ := Kv28
    subst eq31
    obtain ⟨v32, hrv32, hv32, Kv32⟩ := Kq31
    refine rc_get fl_X15_19_0 hrv32 dX15_act_24 ?_
    refine rb_aload_n 0 rfl rfl (rb_isR_ref _) dX15_act_27 ?_
    obtain ⟨ci34, k35, x33, hfx33, hrx33, Kx33⟩ := Kv32
    refine rc_get hfx33 hrx33 dX15_act_28 ?_
    obtain ⟨q36, eq36, Kq36⟩ := Kx33
    subst eq36
    obtain ⟨N37, f38, x39, hMx39, hix39, hxx39, Kx39⟩ := Kq36
    refine rc_lald hMx39 hix39 hxx39 dX15_act_31 ?_
    exact rb_lret rfl (Kx39).1.1 (Kx39).1.2 dX15_act_32 (Kx39).2
theorem sgX16_init_0 {κ : rb_K} {n : Nat × Nat} {M : rb_H} {a0 : Nat} {a1 : Value} (ha1 : rb_isR a1) (K : (∃ (ci2 k3 : Nat) (fs1 : List Value), rb_FL "RoleLoom$Next" 3 ci2 k3 ∧ (∀ q : vw_C, rb_cl[ci2]? = some q → (q.2.1 k3).2.2.2 = false ∨ ("RoleLoom$Next" = (q.2.1 k3).1 ∧ "<init>" = "<init>")) ∧ narrow (rb_ty ci2 k3) a1 = a1 ∧ fits (rb_ty ci2 k3) a1 = true ∧ M.2 a0 = some (rb_O ci2 fs1) ∧ k3 < fs1.length ∧ (∃ (ci9 : Nat) (d4 : Nat) (n5 : Nat × Nat) (Q6 : Outcome → rb_H → Prop), rb_Ct κ.1 yX7_init wX7_init d4 n5 [.ref a0, a1, .int (0 : Int32), .int (0 : Int32)] (rb_up M a0 (rb_O ci2 (fs1.set k3 a1))) Q6 ∧ rb_dp κ d4 ∧ rb_rom κ (n.1 + n5.1, n.2 + n5.2) ∧ rb_ob (rb_up M a0 (rb_O ci2 (fs1.set k3 a1))) a0 ci9 ∧ ∀ (o : Outcome) (M8 : rb_H), Q6 o M8 → (o = .returned none ∧ (rb_fin κ (n.1 + n5.1, n.2 + n5.2) ∧ κ.2.2.1 (.returned none) M8))))) : rb_Bd κ mX16_init n M 0 [some (.ref a0), some a1] [] := by
  refine rb_aload_n 0 rfl rfl (rb_isR_ref _) dX16_init_0 ?_
  refine rb_aload_n 1 rfl rfl ha1 dX16_init_1 ?_
  obtain ⟨ci2, k3, fs1, hffs1, hgfs1, hnfs1, hmfs1, hMfs1, hlfs1, Kfs1⟩ := K
  refine rb_put hffs1 hgfs1 hnfs1 hmfs1 hMfs1 hlfs1 dX16_init_2 ?_
  refine rb_aload_n 0 rfl rfl (rb_isR_ref _) dX16_init_5 ?_
  refine rb_aload_n 1 rfl rfl ha1 dX16_init_6 ?_
  refine rb_iconst (v := (0 : Int32)) (by decide) dX16_init_7 ?_
  refine rb_iconst (v := (0 : Int32)) (by decide) dX16_init_8 ?_
  obtain ⟨ci9, d4, n5, Q6, h1v7, hdv7, hnv7, hov7, Kv7⟩ := Kfs1
  refine rb_call (st_X16_9 ci9) (rest := []) h1v7 rfl rfl (rc_rc rfl hov7) (Nat.le_of_ble_eq_true rfl) hdv7.1 hdv7.2 hnv7.1 hnv7.2 dX16_init_9 (fun o M8 hpv7 => ?_)
  obtain ⟨eo, KKv7⟩ := Kv7 o M8 hpv7
  subst eo
  show rb_Bd κ mX16_init (n.1 + n5.1, n.2 + n5.2) M8 12 [some (.ref a0), some a1] []
  exact rb_vret rfl (KKv7).1.1 (KKv7).1.2 dX16_init_12 (KKv7).2
theorem sgX16_act_0 {κ : rb_K} {n : Nat × Nat} {M : rb_H} {a0 : Nat} {a1 : Value} {a2 : Int64} (ha1 : rb_isR a1) (K : (∃ q1, a1 = .ref q1 ∧ (∃ (v2 : Value), rb_rd M q1 3 2 (v2) ∧ rb_isR v2 ∧ ((v2 = .null → (∃ (ci5 k6 : Nat) (v4 : Value), rb_FL "RoleLoom$Next" 3 ci5 k6 ∧ rb_rd M a0 ci5 k6 (v4) ∧ rb_isR v4 ∧ (∃ q7, v4 = .ref q7 ∧ (∃ (d8 : Nat) (n9 : Nat × Nat) (Q10 : Outcome → rb_H → Prop), rb_Ct κ.1 yX0_thrown wX0_thrown d8 n9 [.ref q7, .ref q1, .int (12 : Int32), .long (0 : Int64)] M Q10 ∧ rb_dp κ d8 ∧ rb_rom κ (n.1 + n9.1, n.2 + n9.2) ∧ rb_ob M q7 0 ∧ ∀ (o : Outcome) (M12 : rb_H), Q10 o M12 → (∃ (v11 : Value), o = .returned (some v11) ∧ rb_isR v11 ∧ (∃ q13, v11 = .ref q13 ∧ (rb_fin κ (n.1 + n9.1, n.2 + n9.2) ∧ κ.2.2.1 (.threw q13) M12))))))) ∧ (∀ q3, v2 = .ref q3 → (∃ (x14 : Int32), rb_rd M q1 3 3 (.int x14) ∧ ((¬ x14 = 0 → (∃ (ci17 k18 : Nat) (v16 : Value), rb_FL "RoleLoom$Next" 3 ci17 k18 ∧ rb_rd M a0 ci17 k18 (v16) ∧ rb_isR v16 ∧ (∃ (v19 : Value), rb_rd M q1 3 0 (v19) ∧ rb_isR v19 ∧ (∃ (v20 : Value), rb_rd M q1 3 2 (v20) ∧ rb_isR v20 ∧ (∃ (x21 : Int32), rb_rd M q1 3 3 (.int x21) ∧ (∃ (x22 : Int32), rb_rd M q1 3 7 (.int x22) ∧ (∃ q23, v16 = .ref q23 ∧ (∃ (d24 : Nat) (n25 : Nat × Nat) (Q26 : Outcome → rb_H → Prop), rb_Ct κ.1 yX0_run wX0_run d24 n25 [.ref q23, v19, v20, .int (x21 - (1 : Int32)), .long a2, .int (x22 + (1 : Int32))] M Q26 ∧ rb_dp κ d24 ∧ rb_rom κ (n.1 + n25.1, n.2 + n25.2) ∧ rb_ob M q23 0 ∧ ∀ (o : Outcome) (M28 : rb_H), Q26 o M28 → ((∃ (x27 : Int64), o = .returned (some (.long x27)) ∧ (rb_fin κ (n.1 + n25.1, n.2 + n25.2) ∧ κ.2.2.1 (.returned (some (.long x27))) M28)) ∨ (∃ x27t, o = .threw x27t ∧ rb_Th κ mX16_act (n.1 + n25.1, n.2 + n25.2) M28 51 [some (.ref a0), some (.ref q1), some (.long a2), none] x27t)))))))))) ∧ (x14 = 0 → (∃ (ci30 k31 : Nat) (v29 : Value), rb_FL "RoleLoom$Next" 3 ci30 k31 ∧ rb_rd M a0 ci30 k31 (v29) ∧ rb_isR v29 ∧ (∃ q32, v29 = .ref q32 ∧ (∃ (d33 : Nat) (n34 : Nat × Nat) (Q35 : Outcome → rb_H → Prop), rb_Ct κ.1 yX0_thrown wX0_thrown d33 n34 [.ref q32, .ref q1, .int (12 : Int32), .long (0 : Int64)] M Q35 ∧ rb_dp κ d33 ∧ rb_rom κ (n.1 + n34.1, n.2 + n34.2) ∧ rb_ob M q32 0 ∧ ∀ (o : Outcome) (M37 : rb_H), Q35 o M37 → (∃ (v36 : Value), o = .returned (some v36) ∧ rb_isR v36 ∧ (∃ q38, v36 = .ref q38 ∧ (rb_fin κ (n.1 + n34.1, n.2 + n34.2) ∧ κ.2.2.1 (.threw q38) M37)))))))))))))) : rb_Bd κ mX16_act n M 0 [some (.ref a0), some a1, some (.long a2), none] [] := by
  refine rb_aload_n 1 rfl rfl ha1 dX16_act_0 ?_
  obtain ⟨q1, eq1, Kq1⟩ := K
  subst eq1
  obtain ⟨v2, hrv2, hv2, Kv2⟩ := Kq1
  refine rc_get fl_X16_15_3 hrv2 dX16_act_1 ?_
  refine rb_ifnull hv2 14 (by decide) dX16_act_4 (fun e => ?_) (fun q3 e => ?_)
  · subst e
    refine rb_aload_n 0 rfl rfl (rb_isR_ref _) dX16_act_14 ?_
    obtain ⟨ci5, k6, v4, hfv4, hrv4, hv4, Kv4⟩ := ((Kv2).1 rfl)
    refine rc_get hfv4 hrv4 dX16_act_15 ?_
    refine rb_aload_n 1 rfl rfl (rb_isR_ref _) dX16_act_18 ?_
    refine rb_bipush (v := (12 : Int32)) (by decide) dX16_act_19 ?_
    refine rb_lconst (v := (0 : Int64)) (by decide) dX16_act_21 ?_
    obtain ⟨q7, eq7, Kq7⟩ := Kv4
    subst eq7
    obtain ⟨d8, n9, Q10, h1v11, hdv11, hnv11, hov11, Kv11⟩ := Kq7
    refine rb_call st_X16_25_0 (rest := []) h1v11 rfl rfl (rc_rc rfl hov11) (Nat.le_of_ble_eq_true rfl) hdv11.1 hdv11.2 hnv11.1 hnv11.2 dX16_act_22 (fun o M12 hpv11 => ?_)
    obtain ⟨v11, eo, hv11, KKv11⟩ := Kv11 o M12 hpv11
    subst eo
    show rb_Bd κ mX16_act (n.1 + n9.1, n.2 + n9.2) M12 25 [some (.ref a0), some (.ref q1), some (.long a2), none] [v11]
    obtain ⟨q13, eq13, Kq13⟩ := KKv11
    subst eq13
    exact rb_athrow (by decide) (Kq13).1.1 (Kq13).1.2 dX16_act_25 (Kq13).2
  · subst e
    refine rb_aload_n 1 rfl rfl (rb_isR_ref _) dX16_act_7 ?_
    obtain ⟨x14, hrx14, Kx14⟩ := ((Kv2).2 q3 rfl)
    refine rc_get fl_X16_21_3 hrx14 dX16_act_8 ?_
    refine rb_ifne 26 (by decide) dX16_act_11 (fun c15 => ?_) (fun c15 => ?_)
    · skip
      refine rb_aload_n 0 rfl rfl (rb_isR_ref _) dX16_act_26 ?_
      obtain ⟨ci17, k18, v16, hfv16, hrv16, hv16, Kv16⟩ := ((Kx14).1 c15)
      refine rc_get hfv16 hrv16 dX16_act_27 ?_
      refine rb_aload_n 1 rfl rfl (rb_isR_ref _) dX16_act_30 ?_
      obtain ⟨v19, hrv19, hv19, Kv19⟩ := Kv16
      refine rc_get fl_X16_29_3 hrv19 dX16_act_31 ?_
      refine rb_aload_n 1 rfl rfl (rb_isR_ref _) dX16_act_34 ?_
      obtain ⟨v20, hrv20, hv20, Kv20⟩ := Kv19
      refine rc_get fl_X16_15_3 hrv20 dX16_act_35 ?_
      refine rb_aload_n 1 rfl rfl (rb_isR_ref _) dX16_act_38 ?_
      obtain ⟨x21, hrx21, Kx21⟩ := Kv20
      refine rc_get fl_X16_21_3 hrx21 dX16_act_39 ?_
      refine rb_iconst (v := (1 : Int32)) (by decide) dX16_act_42 ?_
      refine rb_isub (z := (x21 - (1 : Int32))) rfl dX16_act_43 ?_
      refine rb_lload_n 2 rfl rfl dX16_act_44 ?_
      refine rb_aload_n 1 rfl rfl (rb_isR_ref _) dX16_act_45 ?_
      obtain ⟨x22, hrx22, Kx22⟩ := Kx21
      refine rc_get fl_X16_33_3 hrx22 dX16_act_46 ?_
      refine rb_iconst (v := (1 : Int32)) (by decide) dX16_act_49 ?_
      refine rb_iadd (z := (x22 + (1 : Int32))) rfl dX16_act_50 ?_
      obtain ⟨q23, eq23, Kq23⟩ := Kx22
      subst eq23
      obtain ⟨d24, n25, Q26, h1x27, hdx27, hnx27, hox27, Kx27⟩ := Kq23
      refine rb_call st_X16_36_0 (rest := []) h1x27 rfl rfl (rc_rc rfl hox27) (Nat.le_of_ble_eq_true rfl) hdx27.1 hdx27.2 hnx27.1 hnx27.2 dX16_act_51 (fun o M28 hpx27 => ?_)
      rcases Kx27 o M28 hpx27 with ⟨x27, eo, KKx27⟩ | ⟨x27t, eo, KKx27⟩
      · subst eo
        show rb_Bd κ mX16_act (n.1 + n25.1, n.2 + n25.2) M28 54 [some (.ref a0), some (.ref q1), some (.long a2), none] [.long x27]
        exact rb_lret rfl (KKx27).1.1 (KKx27).1.2 dX16_act_54 (KKx27).2
      · subst eo
        exact KKx27
    · skip
      refine rb_aload_n 0 rfl rfl (rb_isR_ref _) dX16_act_14 ?_
      obtain ⟨ci30, k31, v29, hfv29, hrv29, hv29, Kv29⟩ := ((Kx14).2 c15)
      refine rc_get hfv29 hrv29 dX16_act_15 ?_
      refine rb_aload_n 1 rfl rfl (rb_isR_ref _) dX16_act_18 ?_
      refine rb_bipush (v := (12 : Int32)) (by decide) dX16_act_19 ?_
      refine rb_lconst (v := (0 : Int64)) (by decide) dX16_act_21 ?_
      obtain ⟨q32, eq32, Kq32⟩ := Kv29
      subst eq32
      obtain ⟨d33, n34, Q35, h1v36, hdv36, hnv36, hov36, Kv36⟩ := Kq32
      refine rb_call st_X16_25_0 (rest := []) h1v36 rfl rfl (rc_rc rfl hov36) (Nat.le_of_ble_eq_true rfl) hdv36.1 hdv36.2 hnv36.1 hnv36.2 dX16_act_22 (fun o M37 hpv36 => ?_)
      obtain ⟨v36, eo, hv36, KKv36⟩ := Kv36 o M37 hpv36
      subst eo
      show rb_Bd κ mX16_act (n.1 + n34.1, n.2 + n34.2) M37 25 [some (.ref a0), some (.ref q1), some (.long a2), none] [v36]
      obtain ⟨q38, eq38, Kq38⟩ := KKv36
      subst eq38
      exact rb_athrow (by decide) (Kq38).1.1 (Kq38).1.2 dX16_act_25 (Kq38).2
theorem sgX17_init_0 {κ : rb_K} {n : Nat × Nat} {M : rb_H} {a0 : Nat} {a1 : Value} {a2 : Int32} {a3 : Int32} (ha1 : rb_isR a1) (K : (∃ (ci2 k3 : Nat) (fs1 : List Value), rb_FL "RoleLoom$Call" 3 ci2 k3 ∧ (∀ q : vw_C, rb_cl[ci2]? = some q → (q.2.1 k3).2.2.2 = false ∨ ("RoleLoom$Call" = (q.2.1 k3).1 ∧ "<init>" = "<init>")) ∧ narrow (rb_ty ci2 k3) a1 = a1 ∧ fits (rb_ty ci2 k3) a1 = true ∧ M.2 a0 = some (rb_O ci2 fs1) ∧ k3 < fs1.length ∧ (∃ (ci9 : Nat) (d4 : Nat) (n5 : Nat × Nat) (Q6 : Outcome → rb_H → Prop), rb_Ct κ.1 yX7_init wX7_init d4 n5 [.ref a0, a1, .int a2, .int a3] (rb_up M a0 (rb_O ci2 (fs1.set k3 a1))) Q6 ∧ rb_dp κ d4 ∧ rb_rom κ (n.1 + n5.1, n.2 + n5.2) ∧ rb_ob (rb_up M a0 (rb_O ci2 (fs1.set k3 a1))) a0 ci9 ∧ ∀ (o : Outcome) (M8 : rb_H), Q6 o M8 → (o = .returned none ∧ (rb_fin κ (n.1 + n5.1, n.2 + n5.2) ∧ κ.2.2.1 (.returned none) M8))))) : rb_Bd κ mX17_init n M 0 [some (.ref a0), some a1, some (.int a2), some (.int a3)] [] := by
  refine rb_aload_n 0 rfl rfl (rb_isR_ref _) dX17_init_0 ?_
  refine rb_aload_n 1 rfl rfl ha1 dX17_init_1 ?_
  obtain ⟨ci2, k3, fs1, hffs1, hgfs1, hnfs1, hmfs1, hMfs1, hlfs1, Kfs1⟩ := K
  refine rb_put hffs1 hgfs1 hnfs1 hmfs1 hMfs1 hlfs1 dX17_init_2 ?_
  refine rb_aload_n 0 rfl rfl (rb_isR_ref _) dX17_init_5 ?_
  refine rb_aload_n 1 rfl rfl ha1 dX17_init_6 ?_
  refine rb_iload_n 2 rfl rfl dX17_init_7 ?_
  refine rb_iload_n 3 rfl rfl dX17_init_8 ?_
  obtain ⟨ci9, d4, n5, Q6, h1v7, hdv7, hnv7, hov7, Kv7⟩ := Kfs1
  refine rb_call (st_X17_9 ci9) (rest := []) h1v7 rfl rfl (rc_rc rfl hov7) (Nat.le_of_ble_eq_true rfl) hdv7.1 hdv7.2 hnv7.1 hnv7.2 dX17_init_9 (fun o M8 hpv7 => ?_)
  obtain ⟨eo, KKv7⟩ := Kv7 o M8 hpv7
  subst eo
  show rb_Bd κ mX17_init (n.1 + n5.1, n.2 + n5.2) M8 12 [some (.ref a0), some a1, some (.int a2), some (.int a3)] []
  exact rb_vret rfl (KKv7).1.1 (KKv7).1.2 dX17_init_12 (KKv7).2
theorem sgX17_fits_0 {κ : rb_K} {n : Nat × Nat} {M : rb_H} {a0 : Nat} {a1 : Value} (ha1 : rb_isR a1) (K : (∃ (ci2 k3 : Nat) (x1 : Int32), rb_FL "RoleLoom$Call" 21 ci2 k3 ∧ rb_rd M a0 ci2 k3 (.int x1) ∧ (∃ (d4 : Nat) (n5 : Nat × Nat) (Q6 : Outcome → rb_H → Prop), rb_Ct κ.1 yX0_in wX0_in d4 n5 [.int x1, .int (0 : Int32), .int (11 : Int32)] M Q6 ∧ rb_dp κ d4 ∧ rb_rom κ (n.1 + n5.1, n.2 + n5.2) ∧ ∀ (o : Outcome) (M8 : rb_H), Q6 o M8 → (∃ (x7 : Int32), o = .returned (some (.int x7)) ∧ (narrow .boolean (.int x7) = .int x7 ∧ rb_fin κ (n.1 + n5.1, n.2 + n5.2) ∧ κ.2.2.1 (.returned (some (.int x7))) M8))))) : rb_Bd κ mX17_fits n M 0 [some (.ref a0), some a1] [] := by
  refine rb_aload_n 0 rfl rfl (rb_isR_ref _) dX17_fits_0 ?_
  obtain ⟨ci2, k3, x1, hfx1, hrx1, Kx1⟩ := K
  refine rc_get hfx1 hrx1 dX17_fits_1 ?_
  refine rb_iconst (v := (0 : Int32)) (by decide) dX17_fits_4 ?_
  refine rb_bipush (v := (11 : Int32)) (by decide) dX17_fits_5 ?_
  obtain ⟨d4, n5, Q6, h1x7, hdx7, hnx7, Kx7⟩ := Kx1
  refine rb_call st_X17_66 (rest := []) h1x7 rfl rfl mm_rn (Nat.le_of_ble_eq_true rfl) hdx7.1 hdx7.2 hnx7.1 hnx7.2 dX17_fits_7 (fun o M8 hpx7 => ?_)
  obtain ⟨x7, eo, KKx7⟩ := Kx7 o M8 hpx7
  subst eo
  show rb_Bd κ mX17_fits (n.1 + n5.1, n.2 + n5.2) M8 10 [some (.ref a0), some a1] [.int x7]
  exact rb_iret rfl (KKx7).1 (KKx7).2.1.1 (KKx7).2.1.2 dX17_fits_10 (KKx7).2.2
theorem sgX17_on_0 {κ : rb_K} {n : Nat × Nat} {M : rb_H} {a0 : Nat} {a1 : Value} {a2 : Value} {a3 : Int32} {a4 : Int64} (ha1 : rb_isR a1) (ha2 : rb_isR a2) (K : ((a2 = .null → (∃ (ci46 k47 : Nat) (v45 : Value), rb_FL "RoleLoom$Call" 3 ci46 k47 ∧ rb_rd M a0 ci46 k47 (v45) ∧ rb_isR v45 ∧ (∃ q48, v45 = .ref q48 ∧ (∃ (d49 : Nat) (n50 : Nat × Nat) (Q51 : Outcome → rb_H → Prop), rb_Ct κ.1 yX0_thrown wX0_thrown d49 n50 [.ref q48, a1, .int (12 : Int32), .long (0 : Int64)] M Q51 ∧ rb_dp κ d49 ∧ rb_rom κ (n.1 + n50.1, n.2 + n50.2) ∧ rb_ob M q48 0 ∧ ∀ (o : Outcome) (M53 : rb_H), Q51 o M53 → (∃ (v52 : Value), o = .returned (some v52) ∧ rb_isR v52 ∧ (∃ q54, v52 = .ref q54 ∧ (rb_fin κ (n.1 + n50.1, n.2 + n50.2) ∧ κ.2.2.1 (.threw q54) M53))))))) ∧ (∀ q1, a2 = .ref q1 → (∃ (v2 : Value), rb_rd M q1 29 1 (v2) ∧ rb_isR v2 ∧ (∃ q3, v2 = .ref q3 ∧ (∃ (v4 : Value), rb_rd M q3 27 2 (v4) ∧ rb_isR v4 ∧ (∃ q5, v4 = .ref q5 ∧ (∃ (d6 : Nat) (n7 : Nat × Nat) (Q8 : Outcome → rb_H → Prop), rb_Ct κ.1 yJ4_get wJ4_get d6 n7 [.ref q5, .int a3] M Q8 ∧ rb_dp κ d6 ∧ rb_rom κ (n.1 + n7.1, n.2 + n7.2) ∧ rb_ob M q5 7 ∧ ∀ (o : Outcome) (M10 : rb_H), Q8 o M10 → (∃ (v9 : Value), o = .returned (some v9) ∧ rb_isR v9 ∧ (∃ q11, v9 = .ref q11 ∧ (∃ ci12, rb_ob M10 q11 ci12 ∧ rb_CC ci12 "java/util/ArrayList" ∧ (∃ (d13 : Nat) (n14 : Nat × Nat) (Q15 : Outcome → rb_H → Prop), rb_Ct κ.1 yJ4_isEmpty wJ4_isEmpty d13 n14 [.ref q11] M10 Q15 ∧ rb_dp κ d13 ∧ rb_rom κ (n.1 + n7.1 + n14.1, n.2 + n7.2 + n14.2) ∧ rb_ob M10 q11 7 ∧ ∀ (o : Outcome) (M17 : rb_H), Q15 o M17 → (∃ (x16 : Int32), o = .returned (some (.int x16)) ∧ ((x16 = 0 → (∃ (ci20 k21 : Nat) (v19 : Value), rb_FL "RoleLoom$Call" 3 ci20 k21 ∧ rb_rd M17 a0 ci20 k21 (v19) ∧ rb_isR v19 ∧ (∃ (d22 : Nat) (n23 : Nat × Nat) (Q24 : Outcome → rb_H → Prop), rb_Ct κ.1 yJ4_size wJ4_size d22 n23 [.ref q11] M17 Q24 ∧ rb_dp κ d22 ∧ rb_rom κ (n.1 + n7.1 + n14.1 + n23.1, n.2 + n7.2 + n14.2 + n23.2) ∧ rb_ob M17 q11 7 ∧ ∀ (o : Outcome) (M26 : rb_H), Q24 o M26 → (∃ (x25 : Int32), o = .returned (some (.int x25)) ∧ (∃ q27, a1 = .ref q27 ∧ (∃ (x28 : Int32), rb_rd M26 q27 3 7 (.int x28) ∧ (∃ q29, v19 = .ref q29 ∧ (∃ (d30 : Nat) (n31 : Nat × Nat) (Q32 : Outcome → rb_H → Prop), rb_Ct κ.1 yX0_run wX0_run d30 n31 [.ref q29, .ref q1, .ref q11, .int (x25 - (1 : Int32)), .long a4, .int (x28 + (1 : Int32))] M26 Q32 ∧ rb_dp κ d30 ∧ rb_rom κ (n.1 + n7.1 + n14.1 + n23.1 + n31.1, n.2 + n7.2 + n14.2 + n23.2 + n31.2) ∧ rb_ob M26 q29 0 ∧ ∀ (o : Outcome) (M34 : rb_H), Q32 o M34 → ((∃ (x33 : Int64), o = .returned (some (.long x33)) ∧ (rb_fin κ (n.1 + n7.1 + n14.1 + n23.1 + n31.1, n.2 + n7.2 + n14.2 + n23.2 + n31.2) ∧ κ.2.2.1 (.returned (some (.long x33))) M34)) ∨ (∃ x33t, o = .threw x33t ∧ rb_Th κ mX17_on (n.1 + n7.1 + n14.1 + n23.1 + n31.1, n.2 + n7.2 + n14.2 + n23.2 + n31.2) M34 71 [some (.ref a0), some (.ref q27), some (.ref q1), some (.int a3), some (.long a4), none, some (.ref q11)] x33t)))))))))) ∧ (¬ x16 = 0 → (∃ (ci36 k37 : Nat) (v35 : Value), rb_FL "RoleLoom$Call" 3 ci36 k37 ∧ rb_rd M17 a0 ci36 k37 (v35) ∧ rb_isR v35 ∧ (∃ q38, v35 = .ref q38 ∧ (∃ (d39 : Nat) (n40 : Nat × Nat) (Q41 : Outcome → rb_H → Prop), rb_Ct κ.1 yX0_thrown wX0_thrown d39 n40 [.ref q38, a1, .int (12 : Int32), .long (0 : Int64)] M17 Q41 ∧ rb_dp κ d39 ∧ rb_rom κ (n.1 + n7.1 + n14.1 + n40.1, n.2 + n7.2 + n14.2 + n40.2) ∧ rb_ob M17 q38 0 ∧ ∀ (o : Outcome) (M43 : rb_H), Q41 o M43 → (∃ (v42 : Value), o = .returned (some v42) ∧ rb_isR v42 ∧ (∃ q44, v42 = .ref q44 ∧ (rb_fin κ (n.1 + n7.1 + n14.1 + n40.1, n.2 + n7.2 + n14.2 + n40.2) ∧ κ.2.2.1 (.threw q44) M43))))))))))))))))))))) : rb_Bd κ mX17_on n M 0 [some (.ref a0), some a1, some a2, some (.int a3), some (.long a4), none, none] [] := by
  refine rb_aload_n 2 rfl rfl ha2 dX17_on_0 ?_
  refine rb_ifnonnull ha2 8 (by decide) dX17_on_1 (fun q1 e => ?_) (fun e => ?_)
  · subst e
    refine rb_aload_n 2 rfl rfl (rb_isR_ref _) dX17_on_8 ?_
    obtain ⟨v2, hrv2, hv2, Kv2⟩ := ((K).2 q1 rfl)
    refine rc_get fl_X17_29_29 hrv2 dX17_on_9 ?_
    obtain ⟨q3, eq3, Kq3⟩ := Kv2
    subst eq3
    obtain ⟨v4, hrv4, hv4, Kv4⟩ := Kq3
    refine rc_get fl_X17_35_27 hrv4 dX17_on_12 ?_
    refine rb_iload_n 3 rfl rfl dX17_on_15 ?_
    obtain ⟨q5, eq5, Kq5⟩ := Kv4
    subst eq5
    obtain ⟨d6, n7, Q8, h1v9, hdv9, hnv9, hov9, Kv9⟩ := Kq5
    refine rb_call st_X17_41_7 (rest := []) h1v9 rfl rfl (rc_rc rfl hov9) (Nat.le_of_ble_eq_true rfl) hdv9.1 hdv9.2 hnv9.1 hnv9.2 dX17_on_16 (fun o M10 hpv9 => ?_)
    obtain ⟨v9, eo, hv9, KKv9⟩ := Kv9 o M10 hpv9
    subst eo
    show rb_Bd κ mX17_on (n.1 + n7.1, n.2 + n7.2) M10 19 [some (.ref a0), some a1, some (.ref q1), some (.int a3), some (.long a4), none, none] [v9]
    obtain ⟨q11, eq11, Kq11⟩ := KKv9
    subst eq11
    obtain ⟨ci12, ⟨fsci12, hoci12⟩, hcci12, Kci12⟩ := Kq11
    refine rb_cast q1331 hoci12 hcci12 dX17_on_19 ?_
    refine rb_astore (ls' := [some (.ref a0), some a1, some (.ref q1), some (.int a3), some (.long a4), none, some (.ref q11)]) (by decide) rfl rfl (rb_isR_ref _) dX17_on_22 ?_
    refine rb_aload rfl (rb_isR_ref _) dX17_on_24 ?_
    refine rb_ifnull (rb_isR_ref _) 37 (by decide) dX17_on_26 (fun e => by cases e) (fun a e => ?_)
    clear e a
    refine rb_aload rfl (rb_isR_ref _) dX17_on_29 ?_
    obtain ⟨d13, n14, Q15, h1x16, hdx16, hnx16, hox16, Kx16⟩ := Kci12
    refine rb_call st_X17_47_7 (rest := []) h1x16 rfl rfl (rc_rc rfl hox16) (Nat.le_of_ble_eq_true rfl) hdx16.1 hdx16.2 hnx16.1 hnx16.2 dX17_on_31 (fun o M17 hpx16 => ?_)
    obtain ⟨x16, eo, KKx16⟩ := Kx16 o M17 hpx16
    subst eo
    show rb_Bd κ mX17_on (n.1 + n7.1 + n14.1, n.2 + n7.2 + n14.2) M17 34 [some (.ref a0), some a1, some (.ref q1), some (.int a3), some (.long a4), none, some (.ref q11)] [.int x16]
    refine rb_ifeq 49 (by decide) dX17_on_34 (fun c18 => ?_) (fun c18 => ?_)
    · skip
      refine rb_aload_n 0 rfl rfl (rb_isR_ref _) dX17_on_49 ?_
      obtain ⟨ci20, k21, v19, hfv19, hrv19, hv19, Kv19⟩ := ((KKx16).1 c18)
      refine rc_get hfv19 hrv19 dX17_on_50 ?_
      refine rb_aload_n 2 rfl rfl (rb_isR_ref _) dX17_on_53 ?_
      refine rb_aload rfl (rb_isR_ref _) dX17_on_54 ?_
      refine rb_aload rfl (rb_isR_ref _) dX17_on_56 ?_
      obtain ⟨d22, n23, Q24, h1x25, hdx25, hnx25, hox25, Kx25⟩ := Kv19
      refine rb_call st_X17_55_7 (rest := [.ref q11, .ref q1, v19]) h1x25 rfl rfl (rc_rc rfl hox25) (by simp [rb_isR_cat hv19, rb_cR, rb_cI, rb_cJ, rb_cN]) hdx25.1 hdx25.2 hnx25.1 hnx25.2 dX17_on_58 (fun o M26 hpx25 => ?_)
      obtain ⟨x25, eo, KKx25⟩ := Kx25 o M26 hpx25
      subst eo
      show rb_Bd κ mX17_on (n.1 + n7.1 + n14.1 + n23.1, n.2 + n7.2 + n14.2 + n23.2) M26 61 [some (.ref a0), some a1, some (.ref q1), some (.int a3), some (.long a4), none, some (.ref q11)] [.int x25, .ref q11, .ref q1, v19]
      refine rb_iconst (v := (1 : Int32)) (by decide) dX17_on_61 ?_
      refine rb_isub (z := (x25 - (1 : Int32))) rfl dX17_on_62 ?_
      refine rb_lload rfl dX17_on_63 ?_
      refine rb_aload_n 1 rfl rfl ha1 dX17_on_65 ?_
      obtain ⟨q27, eq27, Kq27⟩ := KKx25
      subst eq27
      obtain ⟨x28, hrx28, Kx28⟩ := Kq27
      refine rc_get fl_X17_59_3 hrx28 dX17_on_66 ?_
      refine rb_iconst (v := (1 : Int32)) (by decide) dX17_on_69 ?_
      refine rb_iadd (z := (x28 + (1 : Int32))) rfl dX17_on_70 ?_
      obtain ⟨q29, eq29, Kq29⟩ := Kx28
      subst eq29
      obtain ⟨d30, n31, Q32, h1x33, hdx33, hnx33, hox33, Kx33⟩ := Kq29
      refine rb_call st_X17_62_0 (rest := []) h1x33 rfl rfl (rc_rc rfl hox33) (Nat.le_of_ble_eq_true rfl) hdx33.1 hdx33.2 hnx33.1 hnx33.2 dX17_on_71 (fun o M34 hpx33 => ?_)
      rcases Kx33 o M34 hpx33 with ⟨x33, eo, KKx33⟩ | ⟨x33t, eo, KKx33⟩
      · subst eo
        show rb_Bd κ mX17_on (n.1 + n7.1 + n14.1 + n23.1 + n31.1, n.2 + n7.2 + n14.2 + n23.2 + n31.2) M34 74 [some (.ref a0), some (.ref q27), some (.ref q1), some (.int a3), some (.long a4), none, some (.ref q11)] [.long x33]
        exact rb_lret rfl (KKx33).1.1 (KKx33).1.2 dX17_on_74 (KKx33).2
      · subst eo
        exact KKx33
    · skip
      refine rb_aload_n 0 rfl rfl (rb_isR_ref _) dX17_on_37 ?_
      obtain ⟨ci36, k37, v35, hfv35, hrv35, hv35, Kv35⟩ := ((KKx16).2 c18)
      refine rc_get hfv35 hrv35 dX17_on_38 ?_
      refine rb_aload_n 1 rfl rfl ha1 dX17_on_41 ?_
      refine rb_bipush (v := (12 : Int32)) (by decide) dX17_on_42 ?_
      refine rb_lconst (v := (0 : Int64)) (by decide) dX17_on_44 ?_
      obtain ⟨q38, eq38, Kq38⟩ := Kv35
      subst eq38
      obtain ⟨d39, n40, Q41, h1v42, hdv42, hnv42, hov42, Kv42⟩ := Kq38
      refine rb_call st_X17_51_0 (rest := []) h1v42 rfl rfl (rc_rc rfl hov42) (Nat.le_of_ble_eq_true rfl) hdv42.1 hdv42.2 hnv42.1 hnv42.2 dX17_on_45 (fun o M43 hpv42 => ?_)
      obtain ⟨v42, eo, hv42, KKv42⟩ := Kv42 o M43 hpv42
      subst eo
      show rb_Bd κ mX17_on (n.1 + n7.1 + n14.1 + n40.1, n.2 + n7.2 + n14.2 + n40.2) M43 48 [some (.ref a0), some a1, some (.ref q1), some (.int a3), some (.long a4), none, some (.ref q11)] [v42]
      obtain ⟨q44, eq44, Kq44⟩ := KKv42
      subst eq44
      exact rb_athrow (by decide) (Kq44).1.1 (Kq44).1.2 dX17_on_48 (Kq44).2
  · subst e
    refine rb_null dX17_on_4 ?_
    refine rb_goto 22 (by decide) dX17_on_5 ?_
    refine rb_astore (ls' := [some (.ref a0), some a1, some (.null), some (.int a3), some (.long a4), none, some (.null)]) (by decide) rfl rfl rb_isR_null dX17_on_22 ?_
    refine rb_aload rfl rb_isR_null dX17_on_24 ?_
    refine rb_ifnull rb_isR_null 37 (by decide) dX17_on_26 (fun e => ?_) (fun a e => by cases e)
    clear e
    refine rb_aload_n 0 rfl rfl (rb_isR_ref _) dX17_on_37 ?_
    obtain ⟨ci46, k47, v45, hfv45, hrv45, hv45, Kv45⟩ := ((K).1 rfl)
    refine rc_get hfv45 hrv45 dX17_on_38 ?_
    refine rb_aload_n 1 rfl rfl ha1 dX17_on_41 ?_
    refine rb_bipush (v := (12 : Int32)) (by decide) dX17_on_42 ?_
    refine rb_lconst (v := (0 : Int64)) (by decide) dX17_on_44 ?_
    obtain ⟨q48, eq48, Kq48⟩ := Kv45
    subst eq48
    obtain ⟨d49, n50, Q51, h1v52, hdv52, hnv52, hov52, Kv52⟩ := Kq48
    refine rb_call st_X17_51_0 (rest := []) h1v52 rfl rfl (rc_rc rfl hov52) (Nat.le_of_ble_eq_true rfl) hdv52.1 hdv52.2 hnv52.1 hnv52.2 dX17_on_45 (fun o M53 hpv52 => ?_)
    obtain ⟨v52, eo, hv52, KKv52⟩ := Kv52 o M53 hpv52
    subst eo
    show rb_Bd κ mX17_on (n.1 + n50.1, n.2 + n50.2) M53 48 [some (.ref a0), some a1, some (.null), some (.int a3), some (.long a4), none, some (.null)] [v52]
    obtain ⟨q54, eq54, Kq54⟩ := KKv52
    subst eq54
    exact rb_athrow (by decide) (Kq54).1.1 (Kq54).1.2 dX17_on_48 (Kq54).2
theorem sgX17_act_0 {κ : rb_K} {n : Nat × Nat} {M : rb_H} {a0 : Nat} {a1 : Value} {a2 : Int64} (ha1 : rb_isR a1) (K : (∃ q1, a1 = .ref q1 ∧ (∃ (v2 : Value), rb_rd M q1 3 0 (v2) ∧ rb_isR v2 ∧ (∃ (ci4 k5 : Nat) (x3 : Int32), rb_FL "RoleLoom$Call" 21 ci4 k5 ∧ rb_rd M a0 ci4 k5 (.int x3) ∧ (∃ (ci11 : Nat) (y12 : MethodName) (w13 : Cond) (d6 : Nat) (n7 : Nat × Nat) (Q8 : Outcome → rb_H → Prop), rb_Go "RoleLoom$Call" (.invokevirtual 25) 3 y12 w13 (some ci11) 5 ∧ rb_Ct κ.1 y12 w13 d6 n7 [.ref a0, .ref q1, v2, .int x3, .long a2] M Q8 ∧ rb_dp κ d6 ∧ rb_rom κ (n.1 + n7.1, n.2 + n7.2) ∧ rb_ob M a0 ci11 ∧ ∀ (o : Outcome) (M10 : rb_H), Q8 o M10 → ((∃ (x9 : Int64), o = .returned (some (.long x9)) ∧ (rb_fin κ (n.1 + n7.1, n.2 + n7.2) ∧ κ.2.2.1 (.returned (some (.long x9))) M10)) ∨ (∃ x9t, o = .threw x9t ∧ rb_Th κ mX17_act (n.1 + n7.1, n.2 + n7.2) M10 11 [some (.ref a0), some (.ref q1), some (.long a2), none] x9t))))))) : rb_Bd κ mX17_act n M 0 [some (.ref a0), some a1, some (.long a2), none] [] := by
  refine rb_aload_n 0 rfl rfl (rb_isR_ref _) dX17_act_0 ?_
  refine rb_aload_n 1 rfl rfl ha1 dX17_act_1 ?_
  refine rb_aload_n 1 rfl rfl ha1 dX17_act_2 ?_
  obtain ⟨q1, eq1, Kq1⟩ := K
  subst eq1
  obtain ⟨v2, hrv2, hv2, Kv2⟩ := Kq1
  refine rc_get fl_X17_15_3 hrv2 dX17_act_3 ?_
  refine rb_aload_n 0 rfl rfl (rb_isR_ref _) dX17_act_6 ?_
  obtain ⟨ci4, k5, x3, hfx3, hrx3, Kx3⟩ := Kv2
  refine rc_get hfx3 hrx3 dX17_act_7 ?_
  refine rb_lload_n 2 rfl rfl dX17_act_10 ?_
  obtain ⟨ci11, y12, w13, d6, n7, Q8, hgx9, h1x9, hdx9, hnx9, hox9, Kx9⟩ := Kx3
  refine rb_call hgx9 (rest := []) h1x9 rfl rfl (rc_rc rfl hox9) (Nat.le_of_ble_eq_true rfl) hdx9.1 hdx9.2 hnx9.1 hnx9.2 dX17_act_11 (fun o M10 hpx9 => ?_)
  rcases Kx9 o M10 hpx9 with ⟨x9, eo, KKx9⟩ | ⟨x9t, eo, KKx9⟩
  · subst eo
    show rb_Bd κ mX17_act (n.1 + n7.1, n.2 + n7.2) M10 14 [some (.ref a0), some (.ref q1), some (.long a2), none] [.long x9]
    exact rb_lret rfl (KKx9).1.1 (KKx9).1.2 dX17_act_14 (KKx9).2
  · subst eo
    exact KKx9
theorem sgX18_init_0 {κ : rb_K} {n : Nat × Nat} {M : rb_H} {a0 : Nat} {a1 : Value} {a2 : Int32} (ha1 : rb_isR a1) (K : (∃ (ci2 k3 : Nat) (fs1 : List Value), rb_FL "RoleLoom$Alias" 3 ci2 k3 ∧ (∀ q : vw_C, rb_cl[ci2]? = some q → (q.2.1 k3).2.2.2 = false ∨ ("RoleLoom$Alias" = (q.2.1 k3).1 ∧ "<init>" = "<init>")) ∧ narrow (rb_ty ci2 k3) a1 = a1 ∧ fits (rb_ty ci2 k3) a1 = true ∧ M.2 a0 = some (rb_O ci2 fs1) ∧ k3 < fs1.length ∧ (∃ (ci9 : Nat) (d4 : Nat) (n5 : Nat × Nat) (Q6 : Outcome → rb_H → Prop), rb_Ct κ.1 yX17_init wX17_init d4 n5 [.ref a0, a1, .int a2, .int (0 : Int32)] (rb_up M a0 (rb_O ci2 (fs1.set k3 a1))) Q6 ∧ rb_dp κ d4 ∧ rb_rom κ (n.1 + n5.1, n.2 + n5.2) ∧ rb_ob (rb_up M a0 (rb_O ci2 (fs1.set k3 a1))) a0 ci9 ∧ ∀ (o : Outcome) (M8 : rb_H), Q6 o M8 → (o = .returned none ∧ (rb_fin κ (n.1 + n5.1, n.2 + n5.2) ∧ κ.2.2.1 (.returned none) M8))))) : rb_Bd κ mX18_init n M 0 [some (.ref a0), some a1, some (.int a2)] [] := by
  refine rb_aload_n 0 rfl rfl (rb_isR_ref _) dX18_init_0 ?_
  refine rb_aload_n 1 rfl rfl ha1 dX18_init_1 ?_
  obtain ⟨ci2, k3, fs1, hffs1, hgfs1, hnfs1, hmfs1, hMfs1, hlfs1, Kfs1⟩ := K
  refine rb_put hffs1 hgfs1 hnfs1 hmfs1 hMfs1 hlfs1 dX18_init_2 ?_
  refine rb_aload_n 0 rfl rfl (rb_isR_ref _) dX18_init_5 ?_
  refine rb_aload_n 1 rfl rfl ha1 dX18_init_6 ?_
  refine rb_iload_n 2 rfl rfl dX18_init_7 ?_
  refine rb_iconst (v := (0 : Int32)) (by decide) dX18_init_8 ?_
  obtain ⟨ci9, d4, n5, Q6, h1v7, hdv7, hnv7, hov7, Kv7⟩ := Kfs1
  refine rb_call (st_X18_9 ci9) (rest := []) h1v7 rfl rfl (rc_rc rfl hov7) (Nat.le_of_ble_eq_true rfl) hdv7.1 hdv7.2 hnv7.1 hnv7.2 dX18_init_9 (fun o M8 hpv7 => ?_)
  obtain ⟨eo, KKv7⟩ := Kv7 o M8 hpv7
  subst eo
  show rb_Bd κ mX18_init (n.1 + n5.1, n.2 + n5.2) M8 12 [some (.ref a0), some a1, some (.int a2)] []
  exact rb_vret rfl (KKv7).1.1 (KKv7).1.2 dX18_init_12 (KKv7).2
theorem sgX18_fits_0 {κ : rb_K} {n : Nat × Nat} {M : rb_H} {a0 : Nat} {a1 : Value} (ha1 : rb_isR a1) (K : (∃ (ci2 k3 : Nat) (x1 : Int32), rb_FL "RoleLoom$Alias" 33 ci2 k3 ∧ rb_rd M a0 ci2 k3 (.int x1) ∧ (∃ (d4 : Nat) (n5 : Nat × Nat) (Q6 : Outcome → rb_H → Prop), rb_Ct κ.1 yX0_in wX0_in d4 n5 [.int x1, .int (0 : Int32), .int (3 : Int32)] M Q6 ∧ rb_dp κ d4 ∧ rb_rom κ (n.1 + n5.1, n.2 + n5.2) ∧ ∀ (o : Outcome) (M8 : rb_H), Q6 o M8 → (∃ (x7 : Int32), o = .returned (some (.int x7)) ∧ (narrow .boolean (.int x7) = .int x7 ∧ rb_fin κ (n.1 + n5.1, n.2 + n5.2) ∧ κ.2.2.1 (.returned (some (.int x7))) M8))))) : rb_Bd κ mX18_fits n M 0 [some (.ref a0), some a1] [] := by
  refine rb_aload_n 0 rfl rfl (rb_isR_ref _) dX18_fits_0 ?_
  obtain ⟨ci2, k3, x1, hfx1, hrx1, Kx1⟩ := K
  refine rc_get hfx1 hrx1 dX18_fits_1 ?_
  refine rb_iconst (v := (0 : Int32)) (by decide) dX18_fits_4 ?_
  refine rb_iconst (v := (3 : Int32)) (by decide) dX18_fits_5 ?_
  obtain ⟨d4, n5, Q6, h1x7, hdx7, hnx7, Kx7⟩ := Kx1
  refine rb_call st_X18_67 (rest := []) h1x7 rfl rfl mm_rn (Nat.le_of_ble_eq_true rfl) hdx7.1 hdx7.2 hnx7.1 hnx7.2 dX18_fits_6 (fun o M8 hpx7 => ?_)
  obtain ⟨x7, eo, KKx7⟩ := Kx7 o M8 hpx7
  subst eo
  show rb_Bd κ mX18_fits (n.1 + n5.1, n.2 + n5.2) M8 9 [some (.ref a0), some a1] [.int x7]
  exact rb_iret rfl (KKx7).1 (KKx7).2.1.1 (KKx7).2.1.2 dX18_fits_9 (KKx7).2.2
theorem sgX18_act_0 {κ : rb_K} {n : Nat × Nat} {M : rb_H} {a0 : Nat} {a1 : Value} {a2 : Int64} (ha1 : rb_isR a1) (K : (∃ q1, a1 = .ref q1 ∧ (∃ (v2 : Value), rb_rd M q1 3 0 (v2) ∧ rb_isR v2 ∧ ((v2 = .null → (∃ (ci59 k60 : Nat) (v58 : Value), rb_FL "RoleLoom$Alias" 3 ci59 k60 ∧ rb_rd M a0 ci59 k60 (v58) ∧ rb_isR v58 ∧ (∃ q61, v58 = .ref q61 ∧ (∃ (d62 : Nat) (n63 : Nat × Nat) (Q64 : Outcome → rb_H → Prop), rb_Ct κ.1 yX0_thrown wX0_thrown d62 n63 [.ref q61, .ref q1, .int (12 : Int32), .long (0 : Int64)] M Q64 ∧ rb_dp κ d62 ∧ rb_rom κ (n.1 + n63.1, n.2 + n63.2) ∧ rb_ob M q61 0 ∧ ∀ (o : Outcome) (M66 : rb_H), Q64 o M66 → (∃ (v65 : Value), o = .returned (some v65) ∧ rb_isR v65 ∧ (∃ q67, v65 = .ref q67 ∧ (rb_fin κ (n.1 + n63.1, n.2 + n63.2) ∧ κ.2.2.1 (.threw q67) M66))))))) ∧ (∀ q3, v2 = .ref q3 → (∃ (v4 : Value), rb_rd M q1 3 0 (v4) ∧ rb_isR v4 ∧ (∃ q5, v4 = .ref q5 ∧ (∃ (v6 : Value), rb_rd M q5 29 1 (v6) ∧ rb_isR v6 ∧ (∃ q7, v6 = .ref q7 ∧ (∃ (v8 : Value), rb_rd M q7 27 3 (v8) ∧ rb_isR v8 ∧ (∃ (ci10 k11 : Nat) (x9 : Int32), rb_FL "RoleLoom$Alias" 33 ci10 k11 ∧ rb_rd M a0 ci10 k11 (.int x9) ∧ (∃ q12, v8 = .ref q12 ∧ (∃ (t16 N13 : Nat) (f14 : Nat → Option Nat) (v15 : Value), M.2 q12 = some (rb_R t16 N13 f14) ∧ (3 ≤ t16 ∧ t16 ≤ 6) ∧ vp_in x9 N13 ∧ va_rf (f14 (x9).toNatClampNeg) = v15 ∧ ((v15 = .null → (∃ (ci49 k50 : Nat) (v48 : Value), rb_FL "RoleLoom$Alias" 3 ci49 k50 ∧ rb_rd M a0 ci49 k50 (v48) ∧ rb_isR v48 ∧ (∃ q51, v48 = .ref q51 ∧ (∃ (d52 : Nat) (n53 : Nat × Nat) (Q54 : Outcome → rb_H → Prop), rb_Ct κ.1 yX0_thrown wX0_thrown d52 n53 [.ref q51, .ref q1, .int (12 : Int32), .long (0 : Int64)] M Q54 ∧ rb_dp κ d52 ∧ rb_rom κ (n.1 + n53.1, n.2 + n53.2) ∧ rb_ob M q51 0 ∧ ∀ (o : Outcome) (M56 : rb_H), Q54 o M56 → (∃ (v55 : Value), o = .returned (some v55) ∧ rb_isR v55 ∧ (∃ q57, v55 = .ref q57 ∧ (rb_fin κ (n.1 + n53.1, n.2 + n53.2) ∧ κ.2.2.1 (.threw q57) M56))))))) ∧ (∀ q17, v15 = .ref q17 → (∃ (v18 : Value), rb_rd M q1 3 0 (v18) ∧ rb_isR v18 ∧ (∃ q19, v18 = .ref q19 ∧ (∃ (v20 : Value), rb_rd M q19 29 1 (v20) ∧ rb_isR v20 ∧ (∃ q21, v20 = .ref q21 ∧ (∃ (v22 : Value), rb_rd M q21 27 2 (v22) ∧ rb_isR v22 ∧ (∃ (x23 : Int32), rb_rd M q17 6 2 (.int x23) ∧ (∃ q24, v22 = .ref q24 ∧ (∃ (d25 : Nat) (n26 : Nat × Nat) (Q27 : Outcome → rb_H → Prop), rb_Ct κ.1 yJ4_get wJ4_get d25 n26 [.ref q24, .int x23] M Q27 ∧ rb_dp κ d25 ∧ rb_rom κ (n.1 + n26.1, n.2 + n26.2) ∧ rb_ob M q24 7 ∧ ∀ (o : Outcome) (M29 : rb_H), Q27 o M29 → (∃ (v28 : Value), o = .returned (some v28) ∧ rb_isR v28 ∧ (∃ q30, v28 = .ref q30 ∧ (∃ ci31, rb_ob M29 q30 ci31 ∧ rb_CC ci31 "java/util/ArrayList" ∧ (∃ (ci33 k34 : Nat) (v32 : Value), rb_FL "RoleLoom$Alias" 3 ci33 k34 ∧ rb_rd M29 a0 ci33 k34 (v32) ∧ rb_isR v32 ∧ (∃ (v35 : Value), rb_rd M29 q1 3 0 (v35) ∧ rb_isR v35 ∧ (∃ (d36 : Nat) (n37 : Nat × Nat) (Q38 : Outcome → rb_H → Prop), rb_Ct κ.1 yJ4_indexOf wJ4_indexOf d36 n37 [.ref q30, .ref q17] M29 Q38 ∧ rb_dp κ d36 ∧ rb_rom κ (n.1 + n26.1 + n37.1, n.2 + n26.2 + n37.2) ∧ rb_ob M29 q30 7 ∧ ∀ (o : Outcome) (M40 : rb_H), Q38 o M40 → (∃ (x39 : Int32), o = .returned (some (.int x39)) ∧ (∃ (x41 : Int32), rb_rd M40 q1 3 7 (.int x41) ∧ (∃ q42, v32 = .ref q42 ∧ (∃ (d43 : Nat) (n44 : Nat × Nat) (Q45 : Outcome → rb_H → Prop), rb_Ct κ.1 yX0_run wX0_run d43 n44 [.ref q42, v35, .ref q30, .int x39, .long a2, .int (x41 + (1 : Int32))] M40 Q45 ∧ rb_dp κ d43 ∧ rb_rom κ (n.1 + n26.1 + n37.1 + n44.1, n.2 + n26.2 + n37.2 + n44.2) ∧ rb_ob M40 q42 0 ∧ ∀ (o : Outcome) (M47 : rb_H), Q45 o M47 → ((∃ (x46 : Int64), o = .returned (some (.long x46)) ∧ (rb_fin κ (n.1 + n26.1 + n37.1 + n44.1, n.2 + n26.2 + n37.2 + n44.2) ∧ κ.2.2.1 (.returned (some (.long x46))) M47)) ∨ (∃ x46t, o = .threw x46t ∧ rb_Th κ mX18_act (n.1 + n26.1 + n37.1 + n44.1, n.2 + n26.2 + n37.2 + n44.2) M47 92 [some (.ref a0), some (.ref q1), some (.long a2), none, some (.ref q17), some (.ref q30)] x46t))))))))))))))))))))))))))))))))))) : rb_Bd κ mX18_act n M 0 [some (.ref a0), some a1, some (.long a2), none, none, none] [] := by
  refine rb_aload_n 1 rfl rfl ha1 dX18_act_0 ?_
  obtain ⟨q1, eq1, Kq1⟩ := K
  subst eq1
  obtain ⟨v2, hrv2, hv2, Kv2⟩ := Kq1
  refine rc_get fl_X18_15_3 hrv2 dX18_act_1 ?_
  refine rb_ifnonnull hv2 11 (by decide) dX18_act_4 (fun q3 e => ?_) (fun e => ?_)
  · subst e
    refine rb_aload_n 1 rfl rfl (rb_isR_ref _) dX18_act_11 ?_
    obtain ⟨v4, hrv4, hv4, Kv4⟩ := ((Kv2).2 q3 rfl)
    refine rc_get fl_X18_15_3 hrv4 dX18_act_12 ?_
    obtain ⟨q5, eq5, Kq5⟩ := Kv4
    subst eq5
    obtain ⟨v6, hrv6, hv6, Kv6⟩ := Kq5
    refine rc_get fl_X18_21_29 hrv6 dX18_act_15 ?_
    obtain ⟨q7, eq7, Kq7⟩ := Kv6
    subst eq7
    obtain ⟨v8, hrv8, hv8, Kv8⟩ := Kq7
    refine rc_get fl_X18_27_27 hrv8 dX18_act_18 ?_
    refine rb_aload_n 0 rfl rfl (rb_isR_ref _) dX18_act_21 ?_
    obtain ⟨ci10, k11, x9, hfx9, hrx9, Kx9⟩ := Kv8
    refine rc_get hfx9 hrx9 dX18_act_22 ?_
    obtain ⟨q12, eq12, Kq12⟩ := Kx9
    subst eq12
    obtain ⟨t16, N13, f14, v15, hMv15, htv15, hiv15, hxv15, Kv15⟩ := Kq12
    have hv15 := rc_isRf hxv15
    refine rc_aald hMv15 htv15 hiv15 hxv15 dX18_act_25 ?_
    refine rb_astore (ls' := [some (.ref a0), some (.ref q1), some (.long a2), none, some v15, none]) (by decide) rfl rfl hv15 dX18_act_26 ?_
    refine rb_aload rfl hv15 dX18_act_28 ?_
    refine rb_ifnonnull hv15 45 (by decide) dX18_act_30 (fun q17 e => ?_) (fun e => ?_)
    · subst e
      refine rb_aload_n 1 rfl rfl (rb_isR_ref _) dX18_act_45 ?_
      obtain ⟨v18, hrv18, hv18, Kv18⟩ := ((Kv15).2 q17 rfl)
      refine rc_get fl_X18_15_3 hrv18 dX18_act_46 ?_
      obtain ⟨q19, eq19, Kq19⟩ := Kv18
      subst eq19
      obtain ⟨v20, hrv20, hv20, Kv20⟩ := Kq19
      refine rc_get fl_X18_21_29 hrv20 dX18_act_49 ?_
      obtain ⟨q21, eq21, Kq21⟩ := Kv20
      subst eq21
      obtain ⟨v22, hrv22, hv22, Kv22⟩ := Kq21
      refine rc_get fl_X18_41_27 hrv22 dX18_act_52 ?_
      refine rb_aload rfl (rb_isR_ref _) dX18_act_55 ?_
      obtain ⟨x23, hrx23, Kx23⟩ := Kv22
      refine rc_get fl_X18_45_6 hrx23 dX18_act_57 ?_
      obtain ⟨q24, eq24, Kq24⟩ := Kx23
      subst eq24
      obtain ⟨d25, n26, Q27, h1v28, hdv28, hnv28, hov28, Kv28⟩ := Kq24
      refine rb_call st_X18_50_7 (rest := []) h1v28 rfl rfl (rc_rc rfl hov28) (Nat.le_of_ble_eq_true rfl) hdv28.1 hdv28.2 hnv28.1 hnv28.2 dX18_act_60 (fun o M29 hpv28 => ?_)
      obtain ⟨v28, eo, hv28, KKv28⟩ := Kv28 o M29 hpv28
      subst eo
      show rb_Bd κ mX18_act (n.1 + n26.1, n.2 + n26.2) M29 63 [some (.ref a0), some (.ref q1), some (.long a2), none, some (.ref q17), none] [v28]
      obtain ⟨q30, eq30, Kq30⟩ := KKv28
      subst eq30
      obtain ⟨ci31, ⟨fsci31, hoci31⟩, hcci31, Kci31⟩ := Kq30
      refine rb_cast q1302 hoci31 hcci31 dX18_act_63 ?_
      refine rb_astore (ls' := [some (.ref a0), some (.ref q1), some (.long a2), none, some (.ref q17), some (.ref q30)]) (by decide) rfl rfl (rb_isR_ref _) dX18_act_66 ?_
      refine rb_aload_n 0 rfl rfl (rb_isR_ref _) dX18_act_68 ?_
      obtain ⟨ci33, k34, v32, hfv32, hrv32, hv32, Kv32⟩ := Kci31
      refine rc_get hfv32 hrv32 dX18_act_69 ?_
      refine rb_aload_n 1 rfl rfl (rb_isR_ref _) dX18_act_72 ?_
      obtain ⟨v35, hrv35, hv35, Kv35⟩ := Kv32
      refine rc_get fl_X18_15_3 hrv35 dX18_act_73 ?_
      refine rb_aload rfl (rb_isR_ref _) dX18_act_76 ?_
      refine rb_aload rfl (rb_isR_ref _) dX18_act_78 ?_
      refine rb_aload rfl (rb_isR_ref _) dX18_act_80 ?_
      obtain ⟨d36, n37, Q38, h1x39, hdx39, hnx39, hox39, Kx39⟩ := Kv35
      refine rb_call st_X18_56_7 (rest := [.ref q30, v35, v32]) h1x39 rfl rfl (rc_rc rfl hox39) (by simp [rb_isR_cat hv35, rb_isR_cat hv32, rb_cR, rb_cI, rb_cJ, rb_cN]) hdx39.1 hdx39.2 hnx39.1 hnx39.2 dX18_act_82 (fun o M40 hpx39 => ?_)
      obtain ⟨x39, eo, KKx39⟩ := Kx39 o M40 hpx39
      subst eo
      show rb_Bd κ mX18_act (n.1 + n26.1 + n37.1, n.2 + n26.2 + n37.2) M40 85 [some (.ref a0), some (.ref q1), some (.long a2), none, some (.ref q17), some (.ref q30)] [.int x39, .ref q30, v35, v32]
      refine rb_lload_n 2 rfl rfl dX18_act_85 ?_
      refine rb_aload_n 1 rfl rfl (rb_isR_ref _) dX18_act_86 ?_
      obtain ⟨x41, hrx41, Kx41⟩ := KKx39
      refine rc_get fl_X18_60_3 hrx41 dX18_act_87 ?_
      refine rb_iconst (v := (1 : Int32)) (by decide) dX18_act_90 ?_
      refine rb_iadd (z := (x41 + (1 : Int32))) rfl dX18_act_91 ?_
      obtain ⟨q42, eq42, Kq42⟩ := Kx41
      subst eq42
      obtain ⟨d43, n44, Q45, h1x46, hdx46, hnx46, hox46, Kx46⟩ := Kq42
      refine rb_call st_X18_63_0 (rest := []) h1x46 rfl rfl (rc_rc rfl hox46) (Nat.le_of_ble_eq_true rfl) hdx46.1 hdx46.2 hnx46.1 hnx46.2 dX18_act_92 (fun o M47 hpx46 => ?_)
      rcases Kx46 o M47 hpx46 with ⟨x46, eo, KKx46⟩ | ⟨x46t, eo, KKx46⟩
      · subst eo
        show rb_Bd κ mX18_act (n.1 + n26.1 + n37.1 + n44.1, n.2 + n26.2 + n37.2 + n44.2) M47 95 [some (.ref a0), some (.ref q1), some (.long a2), none, some (.ref q17), some (.ref q30)] [.long x46]
        exact rb_lret rfl (KKx46).1.1 (KKx46).1.2 dX18_act_95 (KKx46).2
      · subst eo
        exact KKx46
    · subst e
      refine rb_aload_n 0 rfl rfl (rb_isR_ref _) dX18_act_33 ?_
      obtain ⟨ci49, k50, v48, hfv48, hrv48, hv48, Kv48⟩ := ((Kv15).1 rfl)
      refine rc_get hfv48 hrv48 dX18_act_34 ?_
      refine rb_aload_n 1 rfl rfl (rb_isR_ref _) dX18_act_37 ?_
      refine rb_bipush (v := (12 : Int32)) (by decide) dX18_act_38 ?_
      refine rb_lconst (v := (0 : Int64)) (by decide) dX18_act_40 ?_
      obtain ⟨q51, eq51, Kq51⟩ := Kv48
      subst eq51
      obtain ⟨d52, n53, Q54, h1v55, hdv55, hnv55, hov55, Kv55⟩ := Kq51
      refine rb_call st_X18_37_0 (rest := []) h1v55 rfl rfl (rc_rc rfl hov55) (Nat.le_of_ble_eq_true rfl) hdv55.1 hdv55.2 hnv55.1 hnv55.2 dX18_act_41 (fun o M56 hpv55 => ?_)
      obtain ⟨v55, eo, hv55, KKv55⟩ := Kv55 o M56 hpv55
      subst eo
      show rb_Bd κ mX18_act (n.1 + n53.1, n.2 + n53.2) M56 44 [some (.ref a0), some (.ref q1), some (.long a2), none, some (.null), none] [v55]
      obtain ⟨q57, eq57, Kq57⟩ := KKv55
      subst eq57
      exact rb_athrow (by decide) (Kq57).1.1 (Kq57).1.2 dX18_act_44 (Kq57).2
  · subst e
    refine rb_null dX18_act_7 ?_
    refine rb_goto 26 (by decide) dX18_act_8 ?_
    refine rb_astore (ls' := [some (.ref a0), some (.ref q1), some (.long a2), none, some (.null), none]) (by decide) rfl rfl rb_isR_null dX18_act_26 ?_
    refine rb_aload rfl rb_isR_null dX18_act_28 ?_
    refine rb_ifnonnull rb_isR_null 45 (by decide) dX18_act_30 (fun a e => by cases e) (fun e => ?_)
    clear e
    refine rb_aload_n 0 rfl rfl (rb_isR_ref _) dX18_act_33 ?_
    obtain ⟨ci59, k60, v58, hfv58, hrv58, hv58, Kv58⟩ := ((Kv2).1 rfl)
    refine rc_get hfv58 hrv58 dX18_act_34 ?_
    refine rb_aload_n 1 rfl rfl (rb_isR_ref _) dX18_act_37 ?_
    refine rb_bipush (v := (12 : Int32)) (by decide) dX18_act_38 ?_
    refine rb_lconst (v := (0 : Int64)) (by decide) dX18_act_40 ?_
    obtain ⟨q61, eq61, Kq61⟩ := Kv58
    subst eq61
    obtain ⟨d62, n63, Q64, h1v65, hdv65, hnv65, hov65, Kv65⟩ := Kq61
    refine rb_call st_X18_37_0 (rest := []) h1v65 rfl rfl (rc_rc rfl hov65) (Nat.le_of_ble_eq_true rfl) hdv65.1 hdv65.2 hnv65.1 hnv65.2 dX18_act_41 (fun o M66 hpv65 => ?_)
    obtain ⟨v65, eo, hv65, KKv65⟩ := Kv65 o M66 hpv65
    subst eo
    show rb_Bd κ mX18_act (n.1 + n63.1, n.2 + n63.2) M66 44 [some (.ref a0), some (.ref q1), some (.long a2), none, some (.null), none] [v65]
    obtain ⟨q67, eq67, Kq67⟩ := KKv65
    subst eq67
    exact rb_athrow (by decide) (Kq67).1.1 (Kq67).1.2 dX18_act_44 (Kq67).2
theorem sgX19_init_0 {κ : rb_K} {n : Nat × Nat} {M : rb_H} {a0 : Nat} {a1 : Value} {a2 : Int32} (ha1 : rb_isR a1) (K : (∃ (ci2 k3 : Nat) (fs1 : List Value), rb_FL "RoleLoom$If" 3 ci2 k3 ∧ (∀ q : vw_C, rb_cl[ci2]? = some q → (q.2.1 k3).2.2.2 = false ∨ ("RoleLoom$If" = (q.2.1 k3).1 ∧ "<init>" = "<init>")) ∧ narrow (rb_ty ci2 k3) a1 = a1 ∧ fits (rb_ty ci2 k3) a1 = true ∧ M.2 a0 = some (rb_O ci2 fs1) ∧ k3 < fs1.length ∧ (∃ (ci9 : Nat) (d4 : Nat) (n5 : Nat × Nat) (Q6 : Outcome → rb_H → Prop), rb_Ct κ.1 yX7_init wX7_init d4 n5 [.ref a0, a1, .int a2, .int (0 : Int32)] (rb_up M a0 (rb_O ci2 (fs1.set k3 a1))) Q6 ∧ rb_dp κ d4 ∧ rb_rom κ (n.1 + n5.1, n.2 + n5.2) ∧ rb_ob (rb_up M a0 (rb_O ci2 (fs1.set k3 a1))) a0 ci9 ∧ ∀ (o : Outcome) (M8 : rb_H), Q6 o M8 → (o = .returned none ∧ (rb_fin κ (n.1 + n5.1, n.2 + n5.2) ∧ κ.2.2.1 (.returned none) M8))))) : rb_Bd κ mX19_init n M 0 [some (.ref a0), some a1, some (.int a2)] [] := by
  refine rb_aload_n 0 rfl rfl (rb_isR_ref _) dX19_init_0 ?_
  refine rb_aload_n 1 rfl rfl ha1 dX19_init_1 ?_
  obtain ⟨ci2, k3, fs1, hffs1, hgfs1, hnfs1, hmfs1, hMfs1, hlfs1, Kfs1⟩ := K
  refine rb_put hffs1 hgfs1 hnfs1 hmfs1 hMfs1 hlfs1 dX19_init_2 ?_
  refine rb_aload_n 0 rfl rfl (rb_isR_ref _) dX19_init_5 ?_
  refine rb_aload_n 1 rfl rfl ha1 dX19_init_6 ?_
  refine rb_iload_n 2 rfl rfl dX19_init_7 ?_
  refine rb_iconst (v := (0 : Int32)) (by decide) dX19_init_8 ?_
  obtain ⟨ci9, d4, n5, Q6, h1v7, hdv7, hnv7, hov7, Kv7⟩ := Kfs1
  refine rb_call (st_X19_9 ci9) (rest := []) h1v7 rfl rfl (rc_rc rfl hov7) (Nat.le_of_ble_eq_true rfl) hdv7.1 hdv7.2 hnv7.1 hnv7.2 dX19_init_9 (fun o M8 hpv7 => ?_)
  obtain ⟨eo, KKv7⟩ := Kv7 o M8 hpv7
  subst eo
  show rb_Bd κ mX19_init (n.1 + n5.1, n.2 + n5.2) M8 12 [some (.ref a0), some a1, some (.int a2)] []
  exact rb_vret rfl (KKv7).1.1 (KKv7).1.2 dX19_init_12 (KKv7).2
theorem sgX19_fits_0 {κ : rb_K} {n : Nat × Nat} {M : rb_H} {a0 : Nat} {a1 : Value} (ha1 : rb_isR a1) (K : (∃ (ci2 k3 : Nat) (x1 : Int32), rb_FL "RoleLoom$If" 21 ci2 k3 ∧ rb_rd M a0 ci2 k3 (.int x1) ∧ (∃ (d4 : Nat) (n5 : Nat × Nat) (Q6 : Outcome → rb_H → Prop), rb_Ct κ.1 yX0_in wX0_in d4 n5 [.int x1, .int (0 : Int32), .int (10 : Int32)] M Q6 ∧ rb_dp κ d4 ∧ rb_rom κ (n.1 + n5.1, n.2 + n5.2) ∧ ∀ (o : Outcome) (M8 : rb_H), Q6 o M8 → (∃ (x7 : Int32), o = .returned (some (.int x7)) ∧ (narrow .boolean (.int x7) = .int x7 ∧ rb_fin κ (n.1 + n5.1, n.2 + n5.2) ∧ κ.2.2.1 (.returned (some (.int x7))) M8))))) : rb_Bd κ mX19_fits n M 0 [some (.ref a0), some a1] [] := by
  refine rb_aload_n 0 rfl rfl (rb_isR_ref _) dX19_fits_0 ?_
  obtain ⟨ci2, k3, x1, hfx1, hrx1, Kx1⟩ := K
  refine rc_get hfx1 hrx1 dX19_fits_1 ?_
  refine rb_iconst (v := (0 : Int32)) (by decide) dX19_fits_4 ?_
  refine rb_bipush (v := (10 : Int32)) (by decide) dX19_fits_5 ?_
  obtain ⟨d4, n5, Q6, h1x7, hdx7, hnx7, Kx7⟩ := Kx1
  refine rb_call st_X19_24 (rest := []) h1x7 rfl rfl mm_rn (Nat.le_of_ble_eq_true rfl) hdx7.1 hdx7.2 hnx7.1 hnx7.2 dX19_fits_7 (fun o M8 hpx7 => ?_)
  obtain ⟨x7, eo, KKx7⟩ := Kx7 o M8 hpx7
  subst eo
  show rb_Bd κ mX19_fits (n.1 + n5.1, n.2 + n5.2) M8 10 [some (.ref a0), some a1] [.int x7]
  exact rb_iret rfl (KKx7).1 (KKx7).2.1.1 (KKx7).2.1.2 dX19_fits_10 (KKx7).2.2
theorem sgX19_act_0 {κ : rb_K} {n : Nat × Nat} {M : rb_H} {a0 : Nat} {a1 : Value} {a2 : Int64} (ha1 : rb_isR a1) (K : (∃ q1, a1 = .ref q1 ∧ (∃ (x2 : Int32), rb_rd M q1 3 6 (.int x2) ∧ ((¬ a2 = (0 : Int64) → (∃ fs4, M.2 q1 = some (rb_O 3 fs4) ∧ 6 < fs4.length ∧ (rb_fin κ n ∧ κ.2.2.1 (.returned (some (.long a2))) (rb_up M q1 (rb_O 3 (fs4.set 6 (.int (x2 + (0 : Int32))))))))) ∧ (a2 = (0 : Int64) → (∃ (ci6 k7 : Nat) (x5 : Int32), rb_FL "RoleLoom$If" 21 ci6 k7 ∧ rb_rd M a0 ci6 k7 (.int x5) ∧ (∃ fs8, M.2 q1 = some (rb_O 3 fs8) ∧ 6 < fs8.length ∧ (rb_fin κ n ∧ κ.2.2.1 (.returned (some (.long a2))) (rb_up M q1 (rb_O 3 (fs8.set 6 (.int (x2 + x5))))))))))))) : rb_Bd κ mX19_act n M 0 [some (.ref a0), some a1, some (.long a2), none] [] := by
  refine rb_aload_n 1 rfl rfl ha1 dX19_act_0 ?_
  refine rb_dup (rb_isR_cat ha1) dX19_act_1 ?_
  obtain ⟨q1, eq1, Kq1⟩ := K
  subst eq1
  obtain ⟨x2, hrx2, Kx2⟩ := Kq1
  refine rc_get fl_X19_15_3 hrx2 dX19_act_2 ?_
  refine rb_lload_n 2 rfl rfl dX19_act_5 ?_
  refine rb_lconst (v := (0 : Int64)) (by decide) dX19_act_6 ?_
  refine rb_lc_ne 18 (by decide) dX19_act_7 dX19_act_8 (fun c3 => ?_) (fun c3 => ?_)
  · skip
    refine rb_iconst (v := (0 : Int32)) (by decide) dX19_act_18 ?_
    refine rb_iadd (z := (x2 + (0 : Int32))) rfl dX19_act_19 ?_
    obtain ⟨fs4, hMfs4, hlfs4, Kfs4⟩ := ((Kx2).1 c3)
    refine rb_put fl_X19_15_3 (fun q hq => by cases hq; exact Or.inl rfl) rfl rfl hMfs4 hlfs4 dX19_act_20 ?_
    refine rb_lload_n 2 rfl rfl dX19_act_23 ?_
    exact rb_lret rfl (Kfs4).1.1 (Kfs4).1.2 dX19_act_24 (Kfs4).2
  · skip
    refine rb_aload_n 0 rfl rfl (rb_isR_ref _) dX19_act_11 ?_
    obtain ⟨ci6, k7, x5, hfx5, hrx5, Kx5⟩ := ((Kx2).2 c3)
    refine rc_get hfx5 hrx5 dX19_act_12 ?_
    refine rb_goto 19 (by decide) dX19_act_15 ?_
    refine rb_iadd (z := (x2 + x5)) rfl dX19_act_19 ?_
    obtain ⟨fs8, hMfs8, hlfs8, Kfs8⟩ := Kx5
    refine rb_put fl_X19_15_3 (fun q hq => by cases hq; exact Or.inl rfl) rfl rfl hMfs8 hlfs8 dX19_act_20 ?_
    refine rb_lload_n 2 rfl rfl dX19_act_23 ?_
    exact rb_lret rfl (Kfs8).1.1 (Kfs8).1.2 dX19_act_24 (Kfs8).2
theorem sgX2_init_0 {κ : rb_K} {n : Nat × Nat} {M : rb_H} {a0 : Nat} (K : (∃ (ci6 : Nat) (d1 : Nat) (n2 : Nat × Nat) (Q3 : Outcome → rb_H → Prop), rb_Ct κ.1 yJ1_init wJ1_init d1 n2 [.ref a0] M Q3 ∧ rb_dp κ d1 ∧ rb_rom κ (n.1 + n2.1, n.2 + n2.2) ∧ rb_ob M a0 ci6 ∧ ∀ (o : Outcome) (M5 : rb_H), Q3 o M5 → (o = .returned none ∧ (rb_fin κ (n.1 + n2.1, n.2 + n2.2) ∧ κ.2.2.1 (.returned none) M5)))) : rb_Bd κ mX2_init n M 0 [some (.ref a0)] [] := by
  refine rb_aload_n 0 rfl rfl (rb_isR_ref _) dX2_init_0 ?_
  obtain ⟨ci6, d1, n2, Q3, h1v4, hdv4, hnv4, hov4, Kv4⟩ := K
  refine rb_call (st_X2_1 ci6) (rest := []) h1v4 rfl rfl (rc_rc rfl hov4) (Nat.le_of_ble_eq_true rfl) hdv4.1 hdv4.2 hnv4.1 hnv4.2 dX2_init_1 (fun o M5 hpv4 => ?_)
  obtain ⟨eo, KKv4⟩ := Kv4 o M5 hpv4
  subst eo
  show rb_Bd κ mX2_init (n.1 + n2.1, n.2 + n2.2) M5 4 [some (.ref a0)] []
  exact rb_vret rfl (KKv4).1.1 (KKv4).1.2 dX2_init_4 (KKv4).2
theorem sgX20_init_0 {κ : rb_K} {n : Nat × Nat} {M : rb_H} {a0 : Nat} {a1 : Value} {a2 : Int32} (ha1 : rb_isR a1) (K : (∃ (ci2 k3 : Nat) (fs1 : List Value), rb_FL "RoleLoom$Throw" 1 ci2 k3 ∧ (∀ q : vw_C, rb_cl[ci2]? = some q → (q.2.1 k3).2.2.2 = false ∨ ("RoleLoom$Throw" = (q.2.1 k3).1 ∧ "<init>" = "<init>")) ∧ narrow (rb_ty ci2 k3) a1 = a1 ∧ fits (rb_ty ci2 k3) a1 = true ∧ M.2 a0 = some (rb_O ci2 fs1) ∧ k3 < fs1.length ∧ (∃ (ci9 : Nat) (d4 : Nat) (n5 : Nat × Nat) (Q6 : Outcome → rb_H → Prop), rb_Ct κ.1 yX7_init wX7_init d4 n5 [.ref a0, a1, .int a2, .int (0 : Int32)] (rb_up M a0 (rb_O ci2 (fs1.set k3 a1))) Q6 ∧ rb_dp κ d4 ∧ rb_rom κ (n.1 + n5.1, n.2 + n5.2) ∧ rb_ob (rb_up M a0 (rb_O ci2 (fs1.set k3 a1))) a0 ci9 ∧ ∀ (o : Outcome) (M8 : rb_H), Q6 o M8 → (o = .returned none ∧ (rb_fin κ (n.1 + n5.1, n.2 + n5.2) ∧ κ.2.2.1 (.returned none) M8))))) : rb_Bd κ mX20_init n M 0 [some (.ref a0), some a1, some (.int a2)] [] := by
  refine rb_aload_n 0 rfl rfl (rb_isR_ref _) dX20_init_0 ?_
  refine rb_aload_n 1 rfl rfl ha1 dX20_init_1 ?_
  obtain ⟨ci2, k3, fs1, hffs1, hgfs1, hnfs1, hmfs1, hMfs1, hlfs1, Kfs1⟩ := K
  refine rb_put hffs1 hgfs1 hnfs1 hmfs1 hMfs1 hlfs1 dX20_init_2 ?_
  refine rb_aload_n 0 rfl rfl (rb_isR_ref _) dX20_init_5 ?_
  refine rb_aload_n 1 rfl rfl ha1 dX20_init_6 ?_
  refine rb_iload_n 2 rfl rfl dX20_init_7 ?_
  refine rb_iconst (v := (0 : Int32)) (by decide) dX20_init_8 ?_
  obtain ⟨ci9, d4, n5, Q6, h1v7, hdv7, hnv7, hov7, Kv7⟩ := Kfs1
  refine rb_call (st_X20_7 ci9) (rest := []) h1v7 rfl rfl (rc_rc rfl hov7) (Nat.le_of_ble_eq_true rfl) hdv7.1 hdv7.2 hnv7.1 hnv7.2 dX20_init_9 (fun o M8 hpv7 => ?_)
  obtain ⟨eo, KKv7⟩ := Kv7 o M8 hpv7
  subst eo
  show rb_Bd κ mX20_init (n.1 + n5.1, n.2 + n5.2) M8 12 [some (.ref a0), some a1, some (.int a2)] []
  exact rb_vret rfl (KKv7).1.1 (KKv7).1.2 dX20_init_12 (KKv7).2
theorem sgX20_fits_0 {κ : rb_K} {n : Nat × Nat} {M : rb_H} {a0 : Nat} {a1 : Value} (ha1 : rb_isR a1) (K : (∃ (ci2 k3 : Nat) (x1 : Int32), rb_FL "RoleLoom$Throw" 13 ci2 k3 ∧ rb_rd M a0 ci2 k3 (.int x1) ∧ (∃ (d4 : Nat) (n5 : Nat × Nat) (Q6 : Outcome → rb_H → Prop), rb_Ct κ.1 yX0_in wX0_in d4 n5 [.int x1, .int (0 : Int32), .int (9 : Int32)] M Q6 ∧ rb_dp κ d4 ∧ rb_rom κ (n.1 + n5.1, n.2 + n5.2) ∧ ∀ (o : Outcome) (M8 : rb_H), Q6 o M8 → (∃ (x7 : Int32), o = .returned (some (.int x7)) ∧ (narrow .boolean (.int x7) = .int x7 ∧ rb_fin κ (n.1 + n5.1, n.2 + n5.2) ∧ κ.2.2.1 (.returned (some (.int x7))) M8))))) : rb_Bd κ mX20_fits n M 0 [some (.ref a0), some a1] [] := by
  refine rb_aload_n 0 rfl rfl (rb_isR_ref _) dX20_fits_0 ?_
  obtain ⟨ci2, k3, x1, hfx1, hrx1, Kx1⟩ := K
  refine rc_get hfx1 hrx1 dX20_fits_1 ?_
  refine rb_iconst (v := (0 : Int32)) (by decide) dX20_fits_4 ?_
  refine rb_bipush (v := (9 : Int32)) (by decide) dX20_fits_5 ?_
  obtain ⟨d4, n5, Q6, h1x7, hdx7, hnx7, Kx7⟩ := Kx1
  refine rb_call st_X20_23 (rest := []) h1x7 rfl rfl mm_rn (Nat.le_of_ble_eq_true rfl) hdx7.1 hdx7.2 hnx7.1 hnx7.2 dX20_fits_7 (fun o M8 hpx7 => ?_)
  obtain ⟨x7, eo, KKx7⟩ := Kx7 o M8 hpx7
  subst eo
  show rb_Bd κ mX20_fits (n.1 + n5.1, n.2 + n5.2) M8 10 [some (.ref a0), some a1] [.int x7]
  exact rb_iret rfl (KKx7).1 (KKx7).2.1.1 (KKx7).2.1.2 dX20_fits_10 (KKx7).2.2
theorem sgX20_act_0 {κ : rb_K} {n : Nat × Nat} {M : rb_H} {a0 : Nat} {a1 : Value} {a2 : Int64} (ha1 : rb_isR a1) (K : (∃ (ci2 k3 : Nat) (v1 : Value), rb_FL "RoleLoom$Throw" 1 ci2 k3 ∧ rb_rd M a0 ci2 k3 (v1) ∧ rb_isR v1 ∧ (∃ (ci5 k6 : Nat) (x4 : Int32), rb_FL "RoleLoom$Throw" 13 ci5 k6 ∧ rb_rd M a0 ci5 k6 (.int x4) ∧ (∃ q7, v1 = .ref q7 ∧ (∃ (d8 : Nat) (n9 : Nat × Nat) (Q10 : Outcome → rb_H → Prop), rb_Ct κ.1 yX0_thrown wX0_thrown d8 n9 [.ref q7, a1, .int x4, .long a2] M Q10 ∧ rb_dp κ d8 ∧ rb_rom κ (n.1 + n9.1, n.2 + n9.2) ∧ rb_ob M q7 0 ∧ ∀ (o : Outcome) (M12 : rb_H), Q10 o M12 → (∃ (v11 : Value), o = .returned (some v11) ∧ rb_isR v11 ∧ (∃ q13, v11 = .ref q13 ∧ (rb_fin κ (n.1 + n9.1, n.2 + n9.2) ∧ κ.2.2.1 (.threw q13) M12)))))))) : rb_Bd κ mX20_act n M 0 [some (.ref a0), some a1, some (.long a2), none] [] := by
  refine rb_aload_n 0 rfl rfl (rb_isR_ref _) dX20_act_0 ?_
  obtain ⟨ci2, k3, v1, hfv1, hrv1, hv1, Kv1⟩ := K
  refine rc_get hfv1 hrv1 dX20_act_1 ?_
  refine rb_aload_n 1 rfl rfl ha1 dX20_act_4 ?_
  refine rb_aload_n 0 rfl rfl (rb_isR_ref _) dX20_act_5 ?_
  obtain ⟨ci5, k6, x4, hfx4, hrx4, Kx4⟩ := Kv1
  refine rc_get hfx4 hrx4 dX20_act_6 ?_
  refine rb_lload_n 2 rfl rfl dX20_act_9 ?_
  obtain ⟨q7, eq7, Kq7⟩ := Kx4
  subst eq7
  obtain ⟨d8, n9, Q10, h1v11, hdv11, hnv11, hov11, Kv11⟩ := Kq7
  refine rb_call st_X20_17_0 (rest := []) h1v11 rfl rfl (rc_rc rfl hov11) (Nat.le_of_ble_eq_true rfl) hdv11.1 hdv11.2 hnv11.1 hnv11.2 dX20_act_10 (fun o M12 hpv11 => ?_)
  obtain ⟨v11, eo, hv11, KKv11⟩ := Kv11 o M12 hpv11
  subst eo
  show rb_Bd κ mX20_act (n.1 + n9.1, n.2 + n9.2) M12 13 [some (.ref a0), some a1, some (.long a2), none] [v11]
  obtain ⟨q13, eq13, Kq13⟩ := KKv11
  subst eq13
  exact rb_athrow (by decide) (Kq13).1.1 (Kq13).1.2 dX20_act_13 (Kq13).2
theorem sgX21_init_0 {κ : rb_K} {n : Nat × Nat} {M : rb_H} {a0 : Nat} {a1 : Value} (ha1 : rb_isR a1) (K : (∃ (ci2 k3 : Nat) (fs1 : List Value), rb_FL "RoleLoom$Mark" 3 ci2 k3 ∧ (∀ q : vw_C, rb_cl[ci2]? = some q → (q.2.1 k3).2.2.2 = false ∨ ("RoleLoom$Mark" = (q.2.1 k3).1 ∧ "<init>" = "<init>")) ∧ narrow (rb_ty ci2 k3) a1 = a1 ∧ fits (rb_ty ci2 k3) a1 = true ∧ M.2 a0 = some (rb_O ci2 fs1) ∧ k3 < fs1.length ∧ (∃ (ci9 : Nat) (d4 : Nat) (n5 : Nat × Nat) (Q6 : Outcome → rb_H → Prop), rb_Ct κ.1 yX7_init wX7_init d4 n5 [.ref a0, a1, .int (0 : Int32), .int (0 : Int32)] (rb_up M a0 (rb_O ci2 (fs1.set k3 a1))) Q6 ∧ rb_dp κ d4 ∧ rb_rom κ (n.1 + n5.1, n.2 + n5.2) ∧ rb_ob (rb_up M a0 (rb_O ci2 (fs1.set k3 a1))) a0 ci9 ∧ ∀ (o : Outcome) (M8 : rb_H), Q6 o M8 → (o = .returned none ∧ (rb_fin κ (n.1 + n5.1, n.2 + n5.2) ∧ κ.2.2.1 (.returned none) M8))))) : rb_Bd κ mX21_init n M 0 [some (.ref a0), some a1] [] := by
  refine rb_aload_n 0 rfl rfl (rb_isR_ref _) dX21_init_0 ?_
  refine rb_aload_n 1 rfl rfl ha1 dX21_init_1 ?_
  obtain ⟨ci2, k3, fs1, hffs1, hgfs1, hnfs1, hmfs1, hMfs1, hlfs1, Kfs1⟩ := K
  refine rb_put hffs1 hgfs1 hnfs1 hmfs1 hMfs1 hlfs1 dX21_init_2 ?_
  refine rb_aload_n 0 rfl rfl (rb_isR_ref _) dX21_init_5 ?_
  refine rb_aload_n 1 rfl rfl ha1 dX21_init_6 ?_
  refine rb_iconst (v := (0 : Int32)) (by decide) dX21_init_7 ?_
  refine rb_iconst (v := (0 : Int32)) (by decide) dX21_init_8 ?_
  obtain ⟨ci9, d4, n5, Q6, h1v7, hdv7, hnv7, hov7, Kv7⟩ := Kfs1
  refine rb_call (st_X21_9 ci9) (rest := []) h1v7 rfl rfl (rc_rc rfl hov7) (Nat.le_of_ble_eq_true rfl) hdv7.1 hdv7.2 hnv7.1 hnv7.2 dX21_init_9 (fun o M8 hpv7 => ?_)
  obtain ⟨eo, KKv7⟩ := Kv7 o M8 hpv7
  subst eo
  show rb_Bd κ mX21_init (n.1 + n5.1, n.2 + n5.2) M8 12 [some (.ref a0), some a1] []
  exact rb_vret rfl (KKv7).1.1 (KKv7).1.2 dX21_init_12 (KKv7).2
theorem sgX21_act_0 {κ : rb_K} {n : Nat × Nat} {M : rb_H} {a0 : Nat} {a1 : Value} {a2 : Int64} (ha1 : rb_isR a1) (K : (∃ (ci2 k3 : Nat) (v1 : Value), rb_FL "RoleLoom$Mark" 3 ci2 k3 ∧ rb_rd M a0 ci2 k3 (v1) ∧ rb_isR v1 ∧ (∃ q4, v1 = .ref q4 ∧ (∃ (x5 : Int32), rb_rd M q4 0 35 (.int x5) ∧ (((100 : Int32) ≤ x5 → (∃ (ci8 k9 : Nat) (v7 : Value), rb_FL "RoleLoom$Mark" 3 ci8 k9 ∧ rb_rd M a0 ci8 k9 (v7) ∧ rb_isR v7 ∧ (∃ q10, v7 = .ref q10 ∧ (∃ (x11 : Int32), rb_rd M q10 0 35 (.int x11) ∧ (∃ fs12, M.2 q10 = some (rb_O 0 fs12) ∧ 35 < fs12.length ∧ (rb_fin κ n ∧ κ.2.2.1 (.returned (some (.long a2))) (rb_up M q10 (rb_O 0 (fs12.set 35 (.int (x11 + (1 : Int32)))))))))))) ∧ (x5 < (100 : Int32) → (∃ (ci14 k15 : Nat) (v13 : Value), rb_FL "RoleLoom$Mark" 3 ci14 k15 ∧ rb_rd M a0 ci14 k15 (v13) ∧ rb_isR v13 ∧ (∃ q16, v13 = .ref q16 ∧ (∃ (v17 : Value), rb_rd M q16 0 34 (v17) ∧ rb_isR v17 ∧ (∃ (ci19 k20 : Nat) (v18 : Value), rb_FL "RoleLoom$Mark" 3 ci19 k20 ∧ rb_rd M a0 ci19 k20 (v18) ∧ rb_isR v18 ∧ (∃ q21, v18 = .ref q21 ∧ (∃ (x22 : Int32), rb_rd M q21 0 35 (.int x22) ∧ (∃ q23, v17 = .ref q23 ∧ (∃ (N24 : Nat) (f25 : Nat → Int64), M.2 q23 = some (rb_L N24 f25) ∧ vp_in x22 N24 ∧ (∃ (ci27 k28 : Nat) (v26 : Value), rb_FL "RoleLoom$Mark" 3 ci27 k28 ∧ rb_rd (rb_up M q23 (rb_L N24 (va_up f25 (x22).toNatClampNeg a2))) a0 ci27 k28 (v26) ∧ rb_isR v26 ∧ (∃ q29, v26 = .ref q29 ∧ (∃ (x30 : Int32), rb_rd (rb_up M q23 (rb_L N24 (va_up f25 (x22).toNatClampNeg a2))) q29 0 35 (.int x30) ∧ (∃ fs31, (rb_up M q23 (rb_L N24 (va_up f25 (x22).toNatClampNeg a2))).2 q29 = some (rb_O 0 fs31) ∧ 35 < fs31.length ∧ (rb_fin κ n ∧ κ.2.2.1 (.returned (some (.long a2))) (rb_up (rb_up M q23 (rb_L N24 (va_up f25 (x22).toNatClampNeg a2))) q29 (rb_O 0 (fs31.set 35 (.int (x30 + (1 : Int32))))))))))))))))))))))))) : rb_Bd κ mX21_act n M 0 [some (.ref a0), some a1, some (.long a2), none] [] := by
  refine rb_aload_n 0 rfl rfl (rb_isR_ref _) dX21_act_0 ?_
  obtain ⟨ci2, k3, v1, hfv1, hrv1, hv1, Kv1⟩ := K
  refine rc_get hfv1 hrv1 dX21_act_1 ?_
  obtain ⟨q4, eq4, Kq4⟩ := Kv1
  subst eq4
  obtain ⟨x5, hrx5, Kx5⟩ := Kq4
  refine rc_get fl_X21_15_0 hrx5 dX21_act_4 ?_
  refine rb_bipush (v := (100 : Int32)) (by decide) dX21_act_7 ?_
  refine rb_icge 28 (by decide) dX21_act_9 (fun c6 => ?_) (fun c6 => ?_)
  · skip
    refine rb_aload_n 0 rfl rfl (rb_isR_ref _) dX21_act_28 ?_
    obtain ⟨ci8, k9, v7, hfv7, hrv7, hv7, Kv7⟩ := ((Kx5).1 c6)
    refine rc_get hfv7 hrv7 dX21_act_29 ?_
    refine rb_dup (rb_isR_cat hv7) dX21_act_32 ?_
    obtain ⟨q10, eq10, Kq10⟩ := Kv7
    subst eq10
    obtain ⟨x11, hrx11, Kx11⟩ := Kq10
    refine rc_get fl_X21_15_0 hrx11 dX21_act_33 ?_
    refine rb_iconst (v := (1 : Int32)) (by decide) dX21_act_36 ?_
    refine rb_iadd (z := (x11 + (1 : Int32))) rfl dX21_act_37 ?_
    obtain ⟨fs12, hMfs12, hlfs12, Kfs12⟩ := Kx11
    refine rb_put fl_X21_15_0 (fun q hq => by cases hq; exact Or.inl rfl) rfl rfl hMfs12 hlfs12 dX21_act_38 ?_
    refine rb_lload_n 2 rfl rfl dX21_act_41 ?_
    exact rb_lret rfl (Kfs12).1.1 (Kfs12).1.2 dX21_act_42 (Kfs12).2
  · skip
    refine rb_aload_n 0 rfl rfl (rb_isR_ref _) dX21_act_12 ?_
    obtain ⟨ci14, k15, v13, hfv13, hrv13, hv13, Kv13⟩ := ((Kx5).2 c6)
    refine rc_get hfv13 hrv13 dX21_act_13 ?_
    obtain ⟨q16, eq16, Kq16⟩ := Kv13
    subst eq16
    obtain ⟨v17, hrv17, hv17, Kv17⟩ := Kq16
    refine rc_get fl_X21_19_0 hrv17 dX21_act_16 ?_
    refine rb_aload_n 0 rfl rfl (rb_isR_ref _) dX21_act_19 ?_
    obtain ⟨ci19, k20, v18, hfv18, hrv18, hv18, Kv18⟩ := Kv17
    refine rc_get hfv18 hrv18 dX21_act_20 ?_
    obtain ⟨q21, eq21, Kq21⟩ := Kv18
    subst eq21
    obtain ⟨x22, hrx22, Kx22⟩ := Kq21
    refine rc_get fl_X21_15_0 hrx22 dX21_act_23 ?_
    refine rb_lload_n 2 rfl rfl dX21_act_26 ?_
    obtain ⟨q23, eq23, Kq23⟩ := Kx22
    subst eq23
    obtain ⟨N24, f25, hMf25, hif25, Kf25⟩ := Kq23
    refine rb_last hMf25 hif25 dX21_act_27 ?_
    refine rb_aload_n 0 rfl rfl (rb_isR_ref _) dX21_act_28 ?_
    obtain ⟨ci27, k28, v26, hfv26, hrv26, hv26, Kv26⟩ := Kf25
    refine rc_get hfv26 hrv26 dX21_act_29 ?_
    refine rb_dup (rb_isR_cat hv26) dX21_act_32 ?_
    obtain ⟨q29, eq29, Kq29⟩ := Kv26
    subst eq29
    obtain ⟨x30, hrx30, Kx30⟩ := Kq29
    refine rc_get fl_X21_15_0 hrx30 dX21_act_33 ?_
    refine rb_iconst (v := (1 : Int32)) (by decide) dX21_act_36 ?_
    refine rb_iadd (z := (x30 + (1 : Int32))) rfl dX21_act_37 ?_
    obtain ⟨fs31, hMfs31, hlfs31, Kfs31⟩ := Kx30
    refine rb_put fl_X21_15_0 (fun q hq => by cases hq; exact Or.inl rfl) rfl rfl hMfs31 hlfs31 dX21_act_38 ?_
    refine rb_lload_n 2 rfl rfl dX21_act_41 ?_
    exact rb_lret rfl (Kfs31).1.1 (Kfs31).1.2 dX21_act_42 (Kfs31).2
theorem sgX22_init_0 {κ : rb_K} {n : Nat × Nat} {M : rb_H} {a0 : Nat} {a1 : Value} {a2 : Int32} {a3 : Int32} (ha1 : rb_isR a1) (K : (∃ (ci2 k3 : Nat) (fs1 : List Value), rb_FL "RoleLoom$Make" 3 ci2 k3 ∧ (∀ q : vw_C, rb_cl[ci2]? = some q → (q.2.1 k3).2.2.2 = false ∨ ("RoleLoom$Make" = (q.2.1 k3).1 ∧ "<init>" = "<init>")) ∧ narrow (rb_ty ci2 k3) a1 = a1 ∧ fits (rb_ty ci2 k3) a1 = true ∧ M.2 a0 = some (rb_O ci2 fs1) ∧ k3 < fs1.length ∧ (∃ (ci9 : Nat) (d4 : Nat) (n5 : Nat × Nat) (Q6 : Outcome → rb_H → Prop), rb_Ct κ.1 yX7_init wX7_init d4 n5 [.ref a0, a1, .int a2, .int a3] (rb_up M a0 (rb_O ci2 (fs1.set k3 a1))) Q6 ∧ rb_dp κ d4 ∧ rb_rom κ (n.1 + n5.1, n.2 + n5.2) ∧ rb_ob (rb_up M a0 (rb_O ci2 (fs1.set k3 a1))) a0 ci9 ∧ ∀ (o : Outcome) (M8 : rb_H), Q6 o M8 → (o = .returned none ∧ (rb_fin κ (n.1 + n5.1, n.2 + n5.2) ∧ κ.2.2.1 (.returned none) M8))))) : rb_Bd κ mX22_init n M 0 [some (.ref a0), some a1, some (.int a2), some (.int a3)] [] := by
  refine rb_aload_n 0 rfl rfl (rb_isR_ref _) dX22_init_0 ?_
  refine rb_aload_n 1 rfl rfl ha1 dX22_init_1 ?_
  obtain ⟨ci2, k3, fs1, hffs1, hgfs1, hnfs1, hmfs1, hMfs1, hlfs1, Kfs1⟩ := K
  refine rb_put hffs1 hgfs1 hnfs1 hmfs1 hMfs1 hlfs1 dX22_init_2 ?_
  refine rb_aload_n 0 rfl rfl (rb_isR_ref _) dX22_init_5 ?_
  refine rb_aload_n 1 rfl rfl ha1 dX22_init_6 ?_
  refine rb_iload_n 2 rfl rfl dX22_init_7 ?_
  refine rb_iload_n 3 rfl rfl dX22_init_8 ?_
  obtain ⟨ci9, d4, n5, Q6, h1v7, hdv7, hnv7, hov7, Kv7⟩ := Kfs1
  refine rb_call (st_X22_9 ci9) (rest := []) h1v7 rfl rfl (rc_rc rfl hov7) (Nat.le_of_ble_eq_true rfl) hdv7.1 hdv7.2 hnv7.1 hnv7.2 dX22_init_9 (fun o M8 hpv7 => ?_)
  obtain ⟨eo, KKv7⟩ := Kv7 o M8 hpv7
  subst eo
  show rb_Bd κ mX22_init (n.1 + n5.1, n.2 + n5.2) M8 12 [some (.ref a0), some a1, some (.int a2), some (.int a3)] []
  exact rb_vret rfl (KKv7).1.1 (KKv7).1.2 dX22_init_12 (KKv7).2
theorem sgX22_fits_0 {κ : rb_K} {n : Nat × Nat} {M : rb_H} {a0 : Nat} {a1 : Value} (ha1 : rb_isR a1) (K : (∃ (ci2 k3 : Nat) (x1 : Int32), rb_FL "RoleLoom$Make" 33 ci2 k3 ∧ rb_rd M a0 ci2 k3 (.int x1) ∧ (∃ q4, a1 = .ref q4 ∧ (∃ (x5 : Int32), rb_rd M q4 5 2 (.int x5) ∧ (∃ (d6 : Nat) (n7 : Nat × Nat) (Q8 : Outcome → rb_H → Prop), rb_Ct κ.1 yX0_in wX0_in d6 n7 [.int x1, .int (0 : Int32), .int (x5 - (1 : Int32))] M Q8 ∧ rb_dp κ d6 ∧ rb_rom κ (n.1 + n7.1, n.2 + n7.2) ∧ ∀ (o : Outcome) (M10 : rb_H), Q8 o M10 → (∃ (x9 : Int32), o = .returned (some (.int x9)) ∧ (narrow .boolean (.int x9) = .int x9 ∧ rb_fin κ (n.1 + n7.1, n.2 + n7.2) ∧ κ.2.2.1 (.returned (some (.int x9))) M10))))))) : rb_Bd κ mX22_fits n M 0 [some (.ref a0), some a1] [] := by
  refine rb_aload_n 0 rfl rfl (rb_isR_ref _) dX22_fits_0 ?_
  obtain ⟨ci2, k3, x1, hfx1, hrx1, Kx1⟩ := K
  refine rc_get hfx1 hrx1 dX22_fits_1 ?_
  refine rb_iconst (v := (0 : Int32)) (by decide) dX22_fits_4 ?_
  refine rb_aload_n 1 rfl rfl ha1 dX22_fits_5 ?_
  obtain ⟨q4, eq4, Kq4⟩ := Kx1
  subst eq4
  obtain ⟨x5, hrx5, Kx5⟩ := Kq4
  refine rc_get fl_X22_41_5 hrx5 dX22_fits_6 ?_
  refine rb_iconst (v := (1 : Int32)) (by decide) dX22_fits_9 ?_
  refine rb_isub (z := (x5 - (1 : Int32))) rfl dX22_fits_10 ?_
  obtain ⟨d6, n7, Q8, h1x9, hdx9, hnx9, Kx9⟩ := Kx5
  refine rb_call st_X22_45 (rest := []) h1x9 rfl rfl mm_rn (Nat.le_of_ble_eq_true rfl) hdx9.1 hdx9.2 hnx9.1 hnx9.2 dX22_fits_11 (fun o M10 hpx9 => ?_)
  obtain ⟨x9, eo, KKx9⟩ := Kx9 o M10 hpx9
  subst eo
  show rb_Bd κ mX22_fits (n.1 + n7.1, n.2 + n7.2) M10 14 [some (.ref a0), some (.ref q4)] [.int x9]
  exact rb_iret rfl (KKx9).1 (KKx9).2.1.1 (KKx9).2.1.2 dX22_fits_14 (KKx9).2.2
theorem sgX22_act_0 {κ : rb_K} {n : Nat × Nat} {M : rb_H} {a0 : Nat} {a1 : Value} {a2 : Int64} (ha1 : rb_isR a1) (K : ((a2 < (0 : Int64) → (∃ (ci3 k4 : Nat) (v2 : Value), rb_FL "RoleLoom$Make" 3 ci3 k4 ∧ rb_rd M a0 ci3 k4 (v2) ∧ rb_isR v2 ∧ (∃ q5, v2 = .ref q5 ∧ (∃ (d6 : Nat) (n7 : Nat × Nat) (Q8 : Outcome → rb_H → Prop), rb_Ct κ.1 yX0_thrown wX0_thrown d6 n7 [.ref q5, a1, .int (13 : Int32), .long (0 : Int64)] M Q8 ∧ rb_dp κ d6 ∧ rb_rom κ (n.1 + n7.1, n.2 + n7.2) ∧ rb_ob M q5 0 ∧ ∀ (o : Outcome) (M10 : rb_H), Q8 o M10 → (∃ (v9 : Value), o = .returned (some v9) ∧ rb_isR v9 ∧ (∃ q11, v9 = .ref q11 ∧ (rb_fin κ (n.1 + n7.1, n.2 + n7.2) ∧ κ.2.2.1 (.threw q11) M10))))))) ∧ ((0 : Int64) ≤ a2 → ((a2 ≤ (12 : Int64) → (∃ q13, a1 = .ref q13 ∧ (∃ (v14 : Value), rb_rd M q13 3 1 (v14) ∧ rb_isR v14 ∧ (∃ q15, v14 = .ref q15 ∧ (∃ (v16 : Value), rb_rd M q15 28 2 (v16) ∧ rb_isR v16 ∧ (∃ (ci18 k19 : Nat) (x17 : Int32), rb_FL "RoleLoom$Make" 33 ci18 k19 ∧ rb_rd M a0 ci18 k19 (.int x17) ∧ (∃ q20, v16 = .ref q20 ∧ (∃ (N21 : Nat) (f22 : Nat → Int32), M.2 q20 = some (rb_I N21 f22) ∧ vp_in x17 N21 ∧ rb_Bd κ mX22_act n (rb_up M q20 (rb_I N21 (va_up f22 (x17).toNatClampNeg (a2).toInt32))) 43 [some (.ref a0), some (.ref q13), some (.long a2), none, some (.int (0 : Int32))] [])))))))) ∧ ((12 : Int64) < a2 → (∃ (ci24 k25 : Nat) (v23 : Value), rb_FL "RoleLoom$Make" 3 ci24 k25 ∧ rb_rd M a0 ci24 k25 (v23) ∧ rb_isR v23 ∧ (∃ q26, v23 = .ref q26 ∧ (∃ (d27 : Nat) (n28 : Nat × Nat) (Q29 : Outcome → rb_H → Prop), rb_Ct κ.1 yX0_thrown wX0_thrown d27 n28 [.ref q26, a1, .int (13 : Int32), .long (0 : Int64)] M Q29 ∧ rb_dp κ d27 ∧ rb_rom κ (n.1 + n28.1, n.2 + n28.2) ∧ rb_ob M q26 0 ∧ ∀ (o : Outcome) (M31 : rb_H), Q29 o M31 → (∃ (v30 : Value), o = .returned (some v30) ∧ rb_isR v30 ∧ (∃ q32, v30 = .ref q32 ∧ (rb_fin κ (n.1 + n28.1, n.2 + n28.2) ∧ κ.2.2.1 (.threw q32) M31))))))))))) : rb_Bd κ mX22_act n M 0 [some (.ref a0), some a1, some (.long a2), none, none] [] := by
  refine rb_lload_n 2 rfl rfl dX22_act_0 ?_
  refine rb_lconst (v := (0 : Int64)) (by decide) dX22_act_1 ?_
  refine rb_lc_lt 14 (by decide) dX22_act_2 dX22_act_3 (fun c1 => ?_) (fun c1 => ?_)
  · skip
    refine rb_aload_n 0 rfl rfl (rb_isR_ref _) dX22_act_14 ?_
    obtain ⟨ci3, k4, v2, hfv2, hrv2, hv2, Kv2⟩ := ((K).1 c1)
    refine rc_get hfv2 hrv2 dX22_act_15 ?_
    refine rb_aload_n 1 rfl rfl ha1 dX22_act_18 ?_
    refine rb_bipush (v := (13 : Int32)) (by decide) dX22_act_19 ?_
    refine rb_lconst (v := (0 : Int64)) (by decide) dX22_act_21 ?_
    obtain ⟨q5, eq5, Kq5⟩ := Kv2
    subst eq5
    obtain ⟨d6, n7, Q8, h1v9, hdv9, hnv9, hov9, Kv9⟩ := Kq5
    refine rb_call st_X22_17_0 (rest := []) h1v9 rfl rfl (rc_rc rfl hov9) (Nat.le_of_ble_eq_true rfl) hdv9.1 hdv9.2 hnv9.1 hnv9.2 dX22_act_22 (fun o M10 hpv9 => ?_)
    obtain ⟨v9, eo, hv9, KKv9⟩ := Kv9 o M10 hpv9
    subst eo
    show rb_Bd κ mX22_act (n.1 + n7.1, n.2 + n7.2) M10 25 [some (.ref a0), some a1, some (.long a2), none, none] [v9]
    obtain ⟨q11, eq11, Kq11⟩ := KKv9
    subst eq11
    exact rb_athrow (by decide) (Kq11).1.1 (Kq11).1.2 dX22_act_25 (Kq11).2
  · skip
    refine rb_lload_n 2 rfl rfl dX22_act_6 ?_
    refine rb_ldc2 q1366 dX22_act_7 ?_
    refine rb_lc_le 26 (by decide) dX22_act_10 dX22_act_11 (fun c12 => ?_) (fun c12 => ?_)
    · skip
      refine rb_aload_n 1 rfl rfl ha1 dX22_act_26 ?_
      obtain ⟨q13, eq13, Kq13⟩ := ((((K).2 c1)).1 c12)
      subst eq13
      obtain ⟨v14, hrv14, hv14, Kv14⟩ := Kq13
      refine rc_get fl_X22_21_3 hrv14 dX22_act_27 ?_
      obtain ⟨q15, eq15, Kq15⟩ := Kv14
      subst eq15
      obtain ⟨v16, hrv16, hv16, Kv16⟩ := Kq15
      refine rc_get fl_X22_27_28 hrv16 dX22_act_30 ?_
      refine rb_aload_n 0 rfl rfl (rb_isR_ref _) dX22_act_33 ?_
      obtain ⟨ci18, k19, x17, hfx17, hrx17, Kx17⟩ := Kv16
      refine rc_get hfx17 hrx17 dX22_act_34 ?_
      refine rb_lload_n 2 rfl rfl dX22_act_37 ?_
      refine rb_l2i (z := (a2).toInt32) rfl dX22_act_38 ?_
      obtain ⟨q20, eq20, Kq20⟩ := Kx17
      subst eq20
      obtain ⟨N21, f22, hMf22, hif22, Kf22⟩ := Kq20
      refine rb_iast hMf22 hif22 dX22_act_39 ?_
      refine rb_iconst (v := (0 : Int32)) (by decide) dX22_act_40 ?_
      refine rb_istore (ls' := [some (.ref a0), some (.ref q13), some (.long a2), none, some (.int (0 : Int32))]) (by decide) rfl rfl dX22_act_41 ?_
      exact Kf22
    · skip
      refine rb_aload_n 0 rfl rfl (rb_isR_ref _) dX22_act_14 ?_
      obtain ⟨ci24, k25, v23, hfv23, hrv23, hv23, Kv23⟩ := ((((K).2 c1)).2 c12)
      refine rc_get hfv23 hrv23 dX22_act_15 ?_
      refine rb_aload_n 1 rfl rfl ha1 dX22_act_18 ?_
      refine rb_bipush (v := (13 : Int32)) (by decide) dX22_act_19 ?_
      refine rb_lconst (v := (0 : Int64)) (by decide) dX22_act_21 ?_
      obtain ⟨q26, eq26, Kq26⟩ := Kv23
      subst eq26
      obtain ⟨d27, n28, Q29, h1v30, hdv30, hnv30, hov30, Kv30⟩ := Kq26
      refine rb_call st_X22_17_0 (rest := []) h1v30 rfl rfl (rc_rc rfl hov30) (Nat.le_of_ble_eq_true rfl) hdv30.1 hdv30.2 hnv30.1 hnv30.2 dX22_act_22 (fun o M31 hpv30 => ?_)
      obtain ⟨v30, eo, hv30, KKv30⟩ := Kv30 o M31 hpv30
      subst eo
      show rb_Bd κ mX22_act (n.1 + n28.1, n.2 + n28.2) M31 25 [some (.ref a0), some a1, some (.long a2), none, none] [v30]
      obtain ⟨q32, eq32, Kq32⟩ := KKv30
      subst eq32
      exact rb_athrow (by decide) (Kq32).1.1 (Kq32).1.2 dX22_act_25 (Kq32).2
theorem sgX22_act_43 {κ : rb_K} {n : Nat × Nat} {M : rb_H} {a0 : Nat} {a1 : Value} {a2 : Int64} {a4 : Int32} (ha1 : rb_isR a1) (K : (((12 : Int32) ≤ a4 → (rb_fin κ n ∧ κ.2.2.1 (.returned (some (.long a2))) M)) ∧ (a4 < (12 : Int32) → (∃ q2, a1 = .ref q2 ∧ (∃ (v3 : Value), rb_rd M q2 3 1 (v3) ∧ rb_isR v3 ∧ (∃ q4, v3 = .ref q4 ∧ (∃ (v5 : Value), rb_rd M q4 28 1 (v5) ∧ rb_isR v5 ∧ (∃ (ci7 k8 : Nat) (x6 : Int32), rb_FL "RoleLoom$Make" 33 ci7 k8 ∧ rb_rd M a0 ci7 k8 (.int x6) ∧ (∃ q9, v5 = .ref q9 ∧ (∃ (N10 : Nat) (f11 : Nat → Int64), M.2 q9 = some (rb_L N10 f11) ∧ vp_in (((12 : Int32) * x6) + a4) N10 ∧ rb_Bd κ mX22_act n (rb_up M q9 (rb_L N10 (va_up f11 ((((12 : Int32) * x6) + a4)).toNatClampNeg (0 : Int64)))) 43 [some (.ref a0), some (.ref q2), some (.long a2), none, some (.int (a4 + (1 : Int32)))] [])))))))))) : rb_Bd κ mX22_act n M 43 [some (.ref a0), some a1, some (.long a2), none, some (.int a4)] [] := by
  refine rb_iload rfl dX22_act_43 ?_
  refine rb_bipush (v := (12 : Int32)) (by decide) dX22_act_45 ?_
  refine rb_icge 75 (by decide) dX22_act_47 (fun c1 => ?_) (fun c1 => ?_)
  · skip
    refine rb_lload_n 2 rfl rfl dX22_act_75 ?_
    exact rb_lret rfl (((K).1 c1)).1.1 (((K).1 c1)).1.2 dX22_act_76 (((K).1 c1)).2
  · skip
    refine rb_aload_n 1 rfl rfl ha1 dX22_act_50 ?_
    obtain ⟨q2, eq2, Kq2⟩ := ((K).2 c1)
    subst eq2
    obtain ⟨v3, hrv3, hv3, Kv3⟩ := Kq2
    refine rc_get fl_X22_21_3 hrv3 dX22_act_51 ?_
    obtain ⟨q4, eq4, Kq4⟩ := Kv3
    subst eq4
    obtain ⟨v5, hrv5, hv5, Kv5⟩ := Kq4
    refine rc_get fl_X22_37_28 hrv5 dX22_act_54 ?_
    refine rb_bipush (v := (12 : Int32)) (by decide) dX22_act_57 ?_
    refine rb_aload_n 0 rfl rfl (rb_isR_ref _) dX22_act_59 ?_
    obtain ⟨ci7, k8, x6, hfx6, hrx6, Kx6⟩ := Kv5
    refine rc_get hfx6 hrx6 dX22_act_60 ?_
    refine rb_imul (z := ((12 : Int32) * x6)) rfl dX22_act_63 ?_
    refine rb_iload rfl dX22_act_64 ?_
    refine rb_iadd (z := (((12 : Int32) * x6) + a4)) rfl dX22_act_66 ?_
    refine rb_lconst (v := (0 : Int64)) (by decide) dX22_act_67 ?_
    obtain ⟨q9, eq9, Kq9⟩ := Kx6
    subst eq9
    obtain ⟨N10, f11, hMf11, hif11, Kf11⟩ := Kq9
    refine rb_last hMf11 hif11 dX22_act_68 ?_
    refine rb_iinc (ls' := [some (.ref a0), some (.ref q2), some (.long a2), none, some (.int (a4 + (1 : Int32)))]) (v := (a4 + (1 : Int32))) rfl rfl (by decide) rfl rfl dX22_act_69 ?_
    refine rb_goto 43 (by decide) dX22_act_72 ?_
    exact Kf11
theorem sgX23_init_0 {κ : rb_K} {n : Nat × Nat} {M : rb_H} {a0 : Nat} {a1 : Value} {a2 : Int32} {a3 : Int32} (ha1 : rb_isR a1) (K : (∃ (ci2 k3 : Nat) (fs1 : List Value), rb_FL "RoleLoom$At" 3 ci2 k3 ∧ (∀ q : vw_C, rb_cl[ci2]? = some q → (q.2.1 k3).2.2.2 = false ∨ ("RoleLoom$At" = (q.2.1 k3).1 ∧ "<init>" = "<init>")) ∧ narrow (rb_ty ci2 k3) a1 = a1 ∧ fits (rb_ty ci2 k3) a1 = true ∧ M.2 a0 = some (rb_O ci2 fs1) ∧ k3 < fs1.length ∧ (∃ (ci9 : Nat) (d4 : Nat) (n5 : Nat × Nat) (Q6 : Outcome → rb_H → Prop), rb_Ct κ.1 yX22_init wX22_init d4 n5 [.ref a0, a1, .int a2, .int a3] (rb_up M a0 (rb_O ci2 (fs1.set k3 a1))) Q6 ∧ rb_dp κ d4 ∧ rb_rom κ (n.1 + n5.1, n.2 + n5.2) ∧ rb_ob (rb_up M a0 (rb_O ci2 (fs1.set k3 a1))) a0 ci9 ∧ ∀ (o : Outcome) (M8 : rb_H), Q6 o M8 → (o = .returned none ∧ (rb_fin κ (n.1 + n5.1, n.2 + n5.2) ∧ κ.2.2.1 (.returned none) M8))))) : rb_Bd κ mX23_init n M 0 [some (.ref a0), some a1, some (.int a2), some (.int a3)] [] := by
  refine rb_aload_n 0 rfl rfl (rb_isR_ref _) dX23_init_0 ?_
  refine rb_aload_n 1 rfl rfl ha1 dX23_init_1 ?_
  obtain ⟨ci2, k3, fs1, hffs1, hgfs1, hnfs1, hmfs1, hMfs1, hlfs1, Kfs1⟩ := K
  refine rb_put hffs1 hgfs1 hnfs1 hmfs1 hMfs1 hlfs1 dX23_init_2 ?_
  refine rb_aload_n 0 rfl rfl (rb_isR_ref _) dX23_init_5 ?_
  refine rb_aload_n 1 rfl rfl ha1 dX23_init_6 ?_
  refine rb_iload_n 2 rfl rfl dX23_init_7 ?_
  refine rb_iload_n 3 rfl rfl dX23_init_8 ?_
  obtain ⟨ci9, d4, n5, Q6, h1v7, hdv7, hnv7, hov7, Kv7⟩ := Kfs1
  refine rb_call (st_X23_9 ci9) (rest := []) h1v7 rfl rfl (rc_rc rfl hov7) (Nat.le_of_ble_eq_true rfl) hdv7.1 hdv7.2 hnv7.1 hnv7.2 dX23_init_9 (fun o M8 hpv7 => ?_)
  obtain ⟨eo, KKv7⟩ := Kv7 o M8 hpv7
  subst eo
  show rb_Bd κ mX23_init (n.1 + n5.1, n.2 + n5.2) M8 12 [some (.ref a0), some a1, some (.int a2), some (.int a3)] []
  exact rb_vret rfl (KKv7).1.1 (KKv7).1.2 dX23_init_12 (KKv7).2
theorem sgX23_fits_0 {κ : rb_K} {n : Nat × Nat} {M : rb_H} {a0 : Nat} {a1 : Value} (ha1 : rb_isR a1) (K : (∃ (ci6 : Nat) (d1 : Nat) (n2 : Nat × Nat) (Q3 : Outcome → rb_H → Prop), rb_Ct κ.1 yX22_fits wX22_fits d1 n2 [.ref a0, a1] M Q3 ∧ rb_dp κ d1 ∧ rb_rom κ (n.1 + n2.1, n.2 + n2.2) ∧ rb_ob M a0 ci6 ∧ ∀ (o : Outcome) (M5 : rb_H), Q3 o M5 → (∃ (x4 : Int32), o = .returned (some (.int x4)) ∧ ((x4 = 0 → (rb_fin κ (n.1 + n2.1, n.2 + n2.2) ∧ κ.2.2.1 (.returned (some (.int (0 : Int32)))) M5)) ∧ (¬ x4 = 0 → (∃ (ci9 k10 : Nat) (x8 : Int32), rb_FL "RoleLoom$At" 39 ci9 k10 ∧ rb_rd M5 a0 ci9 k10 (.int x8) ∧ (∃ q11, a1 = .ref q11 ∧ (∃ (x12 : Int32), rb_rd M5 q11 5 1 (.int x12) ∧ (∃ (d13 : Nat) (n14 : Nat × Nat) (Q15 : Outcome → rb_H → Prop), rb_Ct κ.1 yX0_in wX0_in d13 n14 [.int x8, .int (0 : Int32), .int (x12 - (1 : Int32))] M5 Q15 ∧ rb_dp κ d13 ∧ rb_rom κ (n.1 + n2.1 + n14.1, n.2 + n2.2 + n14.2) ∧ ∀ (o : Outcome) (M17 : rb_H), Q15 o M17 → (∃ (x16 : Int32), o = .returned (some (.int x16)) ∧ ((x16 = 0 → (rb_fin κ (n.1 + n2.1 + n14.1, n.2 + n2.2 + n14.2) ∧ κ.2.2.1 (.returned (some (.int (0 : Int32)))) M17)) ∧ (¬ x16 = 0 → (rb_fin κ (n.1 + n2.1 + n14.1, n.2 + n2.2 + n14.2) ∧ κ.2.2.1 (.returned (some (.int (1 : Int32)))) M17))))))))))))) : rb_Bd κ mX23_fits n M 0 [some (.ref a0), some a1] [] := by
  refine rb_aload_n 0 rfl rfl (rb_isR_ref _) dX23_fits_0 ?_
  refine rb_aload_n 1 rfl rfl ha1 dX23_fits_1 ?_
  obtain ⟨ci6, d1, n2, Q3, h1x4, hdx4, hnx4, hox4, Kx4⟩ := K
  refine rb_call (st_X23_49 ci6) (rest := []) h1x4 rfl rfl (rc_rc rfl hox4) (Nat.le_of_ble_eq_true rfl) hdx4.1 hdx4.2 hnx4.1 hnx4.2 dX23_fits_2 (fun o M5 hpx4 => ?_)
  obtain ⟨x4, eo, KKx4⟩ := Kx4 o M5 hpx4
  subst eo
  show rb_Bd κ mX23_fits (n.1 + n2.1, n.2 + n2.2) M5 5 [some (.ref a0), some a1] [.int x4]
  refine rb_ifeq 29 (by decide) dX23_fits_5 (fun c7 => ?_) (fun c7 => ?_)
  · skip
    refine rb_iconst (v := (0 : Int32)) (by decide) dX23_fits_29 ?_
    exact rb_iret rfl (by decide) (((KKx4).1 c7)).1.1 (((KKx4).1 c7)).1.2 dX23_fits_30 (((KKx4).1 c7)).2
  · skip
    refine rb_aload_n 0 rfl rfl (rb_isR_ref _) dX23_fits_8 ?_
    obtain ⟨ci9, k10, x8, hfx8, hrx8, Kx8⟩ := ((KKx4).2 c7)
    refine rc_get hfx8 hrx8 dX23_fits_9 ?_
    refine rb_iconst (v := (0 : Int32)) (by decide) dX23_fits_12 ?_
    refine rb_aload_n 1 rfl rfl ha1 dX23_fits_13 ?_
    obtain ⟨q11, eq11, Kq11⟩ := Kx8
    subst eq11
    obtain ⟨x12, hrx12, Kx12⟩ := Kq11
    refine rc_get fl_X23_53_5 hrx12 dX23_fits_14 ?_
    refine rb_iconst (v := (1 : Int32)) (by decide) dX23_fits_17 ?_
    refine rb_isub (z := (x12 - (1 : Int32))) rfl dX23_fits_18 ?_
    obtain ⟨d13, n14, Q15, h1x16, hdx16, hnx16, Kx16⟩ := Kx12
    refine rb_call st_X23_57 (rest := []) h1x16 rfl rfl mm_rn (Nat.le_of_ble_eq_true rfl) hdx16.1 hdx16.2 hnx16.1 hnx16.2 dX23_fits_19 (fun o M17 hpx16 => ?_)
    obtain ⟨x16, eo, KKx16⟩ := Kx16 o M17 hpx16
    subst eo
    show rb_Bd κ mX23_fits (n.1 + n2.1 + n14.1, n.2 + n2.2 + n14.2) M17 22 [some (.ref a0), some (.ref q11)] [.int x16]
    refine rb_ifeq 29 (by decide) dX23_fits_22 (fun c18 => ?_) (fun c18 => ?_)
    · skip
      refine rb_iconst (v := (0 : Int32)) (by decide) dX23_fits_29 ?_
      exact rb_iret rfl (by decide) (((KKx16).1 c18)).1.1 (((KKx16).1 c18)).1.2 dX23_fits_30 (((KKx16).1 c18)).2
    · skip
      refine rb_iconst (v := (1 : Int32)) (by decide) dX23_fits_25 ?_
      refine rb_goto 30 (by decide) dX23_fits_26 ?_
      exact rb_iret rfl (by decide) (((KKx16).2 c18)).1.1 (((KKx16).2 c18)).1.2 dX23_fits_30 (((KKx16).2 c18)).2
theorem sgX23_act_0 {κ : rb_K} {n : Nat × Nat} {M : rb_H} {a0 : Nat} {a1 : Value} {a2 : Int64} (ha1 : rb_isR a1) (K : (∃ q1, a1 = .ref q1 ∧ (∃ (v2 : Value), rb_rd M q1 3 1 (v2) ∧ rb_isR v2 ∧ (∃ q3, v2 = .ref q3 ∧ (∃ (v4 : Value), rb_rd M q3 28 1 (v4) ∧ rb_isR v4 ∧ (∃ (ci10 : Nat) (y11 : MethodName) (w12 : Cond) (d5 : Nat) (n6 : Nat × Nat) (Q7 : Outcome → rb_H → Prop), rb_Go "RoleLoom$At" (.invokevirtual 45) 3 y11 w12 (some ci10) 2 ∧ rb_Ct κ.1 y11 w12 d5 n6 [.ref a0, .ref q1] M Q7 ∧ rb_dp κ d5 ∧ rb_rom κ (n.1 + n6.1, n.2 + n6.2) ∧ rb_ob M a0 ci10 ∧ ∀ (o : Outcome) (M9 : rb_H), Q7 o M9 → ((∃ (x8 : Int32), o = .returned (some (.int x8)) ∧ (∃ q13, v4 = .ref q13 ∧ (∃ (N14 : Nat) (f15 : Nat → Int64) (x16 : Int64), M9.2 q13 = some (rb_L N14 f15) ∧ vp_in x8 N14 ∧ f15 (x8).toNatClampNeg = x16 ∧ (rb_fin κ (n.1 + n6.1, n.2 + n6.2) ∧ κ.2.2.1 (.returned (some (.long x16))) M9)))) ∨ (∃ x8t, o = .threw x8t ∧ rb_Th κ mX23_act (n.1 + n6.1, n.2 + n6.2) M9 9 [some (.ref a0), some (.ref q1), some (.long a2), none] x8t)))))))) : rb_Bd κ mX23_act n M 0 [some (.ref a0), some a1, some (.long a2), none] [] := by
  refine rb_aload_n 1 rfl rfl ha1 dX23_act_0 ?_
  obtain ⟨q1, eq1, Kq1⟩ := K
  subst eq1
  obtain ⟨v2, hrv2, hv2, Kv2⟩ := Kq1
  refine rc_get fl_X23_15_3 hrv2 dX23_act_1 ?_
  obtain ⟨q3, eq3, Kq3⟩ := Kv2
  subst eq3
  obtain ⟨v4, hrv4, hv4, Kv4⟩ := Kq3
  refine rc_get fl_X23_42_28 hrv4 dX23_act_4 ?_
  refine rb_aload_n 0 rfl rfl (rb_isR_ref _) dX23_act_7 ?_
  refine rb_aload_n 1 rfl rfl (rb_isR_ref _) dX23_act_8 ?_
  obtain ⟨ci10, y11, w12, d5, n6, Q7, hgx8, h1x8, hdx8, hnx8, hox8, Kx8⟩ := Kv4
  refine rb_call hgx8 (rest := [v4]) h1x8 rfl rfl (rc_rc rfl hox8) (by simp [rb_isR_cat hv4, rb_cR, rb_cI, rb_cJ, rb_cN]) hdx8.1 hdx8.2 hnx8.1 hnx8.2 dX23_act_9 (fun o M9 hpx8 => ?_)
  rcases Kx8 o M9 hpx8 with ⟨x8, eo, KKx8⟩ | ⟨x8t, eo, KKx8⟩
  · subst eo
    show rb_Bd κ mX23_act (n.1 + n6.1, n.2 + n6.2) M9 12 [some (.ref a0), some (.ref q1), some (.long a2), none] [.int x8, v4]
    obtain ⟨q13, eq13, Kq13⟩ := KKx8
    subst eq13
    obtain ⟨N14, f15, x16, hMx16, hix16, hxx16, Kx16⟩ := Kq13
    refine rc_lald hMx16 hix16 hxx16 dX23_act_12 ?_
    exact rb_lret rfl (Kx16).1.1 (Kx16).1.2 dX23_act_13 (Kx16).2
  · subst eo
    exact KKx8
theorem sgX23_place_0 {κ : rb_K} {n : Nat × Nat} {M : rb_H} {a0 : Nat} {a1 : Value} (ha1 : rb_isR a1) (K : (∃ q1, a1 = .ref q1 ∧ (∃ (v2 : Value), rb_rd M q1 3 1 (v2) ∧ rb_isR v2 ∧ (∃ q3, v2 = .ref q3 ∧ (∃ (v4 : Value), rb_rd M q3 28 2 (v4) ∧ rb_isR v4 ∧ (∃ (ci6 k7 : Nat) (x5 : Int32), rb_FL "RoleLoom$At" 27 ci6 k7 ∧ rb_rd M a0 ci6 k7 (.int x5) ∧ (∃ q8, v4 = .ref q8 ∧ (∃ (N9 : Nat) (f10 : Nat → Int32) (x11 : Int32), M.2 q8 = some (rb_I N9 f10) ∧ vp_in x5 N9 ∧ f10 (x5).toNatClampNeg = x11 ∧ ((0 ≤ x11 → (∃ (v13 : Value), rb_rd M q1 3 1 (v13) ∧ rb_isR v13 ∧ (∃ q14, v13 = .ref q14 ∧ (∃ (v15 : Value), rb_rd M q14 28 0 (v15) ∧ rb_isR v15 ∧ (∃ (ci17 k18 : Nat) (x16 : Int32), rb_FL "RoleLoom$At" 39 ci17 k18 ∧ rb_rd M a0 ci17 k18 (.int x16) ∧ (∃ q19, v15 = .ref q19 ∧ (∃ (N20 : Nat) (f21 : Nat → Int64) (x22 : Int64), M.2 q19 = some (rb_L N20 f21) ∧ vp_in x16 N20 ∧ f21 (x16).toNatClampNeg = x22 ∧ ((x22 < (0 : Int64) → (∃ (ci25 k26 : Nat) (v24 : Value), rb_FL "RoleLoom$At" 3 ci25 k26 ∧ rb_rd M a0 ci25 k26 (v24) ∧ rb_isR v24 ∧ (∃ q27, v24 = .ref q27 ∧ (∃ (d28 : Nat) (n29 : Nat × Nat) (Q30 : Outcome → rb_H → Prop), rb_Ct κ.1 yX0_thrown wX0_thrown d28 n29 [.ref q27, .ref q1, .int (15 : Int32), .long (0 : Int64)] M Q30 ∧ rb_dp κ d28 ∧ rb_rom κ (n.1 + n29.1, n.2 + n29.2) ∧ rb_ob M q27 0 ∧ ∀ (o : Outcome) (M32 : rb_H), Q30 o M32 → (∃ (v31 : Value), o = .returned (some v31) ∧ rb_isR v31 ∧ (∃ q33, v31 = .ref q33 ∧ (rb_fin κ (n.1 + n29.1, n.2 + n29.2) ∧ κ.2.2.1 (.threw q33) M32))))))) ∧ ((0 : Int64) ≤ x22 → (∃ (v34 : Value), rb_rd M q1 3 1 (v34) ∧ rb_isR v34 ∧ (∃ q35, v34 = .ref q35 ∧ (∃ (v36 : Value), rb_rd M q35 28 2 (v36) ∧ rb_isR v36 ∧ (∃ (ci38 k39 : Nat) (x37 : Int32), rb_FL "RoleLoom$At" 27 ci38 k39 ∧ rb_rd M a0 ci38 k39 (.int x37) ∧ (∃ q40, v36 = .ref q40 ∧ (∃ (N41 : Nat) (f42 : Nat → Int32) (x43 : Int32), M.2 q40 = some (rb_I N41 f42) ∧ vp_in x37 N41 ∧ f42 (x37).toNatClampNeg = x43 ∧ ((x22 < (x43).toInt64 → (∃ (ci46 k47 : Nat) (x45 : Int32), rb_FL "RoleLoom$At" 27 ci46 k47 ∧ rb_rd M a0 ci46 k47 (.int x45) ∧ (rb_fin κ n ∧ κ.2.2.1 (.returned (some (.int (((12 : Int32) * x45) + (x22).toInt32)))) M))) ∧ ((x43).toInt64 ≤ x22 → (∃ (ci49 k50 : Nat) (v48 : Value), rb_FL "RoleLoom$At" 3 ci49 k50 ∧ rb_rd M a0 ci49 k50 (v48) ∧ rb_isR v48 ∧ (∃ q51, v48 = .ref q51 ∧ (∃ (d52 : Nat) (n53 : Nat × Nat) (Q54 : Outcome → rb_H → Prop), rb_Ct κ.1 yX0_thrown wX0_thrown d52 n53 [.ref q51, .ref q1, .int (15 : Int32), .long (0 : Int64)] M Q54 ∧ rb_dp κ d52 ∧ rb_rom κ (n.1 + n53.1, n.2 + n53.2) ∧ rb_ob M q51 0 ∧ ∀ (o : Outcome) (M56 : rb_H), Q54 o M56 → (∃ (v55 : Value), o = .returned (some v55) ∧ rb_isR v55 ∧ (∃ q57, v55 = .ref q57 ∧ (rb_fin κ (n.1 + n53.1, n.2 + n53.2) ∧ κ.2.2.1 (.threw q57) M56))))))))))))))))))))))) ∧ (x11 < 0 → (∃ (ci59 k60 : Nat) (v58 : Value), rb_FL "RoleLoom$At" 3 ci59 k60 ∧ rb_rd M a0 ci59 k60 (v58) ∧ rb_isR v58 ∧ (∃ q61, v58 = .ref q61 ∧ (∃ (d62 : Nat) (n63 : Nat × Nat) (Q64 : Outcome → rb_H → Prop), rb_Ct κ.1 yX0_thrown wX0_thrown d62 n63 [.ref q61, .ref q1, .int (14 : Int32), .long (0 : Int64)] M Q64 ∧ rb_dp κ d62 ∧ rb_rom κ (n.1 + n63.1, n.2 + n63.2) ∧ rb_ob M q61 0 ∧ ∀ (o : Outcome) (M66 : rb_H), Q64 o M66 → (∃ (v65 : Value), o = .returned (some v65) ∧ rb_isR v65 ∧ (∃ q67, v65 = .ref q67 ∧ (rb_fin κ (n.1 + n63.1, n.2 + n63.2) ∧ κ.2.2.1 (.threw q67) M66)))))))))))))))) : rb_Bd κ mX23_place n M 0 [some (.ref a0), some a1, none, none] [] := by
  refine rb_aload_n 1 rfl rfl ha1 dX23_place_0 ?_
  obtain ⟨q1, eq1, Kq1⟩ := K
  subst eq1
  obtain ⟨v2, hrv2, hv2, Kv2⟩ := Kq1
  refine rc_get fl_X23_15_3 hrv2 dX23_place_1 ?_
  obtain ⟨q3, eq3, Kq3⟩ := Kv2
  subst eq3
  obtain ⟨v4, hrv4, hv4, Kv4⟩ := Kq3
  refine rc_get fl_X23_21_28 hrv4 dX23_place_4 ?_
  refine rb_aload_n 0 rfl rfl (rb_isR_ref _) dX23_place_7 ?_
  obtain ⟨ci6, k7, x5, hfx5, hrx5, Kx5⟩ := Kv4
  refine rc_get hfx5 hrx5 dX23_place_8 ?_
  obtain ⟨q8, eq8, Kq8⟩ := Kx5
  subst eq8
  obtain ⟨N9, f10, x11, hMx11, hix11, hxx11, Kx11⟩ := Kq8
  refine rc_iald hMx11 hix11 hxx11 dX23_place_11 ?_
  refine rb_ifge 27 (by decide) dX23_place_12 (fun c12 => ?_) (fun c12 => ?_)
  · skip
    refine rb_aload_n 1 rfl rfl (rb_isR_ref _) dX23_place_27 ?_
    obtain ⟨v13, hrv13, hv13, Kv13⟩ := ((Kx11).1 c12)
    refine rc_get fl_X23_15_3 hrv13 dX23_place_28 ?_
    obtain ⟨q14, eq14, Kq14⟩ := Kv13
    subst eq14
    obtain ⟨v15, hrv15, hv15, Kv15⟩ := Kq14
    refine rc_get fl_X23_35_28 hrv15 dX23_place_31 ?_
    refine rb_aload_n 0 rfl rfl (rb_isR_ref _) dX23_place_34 ?_
    obtain ⟨ci17, k18, x16, hfx16, hrx16, Kx16⟩ := Kv15
    refine rc_get hfx16 hrx16 dX23_place_35 ?_
    obtain ⟨q19, eq19, Kq19⟩ := Kx16
    subst eq19
    obtain ⟨N20, f21, x22, hMx22, hix22, hxx22, Kx22⟩ := Kq19
    refine rc_lald hMx22 hix22 hxx22 dX23_place_38 ?_
    refine rb_lstore_n 2 rfl (ls' := [some (.ref a0), some (.ref q1), some (.long x22), none]) (by decide) rfl rfl dX23_place_39 ?_
    refine rb_lload_n 2 rfl rfl dX23_place_40 ?_
    refine rb_lconst (v := (0 : Int64)) (by decide) dX23_place_41 ?_
    refine rb_lc_lt 64 (by decide) dX23_place_42 dX23_place_43 (fun c23 => ?_) (fun c23 => ?_)
    · skip
      refine rb_aload_n 0 rfl rfl (rb_isR_ref _) dX23_place_64 ?_
      obtain ⟨ci25, k26, v24, hfv24, hrv24, hv24, Kv24⟩ := ((Kx22).1 c23)
      refine rc_get hfv24 hrv24 dX23_place_65 ?_
      refine rb_aload_n 1 rfl rfl (rb_isR_ref _) dX23_place_68 ?_
      refine rb_bipush (v := (15 : Int32)) (by decide) dX23_place_69 ?_
      refine rb_lconst (v := (0 : Int64)) (by decide) dX23_place_71 ?_
      obtain ⟨q27, eq27, Kq27⟩ := Kv24
      subst eq27
      obtain ⟨d28, n29, Q30, h1v31, hdv31, hnv31, hov31, Kv31⟩ := Kq27
      refine rb_call st_X23_31_0 (rest := []) h1v31 rfl rfl (rc_rc rfl hov31) (Nat.le_of_ble_eq_true rfl) hdv31.1 hdv31.2 hnv31.1 hnv31.2 dX23_place_72 (fun o M32 hpv31 => ?_)
      obtain ⟨v31, eo, hv31, KKv31⟩ := Kv31 o M32 hpv31
      subst eo
      show rb_Bd κ mX23_place (n.1 + n29.1, n.2 + n29.2) M32 75 [some (.ref a0), some (.ref q1), some (.long x22), none] [v31]
      obtain ⟨q33, eq33, Kq33⟩ := KKv31
      subst eq33
      exact rb_athrow (by decide) (Kq33).1.1 (Kq33).1.2 dX23_place_75 (Kq33).2
    · skip
      refine rb_lload_n 2 rfl rfl dX23_place_46 ?_
      refine rb_aload_n 1 rfl rfl (rb_isR_ref _) dX23_place_47 ?_
      obtain ⟨v34, hrv34, hv34, Kv34⟩ := ((Kx22).2 c23)
      refine rc_get fl_X23_15_3 hrv34 dX23_place_48 ?_
      obtain ⟨q35, eq35, Kq35⟩ := Kv34
      subst eq35
      obtain ⟨v36, hrv36, hv36, Kv36⟩ := Kq35
      refine rc_get fl_X23_21_28 hrv36 dX23_place_51 ?_
      refine rb_aload_n 0 rfl rfl (rb_isR_ref _) dX23_place_54 ?_
      obtain ⟨ci38, k39, x37, hfx37, hrx37, Kx37⟩ := Kv36
      refine rc_get hfx37 hrx37 dX23_place_55 ?_
      obtain ⟨q40, eq40, Kq40⟩ := Kx37
      subst eq40
      obtain ⟨N41, f42, x43, hMx43, hix43, hxx43, Kx43⟩ := Kq40
      refine rc_iald hMx43 hix43 hxx43 dX23_place_58 ?_
      refine rb_i2l (z := (x43).toInt64) rfl dX23_place_59 ?_
      refine rb_lc_lt 76 (by decide) dX23_place_60 dX23_place_61 (fun c44 => ?_) (fun c44 => ?_)
      · skip
        refine rb_bipush (v := (12 : Int32)) (by decide) dX23_place_76 ?_
        refine rb_aload_n 0 rfl rfl (rb_isR_ref _) dX23_place_78 ?_
        obtain ⟨ci46, k47, x45, hfx45, hrx45, Kx45⟩ := ((Kx43).1 c44)
        refine rc_get hfx45 hrx45 dX23_place_79 ?_
        refine rb_imul (z := ((12 : Int32) * x45)) rfl dX23_place_82 ?_
        refine rb_lload_n 2 rfl rfl dX23_place_83 ?_
        refine rb_l2i (z := (x22).toInt32) rfl dX23_place_84 ?_
        refine rb_iadd (z := (((12 : Int32) * x45) + (x22).toInt32)) rfl dX23_place_85 ?_
        exact rb_iret rfl rfl (Kx45).1.1 (Kx45).1.2 dX23_place_86 (Kx45).2
      · skip
        refine rb_aload_n 0 rfl rfl (rb_isR_ref _) dX23_place_64 ?_
        obtain ⟨ci49, k50, v48, hfv48, hrv48, hv48, Kv48⟩ := ((Kx43).2 c44)
        refine rc_get hfv48 hrv48 dX23_place_65 ?_
        refine rb_aload_n 1 rfl rfl (rb_isR_ref _) dX23_place_68 ?_
        refine rb_bipush (v := (15 : Int32)) (by decide) dX23_place_69 ?_
        refine rb_lconst (v := (0 : Int64)) (by decide) dX23_place_71 ?_
        obtain ⟨q51, eq51, Kq51⟩ := Kv48
        subst eq51
        obtain ⟨d52, n53, Q54, h1v55, hdv55, hnv55, hov55, Kv55⟩ := Kq51
        refine rb_call st_X23_31_0 (rest := []) h1v55 rfl rfl (rc_rc rfl hov55) (Nat.le_of_ble_eq_true rfl) hdv55.1 hdv55.2 hnv55.1 hnv55.2 dX23_place_72 (fun o M56 hpv55 => ?_)
        obtain ⟨v55, eo, hv55, KKv55⟩ := Kv55 o M56 hpv55
        subst eo
        show rb_Bd κ mX23_place (n.1 + n53.1, n.2 + n53.2) M56 75 [some (.ref a0), some (.ref q1), some (.long x22), none] [v55]
        obtain ⟨q57, eq57, Kq57⟩ := KKv55
        subst eq57
        exact rb_athrow (by decide) (Kq57).1.1 (Kq57).1.2 dX23_place_75 (Kq57).2
  · skip
    refine rb_aload_n 0 rfl rfl (rb_isR_ref _) dX23_place_15 ?_
    obtain ⟨ci59, k60, v58, hfv58, hrv58, hv58, Kv58⟩ := ((Kx11).2 c12)
    refine rc_get hfv58 hrv58 dX23_place_16 ?_
    refine rb_aload_n 1 rfl rfl (rb_isR_ref _) dX23_place_19 ?_
    refine rb_bipush (v := (14 : Int32)) (by decide) dX23_place_20 ?_
    refine rb_lconst (v := (0 : Int64)) (by decide) dX23_place_22 ?_
    obtain ⟨q61, eq61, Kq61⟩ := Kv58
    subst eq61
    obtain ⟨d62, n63, Q64, h1v65, hdv65, hnv65, hov65, Kv65⟩ := Kq61
    refine rb_call st_X23_31_0 (rest := []) h1v65 rfl rfl (rc_rc rfl hov65) (Nat.le_of_ble_eq_true rfl) hdv65.1 hdv65.2 hnv65.1 hnv65.2 dX23_place_23 (fun o M66 hpv65 => ?_)
    obtain ⟨v65, eo, hv65, KKv65⟩ := Kv65 o M66 hpv65
    subst eo
    show rb_Bd κ mX23_place (n.1 + n63.1, n.2 + n63.2) M66 26 [some (.ref a0), some (.ref q1), none, none] [v65]
    obtain ⟨q67, eq67, Kq67⟩ := KKv65
    subst eq67
    exact rb_athrow (by decide) (Kq67).1.1 (Kq67).1.2 dX23_place_26 (Kq67).2
theorem sgX24_init_0 {κ : rb_K} {n : Nat × Nat} {M : rb_H} {a0 : Nat} {a1 : Value} {a2 : Int32} {a3 : Int32} (ha1 : rb_isR a1) (K : (∃ (ci2 k3 : Nat) (fs1 : List Value), rb_FL "RoleLoom$Lay" 1 ci2 k3 ∧ (∀ q : vw_C, rb_cl[ci2]? = some q → (q.2.1 k3).2.2.2 = false ∨ ("RoleLoom$Lay" = (q.2.1 k3).1 ∧ "<init>" = "<init>")) ∧ narrow (rb_ty ci2 k3) a1 = a1 ∧ fits (rb_ty ci2 k3) a1 = true ∧ M.2 a0 = some (rb_O ci2 fs1) ∧ k3 < fs1.length ∧ (∃ (ci9 : Nat) (d4 : Nat) (n5 : Nat × Nat) (Q6 : Outcome → rb_H → Prop), rb_Ct κ.1 yX23_init wX23_init d4 n5 [.ref a0, a1, .int a2, .int a3] (rb_up M a0 (rb_O ci2 (fs1.set k3 a1))) Q6 ∧ rb_dp κ d4 ∧ rb_rom κ (n.1 + n5.1, n.2 + n5.2) ∧ rb_ob (rb_up M a0 (rb_O ci2 (fs1.set k3 a1))) a0 ci9 ∧ ∀ (o : Outcome) (M8 : rb_H), Q6 o M8 → (o = .returned none ∧ (rb_fin κ (n.1 + n5.1, n.2 + n5.2) ∧ κ.2.2.1 (.returned none) M8))))) : rb_Bd κ mX24_init n M 0 [some (.ref a0), some a1, some (.int a2), some (.int a3)] [] := by
  refine rb_aload_n 0 rfl rfl (rb_isR_ref _) dX24_init_0 ?_
  refine rb_aload_n 1 rfl rfl ha1 dX24_init_1 ?_
  obtain ⟨ci2, k3, fs1, hffs1, hgfs1, hnfs1, hmfs1, hMfs1, hlfs1, Kfs1⟩ := K
  refine rb_put hffs1 hgfs1 hnfs1 hmfs1 hMfs1 hlfs1 dX24_init_2 ?_
  refine rb_aload_n 0 rfl rfl (rb_isR_ref _) dX24_init_5 ?_
  refine rb_aload_n 1 rfl rfl ha1 dX24_init_6 ?_
  refine rb_iload_n 2 rfl rfl dX24_init_7 ?_
  refine rb_iload_n 3 rfl rfl dX24_init_8 ?_
  obtain ⟨ci9, d4, n5, Q6, h1v7, hdv7, hnv7, hov7, Kv7⟩ := Kfs1
  refine rb_call (st_X24_7 ci9) (rest := []) h1v7 rfl rfl (rc_rc rfl hov7) (Nat.le_of_ble_eq_true rfl) hdv7.1 hdv7.2 hnv7.1 hnv7.2 dX24_init_9 (fun o M8 hpv7 => ?_)
  obtain ⟨eo, KKv7⟩ := Kv7 o M8 hpv7
  subst eo
  show rb_Bd κ mX24_init (n.1 + n5.1, n.2 + n5.2) M8 12 [some (.ref a0), some a1, some (.int a2), some (.int a3)] []
  exact rb_vret rfl (KKv7).1.1 (KKv7).1.2 dX24_init_12 (KKv7).2
theorem sgX24_act_0 {κ : rb_K} {n : Nat × Nat} {M : rb_H} {a0 : Nat} {a1 : Value} {a2 : Int64} (ha1 : rb_isR a1) (K : (∃ q1, a1 = .ref q1 ∧ (∃ (v2 : Value), rb_rd M q1 3 1 (v2) ∧ rb_isR v2 ∧ (∃ q3, v2 = .ref q3 ∧ (∃ (v4 : Value), rb_rd M q3 28 1 (v4) ∧ rb_isR v4 ∧ (∃ (d5 : Nat) (n6 : Nat × Nat) (Q7 : Outcome → rb_H → Prop), rb_Ct κ.1 yX23_place wX23_place d5 n6 [.ref a0, .ref q1] M Q7 ∧ rb_dp κ d5 ∧ rb_rom κ (n.1 + n6.1, n.2 + n6.2) ∧ rb_ob M a0 24 ∧ ∀ (o : Outcome) (M9 : rb_H), Q7 o M9 → ((∃ (x8 : Int32), o = .returned (some (.int x8)) ∧ (∃ q10, v4 = .ref q10 ∧ (∃ (N11 : Nat) (f12 : Nat → Int64), M9.2 q10 = some (rb_L N11 f12) ∧ vp_in x8 N11 ∧ (rb_fin κ (n.1 + n6.1, n.2 + n6.2) ∧ κ.2.2.1 (.returned (some (.long a2))) (rb_up M9 q10 (rb_L N11 (va_up f12 (x8).toNatClampNeg a2))))))) ∨ (∃ x8t, o = .threw x8t ∧ rb_Th κ mX24_act (n.1 + n6.1, n.2 + n6.2) M9 9 [some (.ref a0), some (.ref q1), some (.long a2), none] x8t)))))))) : rb_Bd κ mX24_act n M 0 [some (.ref a0), some a1, some (.long a2), none] [] := by
  refine rb_aload_n 1 rfl rfl ha1 dX24_act_0 ?_
  obtain ⟨q1, eq1, Kq1⟩ := K
  subst eq1
  obtain ⟨v2, hrv2, hv2, Kv2⟩ := Kq1
  refine rc_get fl_X24_13_3 hrv2 dX24_act_1 ?_
  obtain ⟨q3, eq3, Kq3⟩ := Kv2
  subst eq3
  obtain ⟨v4, hrv4, hv4, Kv4⟩ := Kq3
  refine rc_get fl_X24_19_28 hrv4 dX24_act_4 ?_
  refine rb_aload_n 0 rfl rfl (rb_isR_ref _) dX24_act_7 ?_
  refine rb_aload_n 1 rfl rfl (rb_isR_ref _) dX24_act_8 ?_
  obtain ⟨d5, n6, Q7, h1x8, hdx8, hnx8, hox8, Kx8⟩ := Kv4
  refine rb_call st_X24_25_24 (rest := [v4]) h1x8 rfl rfl (rc_rc rfl hox8) (by simp [rb_isR_cat hv4, rb_cR, rb_cI, rb_cJ, rb_cN]) hdx8.1 hdx8.2 hnx8.1 hnx8.2 dX24_act_9 (fun o M9 hpx8 => ?_)
  rcases Kx8 o M9 hpx8 with ⟨x8, eo, KKx8⟩ | ⟨x8t, eo, KKx8⟩
  · subst eo
    show rb_Bd κ mX24_act (n.1 + n6.1, n.2 + n6.2) M9 12 [some (.ref a0), some (.ref q1), some (.long a2), none] [.int x8, v4]
    refine rb_lload_n 2 rfl rfl dX24_act_12 ?_
    obtain ⟨q10, eq10, Kq10⟩ := KKx8
    subst eq10
    obtain ⟨N11, f12, hMf12, hif12, Kf12⟩ := Kq10
    refine rb_last hMf12 hif12 dX24_act_13 ?_
    refine rb_lload_n 2 rfl rfl dX24_act_14 ?_
    exact rb_lret rfl (Kf12).1.1 (Kf12).1.2 dX24_act_15 (Kf12).2
  · subst eo
    exact KKx8
theorem sgX25_init_0 {κ : rb_K} {n : Nat × Nat} {M : rb_H} {a0 : Nat} {a1 : Value} {a2 : Int32} {a3 : Int32} (ha1 : rb_isR a1) (K : (∃ (ci2 k3 : Nat) (fs1 : List Value), rb_FL "RoleLoom$Ask" 3 ci2 k3 ∧ (∀ q : vw_C, rb_cl[ci2]? = some q → (q.2.1 k3).2.2.2 = false ∨ ("RoleLoom$Ask" = (q.2.1 k3).1 ∧ "<init>" = "<init>")) ∧ narrow (rb_ty ci2 k3) a1 = a1 ∧ fits (rb_ty ci2 k3) a1 = true ∧ M.2 a0 = some (rb_O ci2 fs1) ∧ k3 < fs1.length ∧ (∃ (ci9 : Nat) (d4 : Nat) (n5 : Nat × Nat) (Q6 : Outcome → rb_H → Prop), rb_Ct κ.1 yX17_init wX17_init d4 n5 [.ref a0, a1, .int a2, .int a3] (rb_up M a0 (rb_O ci2 (fs1.set k3 a1))) Q6 ∧ rb_dp κ d4 ∧ rb_rom κ (n.1 + n5.1, n.2 + n5.2) ∧ rb_ob (rb_up M a0 (rb_O ci2 (fs1.set k3 a1))) a0 ci9 ∧ ∀ (o : Outcome) (M8 : rb_H), Q6 o M8 → (o = .returned none ∧ (rb_fin κ (n.1 + n5.1, n.2 + n5.2) ∧ κ.2.2.1 (.returned none) M8))))) : rb_Bd κ mX25_init n M 0 [some (.ref a0), some a1, some (.int a2), some (.int a3)] [] := by
  refine rb_aload_n 0 rfl rfl (rb_isR_ref _) dX25_init_0 ?_
  refine rb_aload_n 1 rfl rfl ha1 dX25_init_1 ?_
  obtain ⟨ci2, k3, fs1, hffs1, hgfs1, hnfs1, hmfs1, hMfs1, hlfs1, Kfs1⟩ := K
  refine rb_put hffs1 hgfs1 hnfs1 hmfs1 hMfs1 hlfs1 dX25_init_2 ?_
  refine rb_aload_n 0 rfl rfl (rb_isR_ref _) dX25_init_5 ?_
  refine rb_aload_n 1 rfl rfl ha1 dX25_init_6 ?_
  refine rb_iload_n 2 rfl rfl dX25_init_7 ?_
  refine rb_iload_n 3 rfl rfl dX25_init_8 ?_
  obtain ⟨ci9, d4, n5, Q6, h1v7, hdv7, hnv7, hov7, Kv7⟩ := Kfs1
  refine rb_call (st_X25_9 ci9) (rest := []) h1v7 rfl rfl (rc_rc rfl hov7) (Nat.le_of_ble_eq_true rfl) hdv7.1 hdv7.2 hnv7.1 hnv7.2 dX25_init_9 (fun o M8 hpv7 => ?_)
  obtain ⟨eo, KKv7⟩ := Kv7 o M8 hpv7
  subst eo
  show rb_Bd κ mX25_init (n.1 + n5.1, n.2 + n5.2) M8 12 [some (.ref a0), some a1, some (.int a2), some (.int a3)] []
  exact rb_vret rfl (KKv7).1.1 (KKv7).1.2 dX25_init_12 (KKv7).2
theorem sgX25_fits_0 {κ : rb_K} {n : Nat × Nat} {M : rb_H} {a0 : Nat} {a1 : Value} (ha1 : rb_isR a1) (K : (∃ (ci2 k3 : Nat) (x1 : Int32), rb_FL "RoleLoom$Ask" 27 ci2 k3 ∧ rb_rd M a0 ci2 k3 (.int x1) ∧ (∃ q4, a1 = .ref q4 ∧ (∃ (x5 : Int32), rb_rd M q4 5 3 (.int x5) ∧ (∃ (d6 : Nat) (n7 : Nat × Nat) (Q8 : Outcome → rb_H → Prop), rb_Ct κ.1 yX0_in wX0_in d6 n7 [.int x1, .int (0 : Int32), .int (x5 - (1 : Int32))] M Q8 ∧ rb_dp κ d6 ∧ rb_rom κ (n.1 + n7.1, n.2 + n7.2) ∧ ∀ (o : Outcome) (M10 : rb_H), Q8 o M10 → (∃ (x9 : Int32), o = .returned (some (.int x9)) ∧ ((x9 = 0 → (rb_fin κ (n.1 + n7.1, n.2 + n7.2) ∧ κ.2.2.1 (.returned (some (.int (0 : Int32)))) M10)) ∧ (¬ x9 = 0 → (∃ (ci13 k14 : Nat) (x12 : Int32), rb_FL "RoleLoom$Ask" 35 ci13 k14 ∧ rb_rd M10 a0 ci13 k14 (.int x12) ∧ (∃ (d15 : Nat) (n16 : Nat × Nat) (Q17 : Outcome → rb_H → Prop), rb_Ct κ.1 yX0_in wX0_in d15 n16 [.int x12, .int (0 : Int32), .int (11 : Int32)] M10 Q17 ∧ rb_dp κ d15 ∧ rb_rom κ (n.1 + n7.1 + n16.1, n.2 + n7.2 + n16.2) ∧ ∀ (o : Outcome) (M19 : rb_H), Q17 o M19 → (∃ (x18 : Int32), o = .returned (some (.int x18)) ∧ ((x18 = 0 → (rb_fin κ (n.1 + n7.1 + n16.1, n.2 + n7.2 + n16.2) ∧ κ.2.2.1 (.returned (some (.int (0 : Int32)))) M19)) ∧ (¬ x18 = 0 → (rb_fin κ (n.1 + n7.1 + n16.1, n.2 + n7.2 + n16.2) ∧ κ.2.2.1 (.returned (some (.int (1 : Int32)))) M19)))))))))))))) : rb_Bd κ mX25_fits n M 0 [some (.ref a0), some a1] [] := by
  refine rb_aload_n 0 rfl rfl (rb_isR_ref _) dX25_fits_0 ?_
  obtain ⟨ci2, k3, x1, hfx1, hrx1, Kx1⟩ := K
  refine rc_get hfx1 hrx1 dX25_fits_1 ?_
  refine rb_iconst (v := (0 : Int32)) (by decide) dX25_fits_4 ?_
  refine rb_aload_n 1 rfl rfl ha1 dX25_fits_5 ?_
  obtain ⟨q4, eq4, Kq4⟩ := Kx1
  subst eq4
  obtain ⟨x5, hrx5, Kx5⟩ := Kq4
  refine rc_get fl_X25_42_5 hrx5 dX25_fits_6 ?_
  refine rb_iconst (v := (1 : Int32)) (by decide) dX25_fits_9 ?_
  refine rb_isub (z := (x5 - (1 : Int32))) rfl dX25_fits_10 ?_
  obtain ⟨d6, n7, Q8, h1x9, hdx9, hnx9, Kx9⟩ := Kx5
  refine rb_call st_X25_46 (rest := []) h1x9 rfl rfl mm_rn (Nat.le_of_ble_eq_true rfl) hdx9.1 hdx9.2 hnx9.1 hnx9.2 dX25_fits_11 (fun o M10 hpx9 => ?_)
  obtain ⟨x9, eo, KKx9⟩ := Kx9 o M10 hpx9
  subst eo
  show rb_Bd κ mX25_fits (n.1 + n7.1, n.2 + n7.2) M10 14 [some (.ref a0), some (.ref q4)] [.int x9]
  refine rb_ifeq 34 (by decide) dX25_fits_14 (fun c11 => ?_) (fun c11 => ?_)
  · skip
    refine rb_iconst (v := (0 : Int32)) (by decide) dX25_fits_34 ?_
    exact rb_iret rfl (by decide) (((KKx9).1 c11)).1.1 (((KKx9).1 c11)).1.2 dX25_fits_35 (((KKx9).1 c11)).2
  · skip
    refine rb_aload_n 0 rfl rfl (rb_isR_ref _) dX25_fits_17 ?_
    obtain ⟨ci13, k14, x12, hfx12, hrx12, Kx12⟩ := ((KKx9).2 c11)
    refine rc_get hfx12 hrx12 dX25_fits_18 ?_
    refine rb_iconst (v := (0 : Int32)) (by decide) dX25_fits_21 ?_
    refine rb_bipush (v := (11 : Int32)) (by decide) dX25_fits_22 ?_
    obtain ⟨d15, n16, Q17, h1x18, hdx18, hnx18, Kx18⟩ := Kx12
    refine rb_call st_X25_46 (rest := []) h1x18 rfl rfl mm_rn (Nat.le_of_ble_eq_true rfl) hdx18.1 hdx18.2 hnx18.1 hnx18.2 dX25_fits_24 (fun o M19 hpx18 => ?_)
    obtain ⟨x18, eo, KKx18⟩ := Kx18 o M19 hpx18
    subst eo
    show rb_Bd κ mX25_fits (n.1 + n7.1 + n16.1, n.2 + n7.2 + n16.2) M19 27 [some (.ref a0), some (.ref q4)] [.int x18]
    refine rb_ifeq 34 (by decide) dX25_fits_27 (fun c20 => ?_) (fun c20 => ?_)
    · skip
      refine rb_iconst (v := (0 : Int32)) (by decide) dX25_fits_34 ?_
      exact rb_iret rfl (by decide) (((KKx18).1 c20)).1.1 (((KKx18).1 c20)).1.2 dX25_fits_35 (((KKx18).1 c20)).2
    · skip
      refine rb_iconst (v := (1 : Int32)) (by decide) dX25_fits_30 ?_
      refine rb_goto 35 (by decide) dX25_fits_31 ?_
      exact rb_iret rfl (by decide) (((KKx18).2 c20)).1.1 (((KKx18).2 c20)).1.2 dX25_fits_35 (((KKx18).2 c20)).2
theorem sgX25_act_0 {κ : rb_K} {n : Nat × Nat} {M : rb_H} {a0 : Nat} {a1 : Value} {a2 : Int64} (ha1 : rb_isR a1) (K : (∃ q1, a1 = .ref q1 ∧ (∃ (v2 : Value), rb_rd M q1 3 1 (v2) ∧ rb_isR v2 ∧ (∃ q3, v2 = .ref q3 ∧ (∃ (v4 : Value), rb_rd M q3 28 3 (v4) ∧ rb_isR v4 ∧ (∃ (ci6 k7 : Nat) (x5 : Int32), rb_FL "RoleLoom$Ask" 27 ci6 k7 ∧ rb_rd M a0 ci6 k7 (.int x5) ∧ (∃ q8, v4 = .ref q8 ∧ (∃ (t12 N9 : Nat) (f10 : Nat → Option Nat) (v11 : Value), M.2 q8 = some (rb_R t12 N9 f10) ∧ (3 ≤ t12 ∧ t12 ≤ 6) ∧ vp_in x5 N9 ∧ va_rf (f10 (x5).toNatClampNeg) = v11 ∧ ((v11 = .null → (∃ (ci23 k24 : Nat) (v22 : Value), rb_FL "RoleLoom$Ask" 3 ci23 k24 ∧ rb_rd M a0 ci23 k24 (v22) ∧ rb_isR v22 ∧ (∃ q25, v22 = .ref q25 ∧ (∃ (d26 : Nat) (n27 : Nat × Nat) (Q28 : Outcome → rb_H → Prop), rb_Ct κ.1 yX0_thrown wX0_thrown d26 n27 [.ref q25, .ref q1, .int (14 : Int32), .long (0 : Int64)] M Q28 ∧ rb_dp κ d26 ∧ rb_rom κ (n.1 + n27.1, n.2 + n27.2) ∧ rb_ob M q25 0 ∧ ∀ (o : Outcome) (M30 : rb_H), Q28 o M30 → (∃ (v29 : Value), o = .returned (some v29) ∧ rb_isR v29 ∧ (∃ q31, v29 = .ref q31 ∧ (rb_fin κ (n.1 + n27.1, n.2 + n27.2) ∧ κ.2.2.1 (.threw q31) M30))))))) ∧ (∀ q13, v11 = .ref q13 → (∃ (ci15 k16 : Nat) (x14 : Int32), rb_FL "RoleLoom$Ask" 35 ci15 k16 ∧ rb_rd M a0 ci15 k16 (.int x14) ∧ (∃ (d17 : Nat) (n18 : Nat × Nat) (Q19 : Outcome → rb_H → Prop), rb_Ct κ.1 yX17_on wX17_on d17 n18 [.ref a0, .ref q1, .ref q13, .int x14, .long a2] M Q19 ∧ rb_dp κ d17 ∧ rb_rom κ (n.1 + n18.1, n.2 + n18.2) ∧ rb_ob M a0 25 ∧ ∀ (o : Outcome) (M21 : rb_H), Q19 o M21 → ((∃ (x20 : Int64), o = .returned (some (.long x20)) ∧ (rb_fin κ (n.1 + n18.1, n.2 + n18.2) ∧ κ.2.2.1 (.returned (some (.long x20))) M21)) ∨ (∃ x20t, o = .threw x20t ∧ rb_Th κ mX25_act (n.1 + n18.1, n.2 + n18.2) M21 40 [some (.ref a0), some (.ref q1), some (.long a2), none, some (.ref q13)] x20t)))))))))))))) : rb_Bd κ mX25_act n M 0 [some (.ref a0), some a1, some (.long a2), none, none] [] := by
  refine rb_aload_n 1 rfl rfl ha1 dX25_act_0 ?_
  obtain ⟨q1, eq1, Kq1⟩ := K
  subst eq1
  obtain ⟨v2, hrv2, hv2, Kv2⟩ := Kq1
  refine rc_get fl_X25_15_3 hrv2 dX25_act_1 ?_
  obtain ⟨q3, eq3, Kq3⟩ := Kv2
  subst eq3
  obtain ⟨v4, hrv4, hv4, Kv4⟩ := Kq3
  refine rc_get fl_X25_21_28 hrv4 dX25_act_4 ?_
  refine rb_aload_n 0 rfl rfl (rb_isR_ref _) dX25_act_7 ?_
  obtain ⟨ci6, k7, x5, hfx5, hrx5, Kx5⟩ := Kv4
  refine rc_get hfx5 hrx5 dX25_act_8 ?_
  obtain ⟨q8, eq8, Kq8⟩ := Kx5
  subst eq8
  obtain ⟨t12, N9, f10, v11, hMv11, htv11, hiv11, hxv11, Kv11⟩ := Kq8
  have hv11 := rc_isRf hxv11
  refine rc_aald hMv11 htv11 hiv11 hxv11 dX25_act_11 ?_
  refine rb_astore (ls' := [some (.ref a0), some (.ref q1), some (.long a2), none, some v11]) (by decide) rfl rfl hv11 dX25_act_12 ?_
  refine rb_aload rfl hv11 dX25_act_14 ?_
  refine rb_ifnonnull hv11 31 (by decide) dX25_act_16 (fun q13 e => ?_) (fun e => ?_)
  · subst e
    refine rb_aload_n 0 rfl rfl (rb_isR_ref _) dX25_act_31 ?_
    refine rb_aload_n 1 rfl rfl (rb_isR_ref _) dX25_act_32 ?_
    refine rb_aload rfl (rb_isR_ref _) dX25_act_33 ?_
    refine rb_aload_n 0 rfl rfl (rb_isR_ref _) dX25_act_35 ?_
    obtain ⟨ci15, k16, x14, hfx14, hrx14, Kx14⟩ := ((Kv11).2 q13 rfl)
    refine rc_get hfx14 hrx14 dX25_act_36 ?_
    refine rb_lload_n 2 rfl rfl dX25_act_39 ?_
    obtain ⟨d17, n18, Q19, h1x20, hdx20, hnx20, hox20, Kx20⟩ := Kx14
    refine rb_call st_X25_38_25 (rest := []) h1x20 rfl rfl (rc_rc rfl hox20) (Nat.le_of_ble_eq_true rfl) hdx20.1 hdx20.2 hnx20.1 hnx20.2 dX25_act_40 (fun o M21 hpx20 => ?_)
    rcases Kx20 o M21 hpx20 with ⟨x20, eo, KKx20⟩ | ⟨x20t, eo, KKx20⟩
    · subst eo
      show rb_Bd κ mX25_act (n.1 + n18.1, n.2 + n18.2) M21 43 [some (.ref a0), some (.ref q1), some (.long a2), none, some (.ref q13)] [.long x20]
      exact rb_lret rfl (KKx20).1.1 (KKx20).1.2 dX25_act_43 (KKx20).2
    · subst eo
      exact KKx20
  · subst e
    refine rb_aload_n 0 rfl rfl (rb_isR_ref _) dX25_act_19 ?_
    obtain ⟨ci23, k24, v22, hfv22, hrv22, hv22, Kv22⟩ := ((Kv11).1 rfl)
    refine rc_get hfv22 hrv22 dX25_act_20 ?_
    refine rb_aload_n 1 rfl rfl (rb_isR_ref _) dX25_act_23 ?_
    refine rb_bipush (v := (14 : Int32)) (by decide) dX25_act_24 ?_
    refine rb_lconst (v := (0 : Int64)) (by decide) dX25_act_26 ?_
    obtain ⟨q25, eq25, Kq25⟩ := Kv22
    subst eq25
    obtain ⟨d26, n27, Q28, h1v29, hdv29, hnv29, hov29, Kv29⟩ := Kq25
    refine rb_call st_X25_31_0 (rest := []) h1v29 rfl rfl (rc_rc rfl hov29) (Nat.le_of_ble_eq_true rfl) hdv29.1 hdv29.2 hnv29.1 hnv29.2 dX25_act_27 (fun o M30 hpv29 => ?_)
    obtain ⟨v29, eo, hv29, KKv29⟩ := Kv29 o M30 hpv29
    subst eo
    show rb_Bd κ mX25_act (n.1 + n27.1, n.2 + n27.2) M30 30 [some (.ref a0), some (.ref q1), some (.long a2), none, some (.null)] [v29]
    obtain ⟨q31, eq31, Kq31⟩ := KKv29
    subst eq31
    exact rb_athrow (by decide) (Kq31).1.1 (Kq31).1.2 dX25_act_30 (Kq31).2
theorem sgX26_init_0 {κ : rb_K} {n : Nat × Nat} {M : rb_H} {a0 : Nat} {a1 : Value} {a2 : Int32} {a3 : Int32} (ha1 : rb_isR a1) (K : (∃ (ci2 k3 : Nat) (fs1 : List Value), rb_FL "RoleLoom$As" 3 ci2 k3 ∧ (∀ q : vw_C, rb_cl[ci2]? = some q → (q.2.1 k3).2.2.2 = false ∨ ("RoleLoom$As" = (q.2.1 k3).1 ∧ "<init>" = "<init>")) ∧ narrow (rb_ty ci2 k3) a1 = a1 ∧ fits (rb_ty ci2 k3) a1 = true ∧ M.2 a0 = some (rb_O ci2 fs1) ∧ k3 < fs1.length ∧ (∃ (ci9 : Nat) (d4 : Nat) (n5 : Nat × Nat) (Q6 : Outcome → rb_H → Prop), rb_Ct κ.1 yX7_init wX7_init d4 n5 [.ref a0, a1, .int a2, .int a3] (rb_up M a0 (rb_O ci2 (fs1.set k3 a1))) Q6 ∧ rb_dp κ d4 ∧ rb_rom κ (n.1 + n5.1, n.2 + n5.2) ∧ rb_ob (rb_up M a0 (rb_O ci2 (fs1.set k3 a1))) a0 ci9 ∧ ∀ (o : Outcome) (M8 : rb_H), Q6 o M8 → (o = .returned none ∧ (rb_fin κ (n.1 + n5.1, n.2 + n5.2) ∧ κ.2.2.1 (.returned none) M8))))) : rb_Bd κ mX26_init n M 0 [some (.ref a0), some a1, some (.int a2), some (.int a3)] [] := by
  refine rb_aload_n 0 rfl rfl (rb_isR_ref _) dX26_init_0 ?_
  refine rb_aload_n 1 rfl rfl ha1 dX26_init_1 ?_
  obtain ⟨ci2, k3, fs1, hffs1, hgfs1, hnfs1, hmfs1, hMfs1, hlfs1, Kfs1⟩ := K
  refine rb_put hffs1 hgfs1 hnfs1 hmfs1 hMfs1 hlfs1 dX26_init_2 ?_
  refine rb_aload_n 0 rfl rfl (rb_isR_ref _) dX26_init_5 ?_
  refine rb_aload_n 1 rfl rfl ha1 dX26_init_6 ?_
  refine rb_iload_n 2 rfl rfl dX26_init_7 ?_
  refine rb_iload_n 3 rfl rfl dX26_init_8 ?_
  obtain ⟨ci9, d4, n5, Q6, h1v7, hdv7, hnv7, hov7, Kv7⟩ := Kfs1
  refine rb_call (st_X26_9 ci9) (rest := []) h1v7 rfl rfl (rc_rc rfl hov7) (Nat.le_of_ble_eq_true rfl) hdv7.1 hdv7.2 hnv7.1 hnv7.2 dX26_init_9 (fun o M8 hpv7 => ?_)
  obtain ⟨eo, KKv7⟩ := Kv7 o M8 hpv7
  subst eo
  show rb_Bd κ mX26_init (n.1 + n5.1, n.2 + n5.2) M8 12 [some (.ref a0), some a1, some (.int a2), some (.int a3)] []
  exact rb_vret rfl (KKv7).1.1 (KKv7).1.2 dX26_init_12 (KKv7).2
theorem sgX26_fits_0 {κ : rb_K} {n : Nat × Nat} {M : rb_H} {a0 : Nat} {a1 : Value} (ha1 : rb_isR a1) (K : (∃ (ci2 k3 : Nat) (x1 : Int32), rb_FL "RoleLoom$As" 27 ci2 k3 ∧ rb_rd M a0 ci2 k3 (.int x1) ∧ (∃ q4, a1 = .ref q4 ∧ (∃ (x5 : Int32), rb_rd M q4 5 3 (.int x5) ∧ (∃ (d6 : Nat) (n7 : Nat × Nat) (Q8 : Outcome → rb_H → Prop), rb_Ct κ.1 yX0_in wX0_in d6 n7 [.int x1, .int (0 : Int32), .int (x5 - (1 : Int32))] M Q8 ∧ rb_dp κ d6 ∧ rb_rom κ (n.1 + n7.1, n.2 + n7.2) ∧ ∀ (o : Outcome) (M10 : rb_H), Q8 o M10 → (∃ (x9 : Int32), o = .returned (some (.int x9)) ∧ ((x9 = 0 → (rb_fin κ (n.1 + n7.1, n.2 + n7.2) ∧ κ.2.2.1 (.returned (some (.int (0 : Int32)))) M10)) ∧ (¬ x9 = 0 → (∃ (ci13 k14 : Nat) (x12 : Int32), rb_FL "RoleLoom$As" 35 ci13 k14 ∧ rb_rd M10 a0 ci13 k14 (.int x12) ∧ (∃ (d15 : Nat) (n16 : Nat × Nat) (Q17 : Outcome → rb_H → Prop), rb_Ct κ.1 yX0_in wX0_in d15 n16 [.int x12, .int (0 : Int32), .int (23 : Int32)] M10 Q17 ∧ rb_dp κ d15 ∧ rb_rom κ (n.1 + n7.1 + n16.1, n.2 + n7.2 + n16.2) ∧ ∀ (o : Outcome) (M19 : rb_H), Q17 o M19 → (∃ (x18 : Int32), o = .returned (some (.int x18)) ∧ ((x18 = 0 → (rb_fin κ (n.1 + n7.1 + n16.1, n.2 + n7.2 + n16.2) ∧ κ.2.2.1 (.returned (some (.int (0 : Int32)))) M19)) ∧ (¬ x18 = 0 → (rb_fin κ (n.1 + n7.1 + n16.1, n.2 + n7.2 + n16.2) ∧ κ.2.2.1 (.returned (some (.int (1 : Int32)))) M19)))))))))))))) : rb_Bd κ mX26_fits n M 0 [some (.ref a0), some a1] [] := by
  refine rb_aload_n 0 rfl rfl (rb_isR_ref _) dX26_fits_0 ?_
  obtain ⟨ci2, k3, x1, hfx1, hrx1, Kx1⟩ := K
  refine rc_get hfx1 hrx1 dX26_fits_1 ?_
  refine rb_iconst (v := (0 : Int32)) (by decide) dX26_fits_4 ?_
  refine rb_aload_n 1 rfl rfl ha1 dX26_fits_5 ?_
  obtain ⟨q4, eq4, Kq4⟩ := Kx1
  subst eq4
  obtain ⟨x5, hrx5, Kx5⟩ := Kq4
  refine rc_get fl_X26_64_5 hrx5 dX26_fits_6 ?_
  refine rb_iconst (v := (1 : Int32)) (by decide) dX26_fits_9 ?_
  refine rb_isub (z := (x5 - (1 : Int32))) rfl dX26_fits_10 ?_
  obtain ⟨d6, n7, Q8, h1x9, hdx9, hnx9, Kx9⟩ := Kx5
  refine rb_call st_X26_68 (rest := []) h1x9 rfl rfl mm_rn (Nat.le_of_ble_eq_true rfl) hdx9.1 hdx9.2 hnx9.1 hnx9.2 dX26_fits_11 (fun o M10 hpx9 => ?_)
  obtain ⟨x9, eo, KKx9⟩ := Kx9 o M10 hpx9
  subst eo
  show rb_Bd κ mX26_fits (n.1 + n7.1, n.2 + n7.2) M10 14 [some (.ref a0), some (.ref q4)] [.int x9]
  refine rb_ifeq 34 (by decide) dX26_fits_14 (fun c11 => ?_) (fun c11 => ?_)
  · skip
    refine rb_iconst (v := (0 : Int32)) (by decide) dX26_fits_34 ?_
    exact rb_iret rfl (by decide) (((KKx9).1 c11)).1.1 (((KKx9).1 c11)).1.2 dX26_fits_35 (((KKx9).1 c11)).2
  · skip
    refine rb_aload_n 0 rfl rfl (rb_isR_ref _) dX26_fits_17 ?_
    obtain ⟨ci13, k14, x12, hfx12, hrx12, Kx12⟩ := ((KKx9).2 c11)
    refine rc_get hfx12 hrx12 dX26_fits_18 ?_
    refine rb_iconst (v := (0 : Int32)) (by decide) dX26_fits_21 ?_
    refine rb_bipush (v := (23 : Int32)) (by decide) dX26_fits_22 ?_
    obtain ⟨d15, n16, Q17, h1x18, hdx18, hnx18, Kx18⟩ := Kx12
    refine rb_call st_X26_68 (rest := []) h1x18 rfl rfl mm_rn (Nat.le_of_ble_eq_true rfl) hdx18.1 hdx18.2 hnx18.1 hnx18.2 dX26_fits_24 (fun o M19 hpx18 => ?_)
    obtain ⟨x18, eo, KKx18⟩ := Kx18 o M19 hpx18
    subst eo
    show rb_Bd κ mX26_fits (n.1 + n7.1 + n16.1, n.2 + n7.2 + n16.2) M19 27 [some (.ref a0), some (.ref q4)] [.int x18]
    refine rb_ifeq 34 (by decide) dX26_fits_27 (fun c20 => ?_) (fun c20 => ?_)
    · skip
      refine rb_iconst (v := (0 : Int32)) (by decide) dX26_fits_34 ?_
      exact rb_iret rfl (by decide) (((KKx18).1 c20)).1.1 (((KKx18).1 c20)).1.2 dX26_fits_35 (((KKx18).1 c20)).2
    · skip
      refine rb_iconst (v := (1 : Int32)) (by decide) dX26_fits_30 ?_
      refine rb_goto 35 (by decide) dX26_fits_31 ?_
      exact rb_iret rfl (by decide) (((KKx18).2 c20)).1.1 (((KKx18).2 c20)).1.2 dX26_fits_35 (((KKx18).2 c20)).2
theorem sgX26_act_0 {κ : rb_K} {n : Nat × Nat} {M : rb_H} {a0 : Nat} {a1 : Value} {a2 : Int64} (ha1 : rb_isR a1) (K : (∃ q1, a1 = .ref q1 ∧ (∃ (v2 : Value), rb_rd M q1 3 1 (v2) ∧ rb_isR v2 ∧ (∃ q3, v2 = .ref q3 ∧ (∃ (v4 : Value), rb_rd M q3 28 3 (v4) ∧ rb_isR v4 ∧ (∃ (ci6 k7 : Nat) (x5 : Int32), rb_FL "RoleLoom$As" 27 ci6 k7 ∧ rb_rd M a0 ci6 k7 (.int x5) ∧ (∃ q8, v4 = .ref q8 ∧ (∃ (t12 N9 : Nat) (f10 : Nat → Option Nat) (v11 : Value), M.2 q8 = some (rb_R t12 N9 f10) ∧ (3 ≤ t12 ∧ t12 ≤ 6) ∧ vp_in x5 N9 ∧ va_rf (f10 (x5).toNatClampNeg) = v11 ∧ ((v11 = .null → (∃ (ci73 k74 : Nat) (v72 : Value), rb_FL "RoleLoom$As" 3 ci73 k74 ∧ rb_rd M a0 ci73 k74 (v72) ∧ rb_isR v72 ∧ (∃ q75, v72 = .ref q75 ∧ (∃ (d76 : Nat) (n77 : Nat × Nat) (Q78 : Outcome → rb_H → Prop), rb_Ct κ.1 yX0_thrown wX0_thrown d76 n77 [.ref q75, .ref q1, .int (14 : Int32), .long (0 : Int64)] M Q78 ∧ rb_dp κ d76 ∧ rb_rom κ (n.1 + n77.1, n.2 + n77.2) ∧ rb_ob M q75 0 ∧ ∀ (o : Outcome) (M80 : rb_H), Q78 o M80 → (∃ (v79 : Value), o = .returned (some v79) ∧ rb_isR v79 ∧ (∃ q81, v79 = .ref q81 ∧ (rb_fin κ (n.1 + n77.1, n.2 + n77.2) ∧ κ.2.2.1 (.threw q81) M80))))))) ∧ (∀ q13, v11 = .ref q13 → (∃ (ci15 k16 : Nat) (x14 : Int32), rb_FL "RoleLoom$As" 35 ci15 k16 ∧ rb_rd M a0 ci15 k16 (.int x14) ∧ (∃ (ci18 k19 : Nat) (v17 : Value), rb_FL "RoleLoom$As" 3 ci18 k19 ∧ rb_rd M a0 ci18 k19 (v17) ∧ rb_isR v17 ∧ (∃ q20, v17 = .ref q20 ∧ (∃ (v21 : Value), rb_rd M q20 0 7 (v21) ∧ rb_isR v21 ∧ (∃ q22, v21 = .ref q22 ∧ (∃ (d23 : Nat) (n24 : Nat × Nat) (Q25 : Outcome → rb_H → Prop), rb_Ct κ.1 yJ4_size wJ4_size d23 n24 [.ref q22] M Q25 ∧ rb_dp κ d23 ∧ rb_rom κ (n.1 + n24.1, n.2 + n24.2) ∧ rb_ob M q22 7 ∧ ∀ (o : Outcome) (M27 : rb_H), Q25 o M27 → (∃ (x26 : Int32), o = .returned (some (.int x26)) ∧ ((x26 ≤ x14 → (∃ (ci30 k31 : Nat) (v29 : Value), rb_FL "RoleLoom$As" 3 ci30 k31 ∧ rb_rd M27 a0 ci30 k31 (v29) ∧ rb_isR v29 ∧ (∃ q32, v29 = .ref q32 ∧ (∃ (d33 : Nat) (n34 : Nat × Nat) (Q35 : Outcome → rb_H → Prop), rb_Ct κ.1 yX0_thrown wX0_thrown d33 n34 [.ref q32, .ref q1, .int (16 : Int32), .long (0 : Int64)] M27 Q35 ∧ rb_dp κ d33 ∧ rb_rom κ (n.1 + n24.1 + n34.1, n.2 + n24.2 + n34.2) ∧ rb_ob M27 q32 0 ∧ ∀ (o : Outcome) (M37 : rb_H), Q35 o M37 → (∃ (v36 : Value), o = .returned (some v36) ∧ rb_isR v36 ∧ (∃ q38, v36 = .ref q38 ∧ (rb_fin κ (n.1 + n24.1 + n34.1, n.2 + n24.2 + n34.2) ∧ κ.2.2.1 (.threw q38) M37))))))) ∧ (x14 < x26 → (∃ (v39 : Value), rb_rd M27 q13 29 1 (v39) ∧ rb_isR v39 ∧ (∃ (ci41 k42 : Nat) (v40 : Value), rb_FL "RoleLoom$As" 3 ci41 k42 ∧ rb_rd M27 a0 ci41 k42 (v40) ∧ rb_isR v40 ∧ (∃ q43, v40 = .ref q43 ∧ (∃ (v44 : Value), rb_rd M27 q43 0 7 (v44) ∧ rb_isR v44 ∧ (∃ (ci46 k47 : Nat) (x45 : Int32), rb_FL "RoleLoom$As" 35 ci46 k47 ∧ rb_rd M27 a0 ci46 k47 (.int x45) ∧ (∃ q48, v44 = .ref q48 ∧ (∃ (d49 : Nat) (n50 : Nat × Nat) (Q51 : Outcome → rb_H → Prop), rb_Ct κ.1 yJ4_get wJ4_get d49 n50 [.ref q48, .int x45] M27 Q51 ∧ rb_dp κ d49 ∧ rb_rom κ (n.1 + n24.1 + n50.1, n.2 + n24.2 + n50.2) ∧ rb_ob M27 q48 7 ∧ ∀ (o : Outcome) (M53 : rb_H), Q51 o M53 → (∃ (v52 : Value), o = .returned (some v52) ∧ rb_isR v52 ∧ (∃ q54, v52 = .ref q54 ∧ (∃ ci55, rb_ob M53 q54 ci55 ∧ rb_CC ci55 "RoleLoom$Role" ∧ (∃ (d56 : Nat) (n57 : Nat × Nat) (Q58 : Outcome → rb_H → Prop), rb_Ct κ.1 yX0_isUnder wX0_isUnder d56 n57 [v39, .ref q54] M53 Q58 ∧ rb_dp κ d56 ∧ rb_rom κ (n.1 + n24.1 + n50.1 + n57.1, n.2 + n24.2 + n50.2 + n57.2) ∧ ∀ (o : Outcome) (M60 : rb_H), Q58 o M60 → (∃ (x59 : Int32), o = .returned (some (.int x59)) ∧ ((¬ x59 = 0 → (rb_fin κ (n.1 + n24.1 + n50.1 + n57.1, n.2 + n24.2 + n50.2 + n57.2) ∧ κ.2.2.1 (.returned (some (.long (1 : Int64)))) M60)) ∧ (x59 = 0 → (∃ (ci63 k64 : Nat) (v62 : Value), rb_FL "RoleLoom$As" 3 ci63 k64 ∧ rb_rd M60 a0 ci63 k64 (v62) ∧ rb_isR v62 ∧ (∃ q65, v62 = .ref q65 ∧ (∃ (d66 : Nat) (n67 : Nat × Nat) (Q68 : Outcome → rb_H → Prop), rb_Ct κ.1 yX0_thrown wX0_thrown d66 n67 [.ref q65, .ref q1, .int (16 : Int32), .long (0 : Int64)] M60 Q68 ∧ rb_dp κ d66 ∧ rb_rom κ (n.1 + n24.1 + n50.1 + n57.1 + n67.1, n.2 + n24.2 + n50.2 + n57.2 + n67.2) ∧ rb_ob M60 q65 0 ∧ ∀ (o : Outcome) (M70 : rb_H), Q68 o M70 → (∃ (v69 : Value), o = .returned (some v69) ∧ rb_isR v69 ∧ (∃ q71, v69 = .ref q71 ∧ (rb_fin κ (n.1 + n24.1 + n50.1 + n57.1 + n67.1, n.2 + n24.2 + n50.2 + n57.2 + n67.2) ∧ κ.2.2.1 (.threw q71) M70))))))))))))))))))))))))))))))))))))))) : rb_Bd κ mX26_act n M 0 [some (.ref a0), some a1, some (.long a2), none, none] [] := by
  refine rb_aload_n 1 rfl rfl ha1 dX26_act_0 ?_
  obtain ⟨q1, eq1, Kq1⟩ := K
  subst eq1
  obtain ⟨v2, hrv2, hv2, Kv2⟩ := Kq1
  refine rc_get fl_X26_15_3 hrv2 dX26_act_1 ?_
  obtain ⟨q3, eq3, Kq3⟩ := Kv2
  subst eq3
  obtain ⟨v4, hrv4, hv4, Kv4⟩ := Kq3
  refine rc_get fl_X26_21_28 hrv4 dX26_act_4 ?_
  refine rb_aload_n 0 rfl rfl (rb_isR_ref _) dX26_act_7 ?_
  obtain ⟨ci6, k7, x5, hfx5, hrx5, Kx5⟩ := Kv4
  refine rc_get hfx5 hrx5 dX26_act_8 ?_
  obtain ⟨q8, eq8, Kq8⟩ := Kx5
  subst eq8
  obtain ⟨t12, N9, f10, v11, hMv11, htv11, hiv11, hxv11, Kv11⟩ := Kq8
  have hv11 := rc_isRf hxv11
  refine rc_aald hMv11 htv11 hiv11 hxv11 dX26_act_11 ?_
  refine rb_astore (ls' := [some (.ref a0), some (.ref q1), some (.long a2), none, some v11]) (by decide) rfl rfl hv11 dX26_act_12 ?_
  refine rb_aload rfl hv11 dX26_act_14 ?_
  refine rb_ifnonnull hv11 31 (by decide) dX26_act_16 (fun q13 e => ?_) (fun e => ?_)
  · subst e
    refine rb_aload_n 0 rfl rfl (rb_isR_ref _) dX26_act_31 ?_
    obtain ⟨ci15, k16, x14, hfx14, hrx14, Kx14⟩ := ((Kv11).2 q13 rfl)
    refine rc_get hfx14 hrx14 dX26_act_32 ?_
    refine rb_aload_n 0 rfl rfl (rb_isR_ref _) dX26_act_35 ?_
    obtain ⟨ci18, k19, v17, hfv17, hrv17, hv17, Kv17⟩ := Kx14
    refine rc_get hfv17 hrv17 dX26_act_36 ?_
    obtain ⟨q20, eq20, Kq20⟩ := Kv17
    subst eq20
    obtain ⟨v21, hrv21, hv21, Kv21⟩ := Kq20
    refine rc_get fl_X26_38_0 hrv21 dX26_act_39 ?_
    obtain ⟨q22, eq22, Kq22⟩ := Kv21
    subst eq22
    obtain ⟨d23, n24, Q25, h1x26, hdx26, hnx26, hox26, Kx26⟩ := Kq22
    refine rb_call st_X26_42_7 (rest := [.int x14]) h1x26 rfl rfl (rc_rc rfl hox26) (Nat.le_of_ble_eq_true rfl) hdx26.1 hdx26.2 hnx26.1 hnx26.2 dX26_act_42 (fun o M27 hpx26 => ?_)
    obtain ⟨x26, eo, KKx26⟩ := Kx26 o M27 hpx26
    subst eo
    show rb_Bd κ mX26_act (n.1 + n24.1, n.2 + n24.2) M27 45 [some (.ref a0), some (.ref q1), some (.long a2), none, some (.ref q13)] [.int x26, .int x14]
    refine rb_icge 76 (by decide) dX26_act_45 (fun c28 => ?_) (fun c28 => ?_)
    · skip
      refine rb_aload_n 0 rfl rfl (rb_isR_ref _) dX26_act_76 ?_
      obtain ⟨ci30, k31, v29, hfv29, hrv29, hv29, Kv29⟩ := ((KKx26).1 c28)
      refine rc_get hfv29 hrv29 dX26_act_77 ?_
      refine rb_aload_n 1 rfl rfl (rb_isR_ref _) dX26_act_80 ?_
      refine rb_bipush (v := (16 : Int32)) (by decide) dX26_act_81 ?_
      refine rb_lconst (v := (0 : Int64)) (by decide) dX26_act_83 ?_
      obtain ⟨q32, eq32, Kq32⟩ := Kv29
      subst eq32
      obtain ⟨d33, n34, Q35, h1v36, hdv36, hnv36, hov36, Kv36⟩ := Kq32
      refine rb_call st_X26_31_0 (rest := []) h1v36 rfl rfl (rc_rc rfl hov36) (Nat.le_of_ble_eq_true rfl) hdv36.1 hdv36.2 hnv36.1 hnv36.2 dX26_act_84 (fun o M37 hpv36 => ?_)
      obtain ⟨v36, eo, hv36, KKv36⟩ := Kv36 o M37 hpv36
      subst eo
      show rb_Bd κ mX26_act (n.1 + n24.1 + n34.1, n.2 + n24.2 + n34.2) M37 87 [some (.ref a0), some (.ref q1), some (.long a2), none, some (.ref q13)] [v36]
      obtain ⟨q38, eq38, Kq38⟩ := KKv36
      subst eq38
      exact rb_athrow (by decide) (Kq38).1.1 (Kq38).1.2 dX26_act_87 (Kq38).2
    · skip
      refine rb_aload rfl (rb_isR_ref _) dX26_act_48 ?_
      obtain ⟨v39, hrv39, hv39, Kv39⟩ := ((KKx26).2 c28)
      refine rc_get fl_X26_48_29 hrv39 dX26_act_50 ?_
      refine rb_aload_n 0 rfl rfl (rb_isR_ref _) dX26_act_53 ?_
      obtain ⟨ci41, k42, v40, hfv40, hrv40, hv40, Kv40⟩ := Kv39
      refine rc_get hfv40 hrv40 dX26_act_54 ?_
      obtain ⟨q43, eq43, Kq43⟩ := Kv40
      subst eq43
      obtain ⟨v44, hrv44, hv44, Kv44⟩ := Kq43
      refine rc_get fl_X26_38_0 hrv44 dX26_act_57 ?_
      refine rb_aload_n 0 rfl rfl (rb_isR_ref _) dX26_act_60 ?_
      obtain ⟨ci46, k47, x45, hfx45, hrx45, Kx45⟩ := Kv44
      refine rc_get hfx45 hrx45 dX26_act_61 ?_
      obtain ⟨q48, eq48, Kq48⟩ := Kx45
      subst eq48
      obtain ⟨d49, n50, Q51, h1v52, hdv52, hnv52, hov52, Kv52⟩ := Kq48
      refine rb_call st_X26_54_7 (rest := [v39]) h1v52 rfl rfl (rc_rc rfl hov52) (by simp [rb_isR_cat hv39, rb_cR, rb_cI, rb_cJ, rb_cN]) hdv52.1 hdv52.2 hnv52.1 hnv52.2 dX26_act_64 (fun o M53 hpv52 => ?_)
      obtain ⟨v52, eo, hv52, KKv52⟩ := Kv52 o M53 hpv52
      subst eo
      show rb_Bd κ mX26_act (n.1 + n24.1 + n50.1, n.2 + n24.2 + n50.2) M53 67 [some (.ref a0), some (.ref q1), some (.long a2), none, some (.ref q13)] [v52, v39]
      obtain ⟨q54, eq54, Kq54⟩ := KKv52
      subst eq54
      obtain ⟨ci55, ⟨fsci55, hoci55⟩, hcci55, Kci55⟩ := Kq54
      refine rb_cast q1318 hoci55 hcci55 dX26_act_67 ?_
      obtain ⟨d56, n57, Q58, h1x59, hdx59, hnx59, Kx59⟩ := Kci55
      refine rb_call st_X26_60 (rest := []) h1x59 rfl rfl mm_rn (Nat.le_of_ble_eq_true rfl) hdx59.1 hdx59.2 hnx59.1 hnx59.2 dX26_act_70 (fun o M60 hpx59 => ?_)
      obtain ⟨x59, eo, KKx59⟩ := Kx59 o M60 hpx59
      subst eo
      show rb_Bd κ mX26_act (n.1 + n24.1 + n50.1 + n57.1, n.2 + n24.2 + n50.2 + n57.2) M60 73 [some (.ref a0), some (.ref q1), some (.long a2), none, some (.ref q13)] [.int x59]
      refine rb_ifne 88 (by decide) dX26_act_73 (fun c61 => ?_) (fun c61 => ?_)
      · skip
        refine rb_lconst (v := (1 : Int64)) (by decide) dX26_act_88 ?_
        exact rb_lret rfl (((KKx59).1 c61)).1.1 (((KKx59).1 c61)).1.2 dX26_act_89 (((KKx59).1 c61)).2
      · skip
        refine rb_aload_n 0 rfl rfl (rb_isR_ref _) dX26_act_76 ?_
        obtain ⟨ci63, k64, v62, hfv62, hrv62, hv62, Kv62⟩ := ((KKx59).2 c61)
        refine rc_get hfv62 hrv62 dX26_act_77 ?_
        refine rb_aload_n 1 rfl rfl (rb_isR_ref _) dX26_act_80 ?_
        refine rb_bipush (v := (16 : Int32)) (by decide) dX26_act_81 ?_
        refine rb_lconst (v := (0 : Int64)) (by decide) dX26_act_83 ?_
        obtain ⟨q65, eq65, Kq65⟩ := Kv62
        subst eq65
        obtain ⟨d66, n67, Q68, h1v69, hdv69, hnv69, hov69, Kv69⟩ := Kq65
        refine rb_call st_X26_31_0 (rest := []) h1v69 rfl rfl (rc_rc rfl hov69) (Nat.le_of_ble_eq_true rfl) hdv69.1 hdv69.2 hnv69.1 hnv69.2 dX26_act_84 (fun o M70 hpv69 => ?_)
        obtain ⟨v69, eo, hv69, KKv69⟩ := Kv69 o M70 hpv69
        subst eo
        show rb_Bd κ mX26_act (n.1 + n24.1 + n50.1 + n57.1 + n67.1, n.2 + n24.2 + n50.2 + n57.2 + n67.2) M70 87 [some (.ref a0), some (.ref q1), some (.long a2), none, some (.ref q13)] [v69]
        obtain ⟨q71, eq71, Kq71⟩ := KKv69
        subst eq71
        exact rb_athrow (by decide) (Kq71).1.1 (Kq71).1.2 dX26_act_87 (Kq71).2
  · subst e
    refine rb_aload_n 0 rfl rfl (rb_isR_ref _) dX26_act_19 ?_
    obtain ⟨ci73, k74, v72, hfv72, hrv72, hv72, Kv72⟩ := ((Kv11).1 rfl)
    refine rc_get hfv72 hrv72 dX26_act_20 ?_
    refine rb_aload_n 1 rfl rfl (rb_isR_ref _) dX26_act_23 ?_
    refine rb_bipush (v := (14 : Int32)) (by decide) dX26_act_24 ?_
    refine rb_lconst (v := (0 : Int64)) (by decide) dX26_act_26 ?_
    obtain ⟨q75, eq75, Kq75⟩ := Kv72
    subst eq75
    obtain ⟨d76, n77, Q78, h1v79, hdv79, hnv79, hov79, Kv79⟩ := Kq75
    refine rb_call st_X26_31_0 (rest := []) h1v79 rfl rfl (rc_rc rfl hov79) (Nat.le_of_ble_eq_true rfl) hdv79.1 hdv79.2 hnv79.1 hnv79.2 dX26_act_27 (fun o M80 hpv79 => ?_)
    obtain ⟨v79, eo, hv79, KKv79⟩ := Kv79 o M80 hpv79
    subst eo
    show rb_Bd κ mX26_act (n.1 + n77.1, n.2 + n77.2) M80 30 [some (.ref a0), some (.ref q1), some (.long a2), none, some (.null)] [v79]
    obtain ⟨q81, eq81, Kq81⟩ := KKv79
    subst eq81
    exact rb_athrow (by decide) (Kq81).1.1 (Kq81).1.2 dX26_act_30 (Kq81).2
theorem sgX27_init_0 {κ : rb_K} {n : Nat × Nat} {M : rb_H} {a0 : Nat} {a1 : Int32} (K : (rb_dp κ 0 ∧ (rb_rom κ (n.1 + 1, n.2 + 3) ∧ (∃ (ci6 : Nat) (d1 : Nat) (n2 : Nat × Nat) (Q3 : Outcome → rb_H → Prop), rb_Ct κ.1 yJ4_init wJ4_init d1 n2 [.ref M.1] (rb_nw M (rb_O 7 [.int 0, .null, .int 0])) Q3 ∧ rb_dp κ d1 ∧ rb_rom κ (n.1 + 1 + n2.1, n.2 + 3 + n2.2) ∧ rb_ob (rb_nw M (rb_O 7 [.int 0, .null, .int 0])) M.1 ci6 ∧ ∀ (o : Outcome) (M5 : rb_H), Q3 o M5 → (o = .returned none ∧ (∃ fs7, M5.2 a0 = some (rb_O 27 fs7) ∧ 1 < fs7.length ∧ (rb_rom κ (n.1 + 1 + n2.1 + 1, n.2 + 3 + n2.2 + 3) ∧ (∃ (ci13 : Nat) (d8 : Nat) (n9 : Nat × Nat) (Q10 : Outcome → rb_H → Prop), rb_Ct κ.1 yJ4_init wJ4_init d8 n9 [.ref M5.1] (rb_nw (rb_up M5 a0 (rb_O 27 (fs7.set 1 (.ref M.1)))) (rb_O 7 [.int 0, .null, .int 0])) Q10 ∧ rb_dp κ d8 ∧ rb_rom κ (n.1 + 1 + n2.1 + 1 + n9.1, n.2 + 3 + n2.2 + 3 + n9.2) ∧ rb_ob (rb_nw (rb_up M5 a0 (rb_O 27 (fs7.set 1 (.ref M.1)))) (rb_O 7 [.int 0, .null, .int 0])) M5.1 ci13 ∧ ∀ (o : Outcome) (M12 : rb_H), Q10 o M12 → (o = .returned none ∧ (∃ fs14, M12.2 a0 = some (rb_O 27 fs14) ∧ 2 < fs14.length ∧ (∃ N15, (4 : Int32) = nI N15 ∧ N15 ≤ 67108864 ∧ rb_rom κ (n.1 + 1 + n2.1 + 1 + n9.1 + 1, n.2 + 3 + n2.2 + 3 + n9.2 + N15) ∧ (∃ fs16, (rb_nw (rb_up M12 a0 (rb_O 27 (fs14.set 2 (.ref M5.1)))) (rb_R 4 N15 (fun _ => none))).2 a0 = some (rb_O 27 fs16) ∧ 3 < fs16.length ∧ (∃ N17, (24 : Int32) = nI N17 ∧ N17 ≤ 67108864 ∧ rb_rom κ (n.1 + 1 + n2.1 + 1 + n9.1 + 1 + 1, n.2 + 3 + n2.2 + 3 + n9.2 + N15 + N17) ∧ (∃ fs18, (rb_nw (rb_up (rb_nw (rb_up M12 a0 (rb_O 27 (fs14.set 2 (.ref M5.1)))) (rb_R 4 N15 (fun _ => none))) a0 (rb_O 27 (fs16.set 3 (.ref M12.1)))) (rb_I N17 (fun _ => 0))).2 a0 = some (rb_O 27 fs18) ∧ 4 < fs18.length ∧ (∃ fs19, (rb_up (rb_nw (rb_up (rb_nw (rb_up M12 a0 (rb_O 27 (fs14.set 2 (.ref M5.1)))) (rb_R 4 N15 (fun _ => none))) a0 (rb_O 27 (fs16.set 3 (.ref M12.1)))) (rb_I N17 (fun _ => 0))) a0 (rb_O 27 (fs18.set 4 (.ref (M12.1 + 1))))).2 a0 = some (rb_O 27 fs19) ∧ 0 < fs19.length ∧ (rb_fin κ (n.1 + 1 + n2.1 + 1 + n9.1 + 1 + 1, n.2 + 3 + n2.2 + 3 + n9.2 + N15 + N17) ∧ κ.2.2.1 (.returned none) (rb_up (rb_up (rb_nw (rb_up (rb_nw (rb_up M12 a0 (rb_O 27 (fs14.set 2 (.ref M5.1)))) (rb_R 4 N15 (fun _ => none))) a0 (rb_O 27 (fs16.set 3 (.ref M12.1)))) (rb_I N17 (fun _ => 0))) a0 (rb_O 27 (fs18.set 4 (.ref (M12.1 + 1))))) a0 (rb_O 27 (fs19.set 0 (.int a1)))))))))))))))))))) : rb_Bd κ mX27_init n M 0 [some (.ref a0), some (.int a1)] [] := by
  refine rb_aload_n 0 rfl rfl (rb_isR_ref _) dX27_init_0 ?_
  refine rb_objInit q1116 q123 q124 (K).1.1 (Nat.le_trans (Nat.le_of_ble_eq_true rfl) (K).1.2) dX27_init_1 ?_
  refine rb_aload_n 0 rfl rfl (rb_isR_ref _) dX27_init_4 ?_
  refine rb_new nw_X27_9 (fs := [.int 0, .null, .int 0]) rfl ((K).2).1.1 ((K).2).1.2 dX27_init_5 ?_
  show rb_Bd κ mX27_init (n.1 + 1, n.2 + 3) (rb_nw M (rb_O 7 [.int 0, .null, .int 0])) 8 [some (.ref a0), some (.int a1)] [.ref M.1, .ref a0]
  refine rb_dup rfl dX27_init_8 ?_
  obtain ⟨ci6, d1, n2, Q3, h1v4, hdv4, hnv4, hov4, Kv4⟩ := ((K).2).2
  refine rb_call (st_X27_11 ci6) (rest := [.ref M.1, .ref a0]) h1v4 rfl rfl (rc_rc rfl hov4) (Nat.le_of_ble_eq_true rfl) hdv4.1 hdv4.2 hnv4.1 hnv4.2 dX27_init_9 (fun o M5 hpv4 => ?_)
  obtain ⟨eo, KKv4⟩ := Kv4 o M5 hpv4
  subst eo
  show rb_Bd κ mX27_init (n.1 + 1 + n2.1, n.2 + 3 + n2.2) M5 12 [some (.ref a0), some (.int a1)] [.ref M.1, .ref a0]
  obtain ⟨fs7, hMfs7, hlfs7, Kfs7⟩ := KKv4
  refine rb_put fl_X27_12_27 (fun q hq => by cases hq; exact Or.inr ⟨rfl, rfl⟩) (rb_nfR (rb_isR_ref _) _).1 (rb_nfR (rb_isR_ref _) _).2 hMfs7 hlfs7 dX27_init_12 ?_
  refine rb_aload_n 0 rfl rfl (rb_isR_ref _) dX27_init_15 ?_
  refine rb_new nw_X27_9 (fs := [.int 0, .null, .int 0]) rfl (Kfs7).1.1 (Kfs7).1.2 dX27_init_16 ?_
  show rb_Bd κ mX27_init (n.1 + 1 + n2.1 + 1, n.2 + 3 + n2.2 + 3) (rb_nw (rb_up M5 a0 (rb_O 27 (fs7.set 1 (.ref M.1)))) (rb_O 7 [.int 0, .null, .int 0])) 19 [some (.ref a0), some (.int a1)] [.ref M5.1, .ref a0]
  refine rb_dup rfl dX27_init_19 ?_
  obtain ⟨ci13, d8, n9, Q10, h1v11, hdv11, hnv11, hov11, Kv11⟩ := (Kfs7).2
  refine rb_call (st_X27_11 ci13) (rest := [.ref M5.1, .ref a0]) h1v11 rfl rfl (rc_rc rfl hov11) (Nat.le_of_ble_eq_true rfl) hdv11.1 hdv11.2 hnv11.1 hnv11.2 dX27_init_20 (fun o M12 hpv11 => ?_)
  obtain ⟨eo, KKv11⟩ := Kv11 o M12 hpv11
  subst eo
  show rb_Bd κ mX27_init (n.1 + 1 + n2.1 + 1 + n9.1, n.2 + 3 + n2.2 + 3 + n9.2) M12 23 [some (.ref a0), some (.int a1)] [.ref M5.1, .ref a0]
  obtain ⟨fs14, hMfs14, hlfs14, Kfs14⟩ := KKv11
  refine rb_put fl_X27_18_27 (fun q hq => by cases hq; exact Or.inr ⟨rfl, rfl⟩) (rb_nfR (rb_isR_ref _) _).1 (rb_nfR (rb_isR_ref _) _).2 hMfs14 hlfs14 dX27_init_23 ?_
  refine rb_aload_n 0 rfl rfl (rb_isR_ref _) dX27_init_26 ?_
  refine rb_iconst (v := (4 : Int32)) (by decide) dX27_init_27 ?_
  obtain ⟨N15, hxN15, hNN15, hrN15, KN15⟩ := Kfs14
  refine rb_anew (t := 4) (N := N15) (by decide) (by decide) q1119 q241 hxN15 hNN15 hrN15.1 hrN15.2 dX27_init_28 ?_
  show rb_Bd κ mX27_init (n.1 + 1 + n2.1 + 1 + n9.1 + 1, n.2 + 3 + n2.2 + 3 + n9.2 + N15) (rb_nw (rb_up M12 a0 (rb_O 27 (fs14.set 2 (.ref M5.1)))) (rb_R 4 N15 (fun _ => none))) 31 [some (.ref a0), some (.int a1)] [.ref M12.1, .ref a0]
  obtain ⟨fs16, hMfs16, hlfs16, Kfs16⟩ := KN15
  refine rb_put fl_X27_23_27 (fun q hq => by cases hq; exact Or.inr ⟨rfl, rfl⟩) (rb_nfA (rb_isR_ref _) _).1 (rb_nfA (rb_isR_ref _) _).2 hMfs16 hlfs16 dX27_init_31 ?_
  refine rb_aload_n 0 rfl rfl (rb_isR_ref _) dX27_init_34 ?_
  refine rb_bipush (v := (24 : Int32)) (by decide) dX27_init_35 ?_
  obtain ⟨N17, hxN17, hNN17, hrN17, KN17⟩ := Kfs16
  refine rb_newa (atype := .int) (t := 0) (N := N17) (e0 := rb_I N17 (fun _ => 0)) (Or.inl rfl) q289 hxN17 hNN17 rfl hrN17.1 hrN17.2 dX27_init_37 ?_
  show rb_Bd κ mX27_init (n.1 + 1 + n2.1 + 1 + n9.1 + 1 + 1, n.2 + 3 + n2.2 + 3 + n9.2 + N15 + N17) (rb_nw (rb_up (rb_nw (rb_up M12 a0 (rb_O 27 (fs14.set 2 (.ref M5.1)))) (rb_R 4 N15 (fun _ => none))) a0 (rb_O 27 (fs16.set 3 (.ref M12.1)))) (rb_I N17 (fun _ => 0))) 39 [some (.ref a0), some (.int a1)] [.ref (M12.1 + 1), .ref a0]
  obtain ⟨fs18, hMfs18, hlfs18, Kfs18⟩ := KN17
  refine rb_put fl_X27_27_27 (fun q hq => by cases hq; exact Or.inr ⟨rfl, rfl⟩) (rb_nfA (rb_isR_ref _) _).1 (rb_nfA (rb_isR_ref _) _).2 hMfs18 hlfs18 dX27_init_39 ?_
  refine rb_aload_n 0 rfl rfl (rb_isR_ref _) dX27_init_42 ?_
  refine rb_iload_n 1 rfl rfl dX27_init_43 ?_
  obtain ⟨fs19, hMfs19, hlfs19, Kfs19⟩ := Kfs18
  refine rb_put fl_X27_31_27 (fun q hq => by cases hq; exact Or.inr ⟨rfl, rfl⟩) rfl rfl hMfs19 hlfs19 dX27_init_44 ?_
  exact rb_vret rfl (Kfs19).1.1 (Kfs19).1.2 dX27_init_47 (Kfs19).2
theorem sgX28_init_0 {κ : rb_K} {n : Nat × Nat} {M : rb_H} {a0 : Nat} {a1 : Value} (ha1 : rb_isR a1) (K : (rb_dp κ 0 ∧ (∃ N1, (2 : Int32) = nI N1 ∧ N1 ≤ 67108864 ∧ rb_rom κ (n.1 + 1, n.2 + N1) ∧ (∃ (N2 : Nat) (f3 : Nat → Int32), (rb_nw M (rb_I N1 (fun _ => 0))).2 M.1 = some (rb_I N2 f3) ∧ vp_in (0 : Int32) N2 ∧ (∃ (N4 : Nat) (f5 : Nat → Int32), (rb_up (rb_nw M (rb_I N1 (fun _ => 0))) M.1 (rb_I N2 (va_up f3 ((0 : Int32)).toNatClampNeg (-1 : Int32)))).2 M.1 = some (rb_I N4 f5) ∧ vp_in (1 : Int32) N4 ∧ (∃ fs6, (rb_up (rb_up (rb_nw M (rb_I N1 (fun _ => 0))) M.1 (rb_I N2 (va_up f3 ((0 : Int32)).toNatClampNeg (-1 : Int32)))) M.1 (rb_I N4 (va_up f5 ((1 : Int32)).toNatClampNeg (-1 : Int32)))).2 a0 = some (rb_O 28 fs6) ∧ 2 < fs6.length ∧ (∃ N7, (2 : Int32) = nI N7 ∧ N7 ≤ 67108864 ∧ rb_rom κ (n.1 + 1 + 1, n.2 + N1 + N7) ∧ (∃ fs8, (rb_nw (rb_up (rb_up (rb_up (rb_nw M (rb_I N1 (fun _ => 0))) M.1 (rb_I N2 (va_up f3 ((0 : Int32)).toNatClampNeg (-1 : Int32)))) M.1 (rb_I N4 (va_up f5 ((1 : Int32)).toNatClampNeg (-1 : Int32)))) a0 (rb_O 28 (fs6.set 2 (.ref M.1)))) (rb_R 6 N7 (fun _ => none))).2 a0 = some (rb_O 28 fs8) ∧ 3 < fs8.length ∧ (∃ q9, a1 = .ref q9 ∧ (∃ (x10 : Int32), rb_rd (rb_up (rb_nw (rb_up (rb_up (rb_up (rb_nw M (rb_I N1 (fun _ => 0))) M.1 (rb_I N2 (va_up f3 ((0 : Int32)).toNatClampNeg (-1 : Int32)))) M.1 (rb_I N4 (va_up f5 ((1 : Int32)).toNatClampNeg (-1 : Int32)))) a0 (rb_O 28 (fs6.set 2 (.ref M.1)))) (rb_R 6 N7 (fun _ => none))) a0 (rb_O 28 (fs8.set 3 (.ref (M.1 + 1))))) q9 5 1 (.int x10) ∧ (∃ N11, x10 = nI N11 ∧ N11 ≤ 67108864 ∧ rb_rom κ (n.1 + 1 + 1 + 1, n.2 + N1 + N7 + N11) ∧ (∃ fs12, (rb_nw (rb_up (rb_nw (rb_up (rb_up (rb_up (rb_nw M (rb_I N1 (fun _ => 0))) M.1 (rb_I N2 (va_up f3 ((0 : Int32)).toNatClampNeg (-1 : Int32)))) M.1 (rb_I N4 (va_up f5 ((1 : Int32)).toNatClampNeg (-1 : Int32)))) a0 (rb_O 28 (fs6.set 2 (.ref M.1)))) (rb_R 6 N7 (fun _ => none))) a0 (rb_O 28 (fs8.set 3 (.ref (M.1 + 1))))) (rb_L N11 (fun _ => 0))).2 a0 = some (rb_O 28 fs12) ∧ 0 < fs12.length ∧ (∃ (x13 : Int32), rb_rd (rb_up (rb_nw (rb_up (rb_nw (rb_up (rb_up (rb_up (rb_nw M (rb_I N1 (fun _ => 0))) M.1 (rb_I N2 (va_up f3 ((0 : Int32)).toNatClampNeg (-1 : Int32)))) M.1 (rb_I N4 (va_up f5 ((1 : Int32)).toNatClampNeg (-1 : Int32)))) a0 (rb_O 28 (fs6.set 2 (.ref M.1)))) (rb_R 6 N7 (fun _ => none))) a0 (rb_O 28 (fs8.set 3 (.ref (M.1 + 1))))) (rb_L N11 (fun _ => 0))) a0 (rb_O 28 (fs12.set 0 (.ref (M.1 + 2))))) q9 5 2 (.int x13) ∧ (∃ N14, ((12 : Int32) * x13) = nI N14 ∧ N14 ≤ 67108864 ∧ rb_rom κ (n.1 + 1 + 1 + 1 + 1, n.2 + N1 + N7 + N11 + N14) ∧ (∃ fs15, (rb_nw (rb_up (rb_nw (rb_up (rb_nw (rb_up (rb_up (rb_up (rb_nw M (rb_I N1 (fun _ => 0))) M.1 (rb_I N2 (va_up f3 ((0 : Int32)).toNatClampNeg (-1 : Int32)))) M.1 (rb_I N4 (va_up f5 ((1 : Int32)).toNatClampNeg (-1 : Int32)))) a0 (rb_O 28 (fs6.set 2 (.ref M.1)))) (rb_R 6 N7 (fun _ => none))) a0 (rb_O 28 (fs8.set 3 (.ref (M.1 + 1))))) (rb_L N11 (fun _ => 0))) a0 (rb_O 28 (fs12.set 0 (.ref (M.1 + 2))))) (rb_L N14 (fun _ => 0))).2 a0 = some (rb_O 28 fs15) ∧ 1 < fs15.length ∧ (rb_fin κ (n.1 + 1 + 1 + 1 + 1, n.2 + N1 + N7 + N11 + N14) ∧ κ.2.2.1 (.returned none) (rb_up (rb_nw (rb_up (rb_nw (rb_up (rb_nw (rb_up (rb_up (rb_up (rb_nw M (rb_I N1 (fun _ => 0))) M.1 (rb_I N2 (va_up f3 ((0 : Int32)).toNatClampNeg (-1 : Int32)))) M.1 (rb_I N4 (va_up f5 ((1 : Int32)).toNatClampNeg (-1 : Int32)))) a0 (rb_O 28 (fs6.set 2 (.ref M.1)))) (rb_R 6 N7 (fun _ => none))) a0 (rb_O 28 (fs8.set 3 (.ref (M.1 + 1))))) (rb_L N11 (fun _ => 0))) a0 (rb_O 28 (fs12.set 0 (.ref (M.1 + 2))))) (rb_L N14 (fun _ => 0))) a0 (rb_O 28 (fs15.set 1 (.ref (M.1 + 3))))))))))))))))))))) : rb_Bd κ mX28_init n M 0 [some (.ref a0), some a1] [] := by
  refine rb_aload_n 0 rfl rfl (rb_isR_ref _) dX28_init_0 ?_
  refine rb_objInit q1250 q123 q124 (K).1.1 (Nat.le_trans (Nat.le_of_ble_eq_true rfl) (K).1.2) dX28_init_1 ?_
  refine rb_aload_n 0 rfl rfl (rb_isR_ref _) dX28_init_4 ?_
  refine rb_iconst (v := (2 : Int32)) (by decide) dX28_init_5 ?_
  obtain ⟨N1, hxN1, hNN1, hrN1, KN1⟩ := (K).2
  refine rb_newa (atype := .int) (t := 0) (N := N1) (e0 := rb_I N1 (fun _ => 0)) (Or.inl rfl) q289 hxN1 hNN1 rfl hrN1.1 hrN1.2 dX28_init_6 ?_
  show rb_Bd κ mX28_init (n.1 + 1, n.2 + N1) (rb_nw M (rb_I N1 (fun _ => 0))) 8 [some (.ref a0), some a1] [.ref M.1, .ref a0]
  refine rb_dup rfl dX28_init_8 ?_
  refine rb_iconst (v := (0 : Int32)) (by decide) dX28_init_9 ?_
  refine rb_iconst (v := (-1 : Int32)) (by decide) dX28_init_10 ?_
  obtain ⟨N2, f3, hMf3, hif3, Kf3⟩ := KN1
  refine rb_iast hMf3 hif3 dX28_init_11 ?_
  refine rb_dup rfl dX28_init_12 ?_
  refine rb_iconst (v := (1 : Int32)) (by decide) dX28_init_13 ?_
  refine rb_iconst (v := (-1 : Int32)) (by decide) dX28_init_14 ?_
  obtain ⟨N4, f5, hMf5, hif5, Kf5⟩ := Kf3
  refine rb_iast hMf5 hif5 dX28_init_15 ?_
  obtain ⟨fs6, hMfs6, hlfs6, Kfs6⟩ := Kf5
  refine rb_put fl_X28_9_28 (fun q hq => by cases hq; exact Or.inr ⟨rfl, rfl⟩) (rb_nfA (rb_isR_ref _) _).1 (rb_nfA (rb_isR_ref _) _).2 hMfs6 hlfs6 dX28_init_16 ?_
  refine rb_aload_n 0 rfl rfl (rb_isR_ref _) dX28_init_19 ?_
  refine rb_iconst (v := (2 : Int32)) (by decide) dX28_init_20 ?_
  obtain ⟨N7, hxN7, hNN7, hrN7, KN7⟩ := Kfs6
  refine rb_anew (t := 6) (N := N7) (by decide) (by decide) q1251 q1252 hxN7 hNN7 hrN7.1 hrN7.2 dX28_init_21 ?_
  show rb_Bd κ mX28_init (n.1 + 1 + 1, n.2 + N1 + N7) (rb_nw (rb_up (rb_up (rb_up (rb_nw M (rb_I N1 (fun _ => 0))) M.1 (rb_I N2 (va_up f3 ((0 : Int32)).toNatClampNeg (-1 : Int32)))) M.1 (rb_I N4 (va_up f5 ((1 : Int32)).toNatClampNeg (-1 : Int32)))) a0 (rb_O 28 (fs6.set 2 (.ref M.1)))) (rb_R 6 N7 (fun _ => none))) 24 [some (.ref a0), some a1] [.ref (M.1 + 1), .ref a0]
  obtain ⟨fs8, hMfs8, hlfs8, Kfs8⟩ := KN7
  refine rb_put fl_X28_17_28 (fun q hq => by cases hq; exact Or.inr ⟨rfl, rfl⟩) (rb_nfA (rb_isR_ref _) _).1 (rb_nfA (rb_isR_ref _) _).2 hMfs8 hlfs8 dX28_init_24 ?_
  refine rb_aload_n 0 rfl rfl (rb_isR_ref _) dX28_init_27 ?_
  refine rb_aload_n 1 rfl rfl ha1 dX28_init_28 ?_
  obtain ⟨q9, eq9, Kq9⟩ := Kfs8
  subst eq9
  obtain ⟨x10, hrx10, Kx10⟩ := Kq9
  refine rc_get fl_X28_21_5 hrx10 dX28_init_29 ?_
  obtain ⟨N11, hxN11, hNN11, hrN11, KN11⟩ := Kx10
  refine rb_newa (atype := .long) (t := 1) (N := N11) (e0 := rb_L N11 (fun _ => 0)) (Or.inr (Or.inl rfl)) q290 hxN11 hNN11 rfl hrN11.1 hrN11.2 dX28_init_32 ?_
  show rb_Bd κ mX28_init (n.1 + 1 + 1 + 1, n.2 + N1 + N7 + N11) (rb_nw (rb_up (rb_nw (rb_up (rb_up (rb_up (rb_nw M (rb_I N1 (fun _ => 0))) M.1 (rb_I N2 (va_up f3 ((0 : Int32)).toNatClampNeg (-1 : Int32)))) M.1 (rb_I N4 (va_up f5 ((1 : Int32)).toNatClampNeg (-1 : Int32)))) a0 (rb_O 28 (fs6.set 2 (.ref M.1)))) (rb_R 6 N7 (fun _ => none))) a0 (rb_O 28 (fs8.set 3 (.ref (M.1 + 1))))) (rb_L N11 (fun _ => 0))) 34 [some (.ref a0), some (.ref q9)] [.ref (M.1 + 2), .ref a0]
  obtain ⟨fs12, hMfs12, hlfs12, Kfs12⟩ := KN11
  refine rb_put fl_X28_27_28 (fun q hq => by cases hq; exact Or.inr ⟨rfl, rfl⟩) (rb_nfA (rb_isR_ref _) _).1 (rb_nfA (rb_isR_ref _) _).2 hMfs12 hlfs12 dX28_init_34 ?_
  refine rb_aload_n 0 rfl rfl (rb_isR_ref _) dX28_init_37 ?_
  refine rb_bipush (v := (12 : Int32)) (by decide) dX28_init_38 ?_
  refine rb_aload_n 1 rfl rfl (rb_isR_ref _) dX28_init_40 ?_
  obtain ⟨x13, hrx13, Kx13⟩ := Kfs12
  refine rc_get fl_X28_30_5 hrx13 dX28_init_41 ?_
  refine rb_imul (z := ((12 : Int32) * x13)) rfl dX28_init_44 ?_
  obtain ⟨N14, hxN14, hNN14, hrN14, KN14⟩ := Kx13
  refine rb_newa (atype := .long) (t := 1) (N := N14) (e0 := rb_L N14 (fun _ => 0)) (Or.inr (Or.inl rfl)) q290 hxN14 hNN14 rfl hrN14.1 hrN14.2 dX28_init_45 ?_
  show rb_Bd κ mX28_init (n.1 + 1 + 1 + 1 + 1, n.2 + N1 + N7 + N11 + N14) (rb_nw (rb_up (rb_nw (rb_up (rb_nw (rb_up (rb_up (rb_up (rb_nw M (rb_I N1 (fun _ => 0))) M.1 (rb_I N2 (va_up f3 ((0 : Int32)).toNatClampNeg (-1 : Int32)))) M.1 (rb_I N4 (va_up f5 ((1 : Int32)).toNatClampNeg (-1 : Int32)))) a0 (rb_O 28 (fs6.set 2 (.ref M.1)))) (rb_R 6 N7 (fun _ => none))) a0 (rb_O 28 (fs8.set 3 (.ref (M.1 + 1))))) (rb_L N11 (fun _ => 0))) a0 (rb_O 28 (fs12.set 0 (.ref (M.1 + 2))))) (rb_L N14 (fun _ => 0))) 47 [some (.ref a0), some (.ref q9)] [.ref (M.1 + 3), .ref a0]
  obtain ⟨fs15, hMfs15, hlfs15, Kfs15⟩ := KN14
  refine rb_put fl_X28_33_28 (fun q hq => by cases hq; exact Or.inr ⟨rfl, rfl⟩) (rb_nfA (rb_isR_ref _) _).1 (rb_nfA (rb_isR_ref _) _).2 hMfs15 hlfs15 dX28_init_47 ?_
  exact rb_vret rfl (Kfs15).1.1 (Kfs15).1.2 dX28_init_50 (Kfs15).2
theorem sgX29_init_0 {κ : rb_K} {n : Nat × Nat} {M : rb_H} {a0 : Nat} {a1 : Int32} {a2 : Value} (ha2 : rb_isR a2) (K : (rb_dp κ 0 ∧ (rb_rom κ (n.1 + 1, n.2 + 3) ∧ (∃ (ci6 : Nat) (d1 : Nat) (n2 : Nat × Nat) (Q3 : Outcome → rb_H → Prop), rb_Ct κ.1 yJ4_init wJ4_init d1 n2 [.ref M.1] (rb_nw M (rb_O 7 [.int 0, .null, .int 0])) Q3 ∧ rb_dp κ d1 ∧ rb_rom κ (n.1 + 1 + n2.1, n.2 + 3 + n2.2) ∧ rb_ob (rb_nw M (rb_O 7 [.int 0, .null, .int 0])) M.1 ci6 ∧ ∀ (o : Outcome) (M5 : rb_H), Q3 o M5 → (o = .returned none ∧ (∃ fs7, M5.2 a0 = some (rb_O 29 fs7) ∧ 2 < fs7.length ∧ (∃ fs8, (rb_up M5 a0 (rb_O 29 (fs7.set 2 (.ref M.1)))).2 a0 = some (rb_O 29 fs8) ∧ 0 < fs8.length ∧ (∃ fs9, (rb_up (rb_up M5 a0 (rb_O 29 (fs7.set 2 (.ref M.1)))) a0 (rb_O 29 (fs8.set 0 (.int a1)))).2 a0 = some (rb_O 29 fs9) ∧ 1 < fs9.length ∧ (rb_fin κ (n.1 + 1 + n2.1, n.2 + 3 + n2.2) ∧ κ.2.2.1 (.returned none) (rb_up (rb_up (rb_up M5 a0 (rb_O 29 (fs7.set 2 (.ref M.1)))) a0 (rb_O 29 (fs8.set 0 (.int a1)))) a0 (rb_O 29 (fs9.set 1 a2)))))))))))) : rb_Bd κ mX29_init n M 0 [some (.ref a0), some (.int a1), some a2] [] := by
  refine rb_aload_n 0 rfl rfl (rb_isR_ref _) dX29_init_0 ?_
  refine rb_objInit q1406 q123 q124 (K).1.1 (Nat.le_trans (Nat.le_of_ble_eq_true rfl) (K).1.2) dX29_init_1 ?_
  refine rb_aload_n 0 rfl rfl (rb_isR_ref _) dX29_init_4 ?_
  refine rb_new nw_X29_7 (fs := [.int 0, .null, .int 0]) rfl ((K).2).1.1 ((K).2).1.2 dX29_init_5 ?_
  show rb_Bd κ mX29_init (n.1 + 1, n.2 + 3) (rb_nw M (rb_O 7 [.int 0, .null, .int 0])) 8 [some (.ref a0), some (.int a1), some a2] [.ref M.1, .ref a0]
  refine rb_dup rfl dX29_init_8 ?_
  obtain ⟨ci6, d1, n2, Q3, h1v4, hdv4, hnv4, hov4, Kv4⟩ := ((K).2).2
  refine rb_call (st_X29_9 ci6) (rest := [.ref M.1, .ref a0]) h1v4 rfl rfl (rc_rc rfl hov4) (Nat.le_of_ble_eq_true rfl) hdv4.1 hdv4.2 hnv4.1 hnv4.2 dX29_init_9 (fun o M5 hpv4 => ?_)
  obtain ⟨eo, KKv4⟩ := Kv4 o M5 hpv4
  subst eo
  show rb_Bd κ mX29_init (n.1 + 1 + n2.1, n.2 + 3 + n2.2) M5 12 [some (.ref a0), some (.int a1), some a2] [.ref M.1, .ref a0]
  obtain ⟨fs7, hMfs7, hlfs7, Kfs7⟩ := KKv4
  refine rb_put fl_X29_10_29 (fun q hq => by cases hq; exact Or.inr ⟨rfl, rfl⟩) (rb_nfR (rb_isR_ref _) _).1 (rb_nfR (rb_isR_ref _) _).2 hMfs7 hlfs7 dX29_init_12 ?_
  refine rb_aload_n 0 rfl rfl (rb_isR_ref _) dX29_init_15 ?_
  refine rb_iload_n 1 rfl rfl dX29_init_16 ?_
  obtain ⟨fs8, hMfs8, hlfs8, Kfs8⟩ := Kfs7
  refine rb_put fl_X29_16_29 (fun q hq => by cases hq; exact Or.inr ⟨rfl, rfl⟩) rfl rfl hMfs8 hlfs8 dX29_init_17 ?_
  refine rb_aload_n 0 rfl rfl (rb_isR_ref _) dX29_init_20 ?_
  refine rb_aload_n 2 rfl rfl ha2 dX29_init_21 ?_
  obtain ⟨fs9, hMfs9, hlfs9, Kfs9⟩ := Kfs8
  refine rb_put fl_X29_20_29 (fun q hq => by cases hq; exact Or.inr ⟨rfl, rfl⟩) (rb_nfR ha2 _).1 (rb_nfR ha2 _).2 hMfs9 hlfs9 dX29_init_22 ?_
  exact rb_vret rfl (Kfs9).1.1 (Kfs9).1.2 dX29_init_25 (Kfs9).2
theorem sgX3_init_0 {κ : rb_K} {n : Nat × Nat} {M : rb_H} {a0 : Nat} (K : (rb_dp κ 0 ∧ (rb_fin κ n ∧ κ.2.2.1 (.returned none) M))) : rb_Bd κ mX3_init n M 0 [some (.ref a0)] [] := by
  refine rb_aload_n 0 rfl rfl (rb_isR_ref _) dX3_init_0 ?_
  refine rb_objInit q246 q123 q124 (K).1.1 (Nat.le_trans (Nat.le_of_ble_eq_true rfl) (K).1.2) dX3_init_1 ?_
  exact rb_vret rfl ((K).2).1.1 ((K).2).1.2 dX3_init_4 ((K).2).2
theorem sgX5_init_0 {κ : rb_K} {n : Nat × Nat} {M : rb_H} {a0 : Nat} {a1 : Int32} {a2 : Int32} {a3 : Int32} {a4 : Int32} (K : (rb_dp κ 0 ∧ (rb_rom κ (n.1 + 1, n.2 + 3) ∧ (∃ (ci6 : Nat) (d1 : Nat) (n2 : Nat × Nat) (Q3 : Outcome → rb_H → Prop), rb_Ct κ.1 yJ4_init wJ4_init d1 n2 [.ref M.1] (rb_nw M (rb_O 7 [.int 0, .null, .int 0])) Q3 ∧ rb_dp κ d1 ∧ rb_rom κ (n.1 + 1 + n2.1, n.2 + 3 + n2.2) ∧ rb_ob (rb_nw M (rb_O 7 [.int 0, .null, .int 0])) M.1 ci6 ∧ ∀ (o : Outcome) (M5 : rb_H), Q3 o M5 → (o = .returned none ∧ (∃ fs7, M5.2 a0 = some (rb_O 5 fs7) ∧ 4 < fs7.length ∧ (∃ N8, (12 : Int32) = nI N8 ∧ N8 ≤ 67108864 ∧ rb_rom κ (n.1 + 1 + n2.1 + 1, n.2 + 3 + n2.2 + N8) ∧ (∃ fs9, (rb_nw (rb_up M5 a0 (rb_O 5 (fs7.set 4 (.ref M.1)))) (rb_R 4 N8 (fun _ => none))).2 a0 = some (rb_O 5 fs9) ∧ 5 < fs9.length ∧ (∃ N10, (12 : Int32) = nI N10 ∧ N10 ≤ 67108864 ∧ rb_rom κ (n.1 + 1 + n2.1 + 1 + 1, n.2 + 3 + n2.2 + N8 + N10) ∧ (∃ fs11, (rb_nw (rb_up (rb_nw (rb_up M5 a0 (rb_O 5 (fs7.set 4 (.ref M.1)))) (rb_R 4 N8 (fun _ => none))) a0 (rb_O 5 (fs9.set 5 (.ref M5.1)))) (rb_R 4 N10 (fun _ => none))).2 a0 = some (rb_O 5 fs11) ∧ 6 < fs11.length ∧ (∃ N12, (12 : Int32) = nI N12 ∧ N12 ≤ 67108864 ∧ rb_rom κ (n.1 + 1 + n2.1 + 1 + 1 + 1, n.2 + 3 + n2.2 + N8 + N10 + N12) ∧ (∃ fs13, (rb_nw (rb_up (rb_nw (rb_up (rb_nw (rb_up M5 a0 (rb_O 5 (fs7.set 4 (.ref M.1)))) (rb_R 4 N8 (fun _ => none))) a0 (rb_O 5 (fs9.set 5 (.ref M5.1)))) (rb_R 4 N10 (fun _ => none))) a0 (rb_O 5 (fs11.set 6 (.ref (M5.1 + 1))))) (rb_Z N12 (fun _ => 0))).2 a0 = some (rb_O 5 fs13) ∧ 8 < fs13.length ∧ (∃ fs14, (rb_up (rb_nw (rb_up (rb_nw (rb_up (rb_nw (rb_up M5 a0 (rb_O 5 (fs7.set 4 (.ref M.1)))) (rb_R 4 N8 (fun _ => none))) a0 (rb_O 5 (fs9.set 5 (.ref M5.1)))) (rb_R 4 N10 (fun _ => none))) a0 (rb_O 5 (fs11.set 6 (.ref (M5.1 + 1))))) (rb_Z N12 (fun _ => 0))) a0 (rb_O 5 (fs13.set 8 (.ref (M5.1 + 2))))).2 a0 = some (rb_O 5 fs14) ∧ 0 < fs14.length ∧ (∃ fs15, (rb_up (rb_up (rb_nw (rb_up (rb_nw (rb_up (rb_nw (rb_up M5 a0 (rb_O 5 (fs7.set 4 (.ref M.1)))) (rb_R 4 N8 (fun _ => none))) a0 (rb_O 5 (fs9.set 5 (.ref M5.1)))) (rb_R 4 N10 (fun _ => none))) a0 (rb_O 5 (fs11.set 6 (.ref (M5.1 + 1))))) (rb_Z N12 (fun _ => 0))) a0 (rb_O 5 (fs13.set 8 (.ref (M5.1 + 2))))) a0 (rb_O 5 (fs14.set 0 (.int a1)))).2 a0 = some (rb_O 5 fs15) ∧ 1 < fs15.length ∧ (∃ fs16, (rb_up (rb_up (rb_up (rb_nw (rb_up (rb_nw (rb_up (rb_nw (rb_up M5 a0 (rb_O 5 (fs7.set 4 (.ref M.1)))) (rb_R 4 N8 (fun _ => none))) a0 (rb_O 5 (fs9.set 5 (.ref M5.1)))) (rb_R 4 N10 (fun _ => none))) a0 (rb_O 5 (fs11.set 6 (.ref (M5.1 + 1))))) (rb_Z N12 (fun _ => 0))) a0 (rb_O 5 (fs13.set 8 (.ref (M5.1 + 2))))) a0 (rb_O 5 (fs14.set 0 (.int a1)))) a0 (rb_O 5 (fs15.set 1 (.int a2)))).2 a0 = some (rb_O 5 fs16) ∧ 2 < fs16.length ∧ (∃ fs17, (rb_up (rb_up (rb_up (rb_up (rb_nw (rb_up (rb_nw (rb_up (rb_nw (rb_up M5 a0 (rb_O 5 (fs7.set 4 (.ref M.1)))) (rb_R 4 N8 (fun _ => none))) a0 (rb_O 5 (fs9.set 5 (.ref M5.1)))) (rb_R 4 N10 (fun _ => none))) a0 (rb_O 5 (fs11.set 6 (.ref (M5.1 + 1))))) (rb_Z N12 (fun _ => 0))) a0 (rb_O 5 (fs13.set 8 (.ref (M5.1 + 2))))) a0 (rb_O 5 (fs14.set 0 (.int a1)))) a0 (rb_O 5 (fs15.set 1 (.int a2)))) a0 (rb_O 5 (fs16.set 2 (.int a3)))).2 a0 = some (rb_O 5 fs17) ∧ 3 < fs17.length ∧ (rb_fin κ (n.1 + 1 + n2.1 + 1 + 1 + 1, n.2 + 3 + n2.2 + N8 + N10 + N12) ∧ κ.2.2.1 (.returned none) (rb_up (rb_up (rb_up (rb_up (rb_up (rb_nw (rb_up (rb_nw (rb_up (rb_nw (rb_up M5 a0 (rb_O 5 (fs7.set 4 (.ref M.1)))) (rb_R 4 N8 (fun _ => none))) a0 (rb_O 5 (fs9.set 5 (.ref M5.1)))) (rb_R 4 N10 (fun _ => none))) a0 (rb_O 5 (fs11.set 6 (.ref (M5.1 + 1))))) (rb_Z N12 (fun _ => 0))) a0 (rb_O 5 (fs13.set 8 (.ref (M5.1 + 2))))) a0 (rb_O 5 (fs14.set 0 (.int a1)))) a0 (rb_O 5 (fs15.set 1 (.int a2)))) a0 (rb_O 5 (fs16.set 2 (.int a3)))) a0 (rb_O 5 (fs17.set 3 (.int a4))))))))))))))))))))) : rb_Bd κ mX5_init n M 0 [some (.ref a0), some (.int a1), some (.int a2), some (.int a3), some (.int a4)] [] := by
  refine rb_aload_n 0 rfl rfl (rb_isR_ref _) dX5_init_0 ?_
  refine rb_objInit q421 q123 q124 (K).1.1 (Nat.le_trans (Nat.le_of_ble_eq_true rfl) (K).1.2) dX5_init_1 ?_
  refine rb_aload_n 0 rfl rfl (rb_isR_ref _) dX5_init_4 ?_
  refine rb_new nw_X5_9 (fs := [.int 0, .null, .int 0]) rfl ((K).2).1.1 ((K).2).1.2 dX5_init_5 ?_
  show rb_Bd κ mX5_init (n.1 + 1, n.2 + 3) (rb_nw M (rb_O 7 [.int 0, .null, .int 0])) 8 [some (.ref a0), some (.int a1), some (.int a2), some (.int a3), some (.int a4)] [.ref M.1, .ref a0]
  refine rb_dup rfl dX5_init_8 ?_
  obtain ⟨ci6, d1, n2, Q3, h1v4, hdv4, hnv4, hov4, Kv4⟩ := ((K).2).2
  refine rb_call (st_X5_11 ci6) (rest := [.ref M.1, .ref a0]) h1v4 rfl rfl (rc_rc rfl hov4) (Nat.le_of_ble_eq_true rfl) hdv4.1 hdv4.2 hnv4.1 hnv4.2 dX5_init_9 (fun o M5 hpv4 => ?_)
  obtain ⟨eo, KKv4⟩ := Kv4 o M5 hpv4
  subst eo
  show rb_Bd κ mX5_init (n.1 + 1 + n2.1, n.2 + 3 + n2.2) M5 12 [some (.ref a0), some (.int a1), some (.int a2), some (.int a3), some (.int a4)] [.ref M.1, .ref a0]
  obtain ⟨fs7, hMfs7, hlfs7, Kfs7⟩ := KKv4
  refine rb_put fl_X5_12_5 (fun q hq => by cases hq; exact Or.inr ⟨rfl, rfl⟩) (rb_nfR (rb_isR_ref _) _).1 (rb_nfR (rb_isR_ref _) _).2 hMfs7 hlfs7 dX5_init_12 ?_
  refine rb_aload_n 0 rfl rfl (rb_isR_ref _) dX5_init_15 ?_
  refine rb_bipush (v := (12 : Int32)) (by decide) dX5_init_16 ?_
  obtain ⟨N8, hxN8, hNN8, hrN8, KN8⟩ := Kfs7
  refine rb_anew (t := 4) (N := N8) (by decide) (by decide) q424 q241 hxN8 hNN8 hrN8.1 hrN8.2 dX5_init_18 ?_
  show rb_Bd κ mX5_init (n.1 + 1 + n2.1 + 1, n.2 + 3 + n2.2 + N8) (rb_nw (rb_up M5 a0 (rb_O 5 (fs7.set 4 (.ref M.1)))) (rb_R 4 N8 (fun _ => none))) 21 [some (.ref a0), some (.int a1), some (.int a2), some (.int a3), some (.int a4)] [.ref M5.1, .ref a0]
  obtain ⟨fs9, hMfs9, hlfs9, Kfs9⟩ := KN8
  refine rb_put fl_X5_20_5 (fun q hq => by cases hq; exact Or.inr ⟨rfl, rfl⟩) (rb_nfA (rb_isR_ref _) _).1 (rb_nfA (rb_isR_ref _) _).2 hMfs9 hlfs9 dX5_init_21 ?_
  refine rb_aload_n 0 rfl rfl (rb_isR_ref _) dX5_init_24 ?_
  refine rb_bipush (v := (12 : Int32)) (by decide) dX5_init_25 ?_
  obtain ⟨N10, hxN10, hNN10, hrN10, KN10⟩ := Kfs9
  refine rb_anew (t := 4) (N := N10) (by decide) (by decide) q424 q241 hxN10 hNN10 hrN10.1 hrN10.2 dX5_init_27 ?_
  show rb_Bd κ mX5_init (n.1 + 1 + n2.1 + 1 + 1, n.2 + 3 + n2.2 + N8 + N10) (rb_nw (rb_up (rb_nw (rb_up M5 a0 (rb_O 5 (fs7.set 4 (.ref M.1)))) (rb_R 4 N8 (fun _ => none))) a0 (rb_O 5 (fs9.set 5 (.ref M5.1)))) (rb_R 4 N10 (fun _ => none))) 30 [some (.ref a0), some (.int a1), some (.int a2), some (.int a3), some (.int a4)] [.ref (M5.1 + 1), .ref a0]
  obtain ⟨fs11, hMfs11, hlfs11, Kfs11⟩ := KN10
  refine rb_put fl_X5_24_5 (fun q hq => by cases hq; exact Or.inr ⟨rfl, rfl⟩) (rb_nfA (rb_isR_ref _) _).1 (rb_nfA (rb_isR_ref _) _).2 hMfs11 hlfs11 dX5_init_30 ?_
  refine rb_aload_n 0 rfl rfl (rb_isR_ref _) dX5_init_33 ?_
  refine rb_bipush (v := (12 : Int32)) (by decide) dX5_init_34 ?_
  obtain ⟨N12, hxN12, hNN12, hrN12, KN12⟩ := Kfs11
  refine rb_newa (atype := .boolean) (t := 2) (N := N12) (e0 := rb_Z N12 (fun _ => 0)) (Or.inr (Or.inr rfl)) q291 hxN12 hNN12 rfl hrN12.1 hrN12.2 dX5_init_36 ?_
  show rb_Bd κ mX5_init (n.1 + 1 + n2.1 + 1 + 1 + 1, n.2 + 3 + n2.2 + N8 + N10 + N12) (rb_nw (rb_up (rb_nw (rb_up (rb_nw (rb_up M5 a0 (rb_O 5 (fs7.set 4 (.ref M.1)))) (rb_R 4 N8 (fun _ => none))) a0 (rb_O 5 (fs9.set 5 (.ref M5.1)))) (rb_R 4 N10 (fun _ => none))) a0 (rb_O 5 (fs11.set 6 (.ref (M5.1 + 1))))) (rb_Z N12 (fun _ => 0))) 38 [some (.ref a0), some (.int a1), some (.int a2), some (.int a3), some (.int a4)] [.ref (M5.1 + 2), .ref a0]
  obtain ⟨fs13, hMfs13, hlfs13, Kfs13⟩ := KN12
  refine rb_put fl_X5_27_5 (fun q hq => by cases hq; exact Or.inr ⟨rfl, rfl⟩) (rb_nfA (rb_isR_ref _) _).1 (rb_nfA (rb_isR_ref _) _).2 hMfs13 hlfs13 dX5_init_38 ?_
  refine rb_aload_n 0 rfl rfl (rb_isR_ref _) dX5_init_41 ?_
  refine rb_iload_n 1 rfl rfl dX5_init_42 ?_
  obtain ⟨fs14, hMfs14, hlfs14, Kfs14⟩ := Kfs13
  refine rb_put fl_X5_31_5 (fun q hq => by cases hq; exact Or.inr ⟨rfl, rfl⟩) rfl rfl hMfs14 hlfs14 dX5_init_43 ?_
  refine rb_aload_n 0 rfl rfl (rb_isR_ref _) dX5_init_46 ?_
  refine rb_iload_n 2 rfl rfl dX5_init_47 ?_
  obtain ⟨fs15, hMfs15, hlfs15, Kfs15⟩ := Kfs14
  refine rb_put fl_X5_35_5 (fun q hq => by cases hq; exact Or.inr ⟨rfl, rfl⟩) rfl rfl hMfs15 hlfs15 dX5_init_48 ?_
  refine rb_aload_n 0 rfl rfl (rb_isR_ref _) dX5_init_51 ?_
  refine rb_iload_n 3 rfl rfl dX5_init_52 ?_
  obtain ⟨fs16, hMfs16, hlfs16, Kfs16⟩ := Kfs15
  refine rb_put fl_X5_38_5 (fun q hq => by cases hq; exact Or.inr ⟨rfl, rfl⟩) rfl rfl hMfs16 hlfs16 dX5_init_53 ?_
  refine rb_aload_n 0 rfl rfl (rb_isR_ref _) dX5_init_56 ?_
  refine rb_iload rfl dX5_init_57 ?_
  obtain ⟨fs17, hMfs17, hlfs17, Kfs17⟩ := Kfs16
  refine rb_put fl_X5_41_5 (fun q hq => by cases hq; exact Or.inr ⟨rfl, rfl⟩) rfl rfl hMfs17 hlfs17 dX5_init_59 ?_
  exact rb_vret rfl (Kfs17).1.1 (Kfs17).1.2 dX5_init_62 (Kfs17).2
theorem sgX6_init_0 {κ : rb_K} {n : Nat × Nat} {M : rb_H} {a0 : Nat} {a1 : Value} {a2 : Int32} {a3 : Int32} {a4 : Int32} (ha1 : rb_isR a1) (K : (rb_dp κ 0 ∧ (rb_rom κ (n.1 + 1, n.2 + 3) ∧ (∃ (ci6 : Nat) (d1 : Nat) (n2 : Nat × Nat) (Q3 : Outcome → rb_H → Prop), rb_Ct κ.1 yJ4_init wJ4_init d1 n2 [.ref M.1] (rb_nw M (rb_O 7 [.int 0, .null, .int 0])) Q3 ∧ rb_dp κ d1 ∧ rb_rom κ (n.1 + 1 + n2.1, n.2 + 3 + n2.2) ∧ rb_ob (rb_nw M (rb_O 7 [.int 0, .null, .int 0])) M.1 ci6 ∧ ∀ (o : Outcome) (M5 : rb_H), Q3 o M5 → (o = .returned none ∧ (∃ fs7, M5.2 a0 = some (rb_O 6 fs7) ∧ 4 < fs7.length ∧ (∃ fs8, (rb_up M5 a0 (rb_O 6 (fs7.set 4 (.ref M.1)))).2 a0 = some (rb_O 6 fs8) ∧ 0 < fs8.length ∧ (∃ fs9, (rb_up (rb_up M5 a0 (rb_O 6 (fs7.set 4 (.ref M.1)))) a0 (rb_O 6 (fs8.set 0 a1))).2 a0 = some (rb_O 6 fs9) ∧ 1 < fs9.length ∧ (∃ fs10, (rb_up (rb_up (rb_up M5 a0 (rb_O 6 (fs7.set 4 (.ref M.1)))) a0 (rb_O 6 (fs8.set 0 a1))) a0 (rb_O 6 (fs9.set 1 (.int a2)))).2 a0 = some (rb_O 6 fs10) ∧ 2 < fs10.length ∧ (∃ fs11, (rb_up (rb_up (rb_up (rb_up M5 a0 (rb_O 6 (fs7.set 4 (.ref M.1)))) a0 (rb_O 6 (fs8.set 0 a1))) a0 (rb_O 6 (fs9.set 1 (.int a2)))) a0 (rb_O 6 (fs10.set 2 (.int a3)))).2 a0 = some (rb_O 6 fs11) ∧ 3 < fs11.length ∧ (rb_fin κ (n.1 + 1 + n2.1, n.2 + 3 + n2.2) ∧ κ.2.2.1 (.returned none) (rb_up (rb_up (rb_up (rb_up (rb_up M5 a0 (rb_O 6 (fs7.set 4 (.ref M.1)))) a0 (rb_O 6 (fs8.set 0 a1))) a0 (rb_O 6 (fs9.set 1 (.int a2)))) a0 (rb_O 6 (fs10.set 2 (.int a3)))) a0 (rb_O 6 (fs11.set 3 (.int a4))))))))))))))) : rb_Bd κ mX6_init n M 0 [some (.ref a0), some a1, some (.int a2), some (.int a3), some (.int a4)] [] := by
  refine rb_aload_n 0 rfl rfl (rb_isR_ref _) dX6_init_0 ?_
  refine rb_objInit q629 q123 q124 (K).1.1 (Nat.le_trans (Nat.le_of_ble_eq_true rfl) (K).1.2) dX6_init_1 ?_
  refine rb_aload_n 0 rfl rfl (rb_isR_ref _) dX6_init_4 ?_
  refine rb_new nw_X6_7 (fs := [.int 0, .null, .int 0]) rfl ((K).2).1.1 ((K).2).1.2 dX6_init_5 ?_
  show rb_Bd κ mX6_init (n.1 + 1, n.2 + 3) (rb_nw M (rb_O 7 [.int 0, .null, .int 0])) 8 [some (.ref a0), some a1, some (.int a2), some (.int a3), some (.int a4)] [.ref M.1, .ref a0]
  refine rb_dup rfl dX6_init_8 ?_
  obtain ⟨ci6, d1, n2, Q3, h1v4, hdv4, hnv4, hov4, Kv4⟩ := ((K).2).2
  refine rb_call (st_X6_9 ci6) (rest := [.ref M.1, .ref a0]) h1v4 rfl rfl (rc_rc rfl hov4) (Nat.le_of_ble_eq_true rfl) hdv4.1 hdv4.2 hnv4.1 hnv4.2 dX6_init_9 (fun o M5 hpv4 => ?_)
  obtain ⟨eo, KKv4⟩ := Kv4 o M5 hpv4
  subst eo
  show rb_Bd κ mX6_init (n.1 + 1 + n2.1, n.2 + 3 + n2.2) M5 12 [some (.ref a0), some a1, some (.int a2), some (.int a3), some (.int a4)] [.ref M.1, .ref a0]
  obtain ⟨fs7, hMfs7, hlfs7, Kfs7⟩ := KKv4
  refine rb_put fl_X6_10_6 (fun q hq => by cases hq; exact Or.inr ⟨rfl, rfl⟩) (rb_nfR (rb_isR_ref _) _).1 (rb_nfR (rb_isR_ref _) _).2 hMfs7 hlfs7 dX6_init_12 ?_
  refine rb_aload_n 0 rfl rfl (rb_isR_ref _) dX6_init_15 ?_
  refine rb_aload_n 1 rfl rfl ha1 dX6_init_16 ?_
  obtain ⟨fs8, hMfs8, hlfs8, Kfs8⟩ := Kfs7
  refine rb_put fl_X6_16_6 (fun q hq => by cases hq; exact Or.inr ⟨rfl, rfl⟩) (rb_nfR ha1 _).1 (rb_nfR ha1 _).2 hMfs8 hlfs8 dX6_init_17 ?_
  refine rb_aload_n 0 rfl rfl (rb_isR_ref _) dX6_init_20 ?_
  refine rb_iload_n 2 rfl rfl dX6_init_21 ?_
  obtain ⟨fs9, hMfs9, hlfs9, Kfs9⟩ := Kfs8
  refine rb_put fl_X6_20_6 (fun q hq => by cases hq; exact Or.inr ⟨rfl, rfl⟩) rfl rfl hMfs9 hlfs9 dX6_init_22 ?_
  refine rb_aload_n 0 rfl rfl (rb_isR_ref _) dX6_init_25 ?_
  refine rb_iload_n 3 rfl rfl dX6_init_26 ?_
  obtain ⟨fs10, hMfs10, hlfs10, Kfs10⟩ := Kfs9
  refine rb_put fl_X6_24_6 (fun q hq => by cases hq; exact Or.inr ⟨rfl, rfl⟩) rfl rfl hMfs10 hlfs10 dX6_init_27 ?_
  refine rb_aload_n 0 rfl rfl (rb_isR_ref _) dX6_init_30 ?_
  refine rb_iload rfl dX6_init_31 ?_
  obtain ⟨fs11, hMfs11, hlfs11, Kfs11⟩ := Kfs10
  refine rb_put fl_X6_27_6 (fun q hq => by cases hq; exact Or.inr ⟨rfl, rfl⟩) rfl rfl hMfs11 hlfs11 dX6_init_33 ?_
  exact rb_vret rfl (Kfs11).1.1 (Kfs11).1.2 dX6_init_36 (Kfs11).2
theorem sgX7_init_0 {κ : rb_K} {n : Nat × Nat} {M : rb_H} {a0 : Nat} {a1 : Value} {a2 : Int32} {a3 : Int32} (ha1 : rb_isR a1) (K : (∃ (ci2 k3 : Nat) (fs1 : List Value), rb_FL "RoleLoom$Act" 1 ci2 k3 ∧ (∀ q : vw_C, rb_cl[ci2]? = some q → (q.2.1 k3).2.2.2 = false ∨ ("RoleLoom$Act" = (q.2.1 k3).1 ∧ "<init>" = "<init>")) ∧ narrow (rb_ty ci2 k3) a1 = a1 ∧ fits (rb_ty ci2 k3) a1 = true ∧ M.2 a0 = some (rb_O ci2 fs1) ∧ k3 < fs1.length ∧ (rb_dp κ 0 ∧ (∃ (ci5 k6 : Nat) (fs4 : List Value), rb_FL "RoleLoom$Act" 13 ci5 k6 ∧ (∀ q : vw_C, rb_cl[ci5]? = some q → (q.2.1 k6).2.2.2 = false ∨ ("RoleLoom$Act" = (q.2.1 k6).1 ∧ "<init>" = "<init>")) ∧ narrow (rb_ty ci5 k6) (.int a2) = (.int a2) ∧ fits (rb_ty ci5 k6) (.int a2) = true ∧ (rb_up M a0 (rb_O ci2 (fs1.set k3 a1))).2 a0 = some (rb_O ci5 fs4) ∧ k6 < fs4.length ∧ (∃ (ci8 k9 : Nat) (fs7 : List Value), rb_FL "RoleLoom$Act" 17 ci8 k9 ∧ (∀ q : vw_C, rb_cl[ci8]? = some q → (q.2.1 k9).2.2.2 = false ∨ ("RoleLoom$Act" = (q.2.1 k9).1 ∧ "<init>" = "<init>")) ∧ narrow (rb_ty ci8 k9) (.int a3) = (.int a3) ∧ fits (rb_ty ci8 k9) (.int a3) = true ∧ (rb_up (rb_up M a0 (rb_O ci2 (fs1.set k3 a1))) a0 (rb_O ci5 (fs4.set k6 (.int a2)))).2 a0 = some (rb_O ci8 fs7) ∧ k9 < fs7.length ∧ (rb_fin κ n ∧ κ.2.2.1 (.returned none) (rb_up (rb_up (rb_up M a0 (rb_O ci2 (fs1.set k3 a1))) a0 (rb_O ci5 (fs4.set k6 (.int a2)))) a0 (rb_O ci8 (fs7.set k9 (.int a3)))))))))) : rb_Bd κ mX7_init n M 0 [some (.ref a0), some a1, some (.int a2), some (.int a3)] [] := by
  refine rb_aload_n 0 rfl rfl (rb_isR_ref _) dX7_init_0 ?_
  refine rb_aload_n 1 rfl rfl ha1 dX7_init_1 ?_
  obtain ⟨ci2, k3, fs1, hffs1, hgfs1, hnfs1, hmfs1, hMfs1, hlfs1, Kfs1⟩ := K
  refine rb_put hffs1 hgfs1 hnfs1 hmfs1 hMfs1 hlfs1 dX7_init_2 ?_
  refine rb_aload_n 0 rfl rfl (rb_isR_ref _) dX7_init_5 ?_
  refine rb_objInit q670 q123 q124 (Kfs1).1.1 (Nat.le_trans (Nat.le_of_ble_eq_true rfl) (Kfs1).1.2) dX7_init_6 ?_
  refine rb_aload_n 0 rfl rfl (rb_isR_ref _) dX7_init_9 ?_
  refine rb_iload_n 2 rfl rfl dX7_init_10 ?_
  obtain ⟨ci5, k6, fs4, hffs4, hgfs4, hnfs4, hmfs4, hMfs4, hlfs4, Kfs4⟩ := (Kfs1).2
  refine rb_put hffs4 hgfs4 hnfs4 hmfs4 hMfs4 hlfs4 dX7_init_11 ?_
  refine rb_aload_n 0 rfl rfl (rb_isR_ref _) dX7_init_14 ?_
  refine rb_iload_n 3 rfl rfl dX7_init_15 ?_
  obtain ⟨ci8, k9, fs7, hffs7, hgfs7, hnfs7, hmfs7, hMfs7, hlfs7, Kfs7⟩ := Kfs4
  refine rb_put hffs7 hgfs7 hnfs7 hmfs7 hMfs7 hlfs7 dX7_init_16 ?_
  exact rb_vret rfl (Kfs7).1.1 (Kfs7).1.2 dX7_init_19 (Kfs7).2
theorem sgX8_init_0 {κ : rb_K} {n : Nat × Nat} {M : rb_H} {a0 : Nat} {a1 : Value} {a2 : Int32} (ha1 : rb_isR a1) (K : (∃ (ci2 k3 : Nat) (fs1 : List Value), rb_FL "RoleLoom$Number" 1 ci2 k3 ∧ (∀ q : vw_C, rb_cl[ci2]? = some q → (q.2.1 k3).2.2.2 = false ∨ ("RoleLoom$Number" = (q.2.1 k3).1 ∧ "<init>" = "<init>")) ∧ narrow (rb_ty ci2 k3) a1 = a1 ∧ fits (rb_ty ci2 k3) a1 = true ∧ M.2 a0 = some (rb_O ci2 fs1) ∧ k3 < fs1.length ∧ (∃ (ci9 : Nat) (d4 : Nat) (n5 : Nat × Nat) (Q6 : Outcome → rb_H → Prop), rb_Ct κ.1 yX7_init wX7_init d4 n5 [.ref a0, a1, .int a2, .int (0 : Int32)] (rb_up M a0 (rb_O ci2 (fs1.set k3 a1))) Q6 ∧ rb_dp κ d4 ∧ rb_rom κ (n.1 + n5.1, n.2 + n5.2) ∧ rb_ob (rb_up M a0 (rb_O ci2 (fs1.set k3 a1))) a0 ci9 ∧ ∀ (o : Outcome) (M8 : rb_H), Q6 o M8 → (o = .returned none ∧ (rb_fin κ (n.1 + n5.1, n.2 + n5.2) ∧ κ.2.2.1 (.returned none) M8))))) : rb_Bd κ mX8_init n M 0 [some (.ref a0), some a1, some (.int a2)] [] := by
  refine rb_aload_n 0 rfl rfl (rb_isR_ref _) dX8_init_0 ?_
  refine rb_aload_n 1 rfl rfl ha1 dX8_init_1 ?_
  obtain ⟨ci2, k3, fs1, hffs1, hgfs1, hnfs1, hmfs1, hMfs1, hlfs1, Kfs1⟩ := K
  refine rb_put hffs1 hgfs1 hnfs1 hmfs1 hMfs1 hlfs1 dX8_init_2 ?_
  refine rb_aload_n 0 rfl rfl (rb_isR_ref _) dX8_init_5 ?_
  refine rb_aload_n 1 rfl rfl ha1 dX8_init_6 ?_
  refine rb_iload_n 2 rfl rfl dX8_init_7 ?_
  refine rb_iconst (v := (0 : Int32)) (by decide) dX8_init_8 ?_
  obtain ⟨ci9, d4, n5, Q6, h1v7, hdv7, hnv7, hov7, Kv7⟩ := Kfs1
  refine rb_call (st_X8_7 ci9) (rest := []) h1v7 rfl rfl (rc_rc rfl hov7) (Nat.le_of_ble_eq_true rfl) hdv7.1 hdv7.2 hnv7.1 hnv7.2 dX8_init_9 (fun o M8 hpv7 => ?_)
  obtain ⟨eo, KKv7⟩ := Kv7 o M8 hpv7
  subst eo
  show rb_Bd κ mX8_init (n.1 + n5.1, n.2 + n5.2) M8 12 [some (.ref a0), some a1, some (.int a2)] []
  exact rb_vret rfl (KKv7).1.1 (KKv7).1.2 dX8_init_12 (KKv7).2
theorem sgX8_fits_0 {κ : rb_K} {n : Nat × Nat} {M : rb_H} {a0 : Nat} {a1 : Value} (ha1 : rb_isR a1) (K : (∃ (ci2 k3 : Nat) (x1 : Int32), rb_FL "RoleLoom$Number" 13 ci2 k3 ∧ rb_rd M a0 ci2 k3 (.int x1) ∧ (∃ (d4 : Nat) (n5 : Nat × Nat) (Q6 : Outcome → rb_H → Prop), rb_Ct κ.1 yX0_isNumber wX0_isNumber d4 n5 [.int x1] M Q6 ∧ rb_dp κ d4 ∧ rb_rom κ (n.1 + n5.1, n.2 + n5.2) ∧ ∀ (o : Outcome) (M8 : rb_H), Q6 o M8 → (∃ (x7 : Int32), o = .returned (some (.int x7)) ∧ (narrow .boolean (.int x7) = .int x7 ∧ rb_fin κ (n.1 + n5.1, n.2 + n5.2) ∧ κ.2.2.1 (.returned (some (.int x7))) M8))))) : rb_Bd κ mX8_fits n M 0 [some (.ref a0), some a1] [] := by
  refine rb_aload_n 0 rfl rfl (rb_isR_ref _) dX8_fits_0 ?_
  obtain ⟨ci2, k3, x1, hfx1, hrx1, Kx1⟩ := K
  refine rc_get hfx1 hrx1 dX8_fits_1 ?_
  obtain ⟨d4, n5, Q6, h1x7, hdx7, hnx7, Kx7⟩ := Kx1
  refine rb_call st_X8_17 (rest := []) h1x7 rfl rfl mm_rn (Nat.le_of_ble_eq_true rfl) hdx7.1 hdx7.2 hnx7.1 hnx7.2 dX8_fits_4 (fun o M8 hpx7 => ?_)
  obtain ⟨x7, eo, KKx7⟩ := Kx7 o M8 hpx7
  subst eo
  show rb_Bd κ mX8_fits (n.1 + n5.1, n.2 + n5.2) M8 7 [some (.ref a0), some a1] [.int x7]
  exact rb_iret rfl (KKx7).1 (KKx7).2.1.1 (KKx7).2.1.2 dX8_fits_7 (KKx7).2.2
theorem sgX8_act_0 {κ : rb_K} {n : Nat × Nat} {M : rb_H} {a0 : Nat} {a1 : Value} {a2 : Int64} (ha1 : rb_isR a1) (K : (∃ (ci2 k3 : Nat) (x1 : Int32), rb_FL "RoleLoom$Number" 13 ci2 k3 ∧ rb_rd M a0 ci2 k3 (.int x1) ∧ (rb_fin κ n ∧ κ.2.2.1 (.returned (some (.long (x1).toInt64))) M))) : rb_Bd κ mX8_act n M 0 [some (.ref a0), some a1, some (.long a2), none] [] := by
  refine rb_aload_n 0 rfl rfl (rb_isR_ref _) dX8_act_0 ?_
  obtain ⟨ci2, k3, x1, hfx1, hrx1, Kx1⟩ := K
  refine rc_get hfx1 hrx1 dX8_act_1 ?_
  refine rb_i2l (z := (x1).toInt64) rfl dX8_act_4 ?_
  exact rb_lret rfl (Kx1).1.1 (Kx1).1.2 dX8_act_5 (Kx1).2
theorem sgX9_init_0 {κ : rb_K} {n : Nat × Nat} {M : rb_H} {a0 : Nat} {a1 : Value} (ha1 : rb_isR a1) (K : (∃ (ci2 k3 : Nat) (fs1 : List Value), rb_FL "RoleLoom$Argument" 1 ci2 k3 ∧ (∀ q : vw_C, rb_cl[ci2]? = some q → (q.2.1 k3).2.2.2 = false ∨ ("RoleLoom$Argument" = (q.2.1 k3).1 ∧ "<init>" = "<init>")) ∧ narrow (rb_ty ci2 k3) a1 = a1 ∧ fits (rb_ty ci2 k3) a1 = true ∧ M.2 a0 = some (rb_O ci2 fs1) ∧ k3 < fs1.length ∧ (∃ (ci9 : Nat) (d4 : Nat) (n5 : Nat × Nat) (Q6 : Outcome → rb_H → Prop), rb_Ct κ.1 yX7_init wX7_init d4 n5 [.ref a0, a1, .int (0 : Int32), .int (0 : Int32)] (rb_up M a0 (rb_O ci2 (fs1.set k3 a1))) Q6 ∧ rb_dp κ d4 ∧ rb_rom κ (n.1 + n5.1, n.2 + n5.2) ∧ rb_ob (rb_up M a0 (rb_O ci2 (fs1.set k3 a1))) a0 ci9 ∧ ∀ (o : Outcome) (M8 : rb_H), Q6 o M8 → (o = .returned none ∧ (rb_fin κ (n.1 + n5.1, n.2 + n5.2) ∧ κ.2.2.1 (.returned none) M8))))) : rb_Bd κ mX9_init n M 0 [some (.ref a0), some a1] [] := by
  refine rb_aload_n 0 rfl rfl (rb_isR_ref _) dX9_init_0 ?_
  refine rb_aload_n 1 rfl rfl ha1 dX9_init_1 ?_
  obtain ⟨ci2, k3, fs1, hffs1, hgfs1, hnfs1, hmfs1, hMfs1, hlfs1, Kfs1⟩ := K
  refine rb_put hffs1 hgfs1 hnfs1 hmfs1 hMfs1 hlfs1 dX9_init_2 ?_
  refine rb_aload_n 0 rfl rfl (rb_isR_ref _) dX9_init_5 ?_
  refine rb_aload_n 1 rfl rfl ha1 dX9_init_6 ?_
  refine rb_iconst (v := (0 : Int32)) (by decide) dX9_init_7 ?_
  refine rb_iconst (v := (0 : Int32)) (by decide) dX9_init_8 ?_
  obtain ⟨ci9, d4, n5, Q6, h1v7, hdv7, hnv7, hov7, Kv7⟩ := Kfs1
  refine rb_call (st_X9_7 ci9) (rest := []) h1v7 rfl rfl (rc_rc rfl hov7) (Nat.le_of_ble_eq_true rfl) hdv7.1 hdv7.2 hnv7.1 hnv7.2 dX9_init_9 (fun o M8 hpv7 => ?_)
  obtain ⟨eo, KKv7⟩ := Kv7 o M8 hpv7
  subst eo
  show rb_Bd κ mX9_init (n.1 + n5.1, n.2 + n5.2) M8 12 [some (.ref a0), some a1] []
  exact rb_vret rfl (KKv7).1.1 (KKv7).1.2 dX9_init_12 (KKv7).2
theorem sgX9_act_0 {κ : rb_K} {n : Nat × Nat} {M : rb_H} {a0 : Nat} {a1 : Value} {a2 : Int64} (ha1 : rb_isR a1) (K : (∃ q1, a1 = .ref q1 ∧ (∃ (x2 : Int64), rb_rd M q1 3 5 (.long x2) ∧ (rb_fin κ n ∧ κ.2.2.1 (.returned (some (.long x2))) M)))) : rb_Bd κ mX9_act n M 0 [some (.ref a0), some a1, some (.long a2), none] [] := by
  refine rb_aload_n 1 rfl rfl ha1 dX9_act_0 ?_
  obtain ⟨q1, eq1, Kq1⟩ := K
  subst eq1
  obtain ⟨x2, hrx2, Kx2⟩ := Kq1
  refine rc_get fl_X9_13_3 hrx2 dX9_act_1 ?_
  exact rb_lret rfl (Kx2).1.1 (Kx2).1.2 dX9_act_4 (Kx2).2
