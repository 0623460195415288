set_option maxRecDepth 100000
section C11
variable {g : rb_G} {ms : mm_S} {ad : aD} {h : Nat} {ms0 : mm_S} {M : rb_H} {B : Nat}
theorem i7_8 {a0 q : Nat} {x y : Int32} {v0 v1 v2 v3 : Value} (h0 : M.2 a0 = some (rb_O 8 [v0, v1, v2, v3])) : rb_Ct g yX7_init wX7_init 1 (0, 0) [.ref a0, .ref q, .int x, .int y] M (qr none (rb_up M a0 (rb_O 8 [.int x, .int y, .ref q, v3]))) := by
  refine rb_Ct.of (by decide) (Nat.le_of_ble_eq_true rfl) rfl ?_
  refine sgX7_init_0 (rb_isR_ref _) ⟨8, 2, _, fl_X7_1_8, fun q hq => (by cases hq; exact Or.inr ⟨rfl, rfl⟩), rfl, rfl, h0, nl rfl, rb_dpk (by decide), 8, 0, _, fl_X7_13_8, fun q hq => (by cases hq; exact Or.inr ⟨rfl, rfl⟩), rfl, rfl, rb_up_eq, nl rfl, 8, 1, _, fl_X7_17_8, fun q hq => (by cases hq; exact Or.inr ⟨rfl, rfl⟩), rfl, rfl, rb_up_eq, nl rfl, zf, rfl, ?_⟩
  rw [rb_up_up, rb_up_up]
  rfl
theorem i8_8 {a0 q : Nat} {x : Int32} {v0 v1 v2 v3 : Value} (h0 : M.2 a0 = some (rb_O 8 [v0, v1, v2, v3])) : rb_Ct g yX8_init wX8_init 2 (0, 0) [.ref a0, .ref q, .int x] M (qr none (rb_up M a0 (rb_O 8 [.int x, .int 0, .ref q, .ref q]))) := by
  refine rb_Ct.of (by decide) (Nat.le_of_ble_eq_true rfl) rfl ?_
  refine sgX8_init_0 (rb_isR_ref _) ⟨8, 3, _, fl_X8_1_8, fun q hq => (by cases hq; exact Or.inr ⟨rfl, rfl⟩), rfl, rfl, h0, nl rfl, 8, _, _, _, i7_8 rb_up_eq, rb_dpk (by decide), zr, ⟨_, rb_up_eq⟩, ?_⟩
  rintro _ _ ⟨rfl, rfl⟩
  refine ⟨rfl, zf, rfl, ?_⟩
  exact rb_up_up
theorem i7_9 {a0 q : Nat} {x y : Int32} {v0 v1 v2 v3 : Value} (h0 : M.2 a0 = some (rb_O 9 [v0, v1, v2, v3])) : rb_Ct g yX7_init wX7_init 1 (0, 0) [.ref a0, .ref q, .int x, .int y] M (qr none (rb_up M a0 (rb_O 9 [.int x, .int y, .ref q, v3]))) := by
  refine rb_Ct.of (by decide) (Nat.le_of_ble_eq_true rfl) rfl ?_
  refine sgX7_init_0 (rb_isR_ref _) ⟨9, 2, _, fl_X7_1_9, fun q hq => (by cases hq; exact Or.inr ⟨rfl, rfl⟩), rfl, rfl, h0, nl rfl, rb_dpk (by decide), 9, 0, _, fl_X7_13_9, fun q hq => (by cases hq; exact Or.inr ⟨rfl, rfl⟩), rfl, rfl, rb_up_eq, nl rfl, 9, 1, _, fl_X7_17_9, fun q hq => (by cases hq; exact Or.inr ⟨rfl, rfl⟩), rfl, rfl, rb_up_eq, nl rfl, zf, rfl, ?_⟩
  rw [rb_up_up, rb_up_up]
  rfl
theorem i9_9 {a0 q : Nat}  {v0 v1 v2 v3 : Value} (h0 : M.2 a0 = some (rb_O 9 [v0, v1, v2, v3])) : rb_Ct g yX9_init wX9_init 2 (0, 0) [.ref a0, .ref q] M (qr none (rb_up M a0 (rb_O 9 [.int 0, .int 0, .ref q, .ref q]))) := by
  refine rb_Ct.of (by decide) (Nat.le_of_ble_eq_true rfl) rfl ?_
  refine sgX9_init_0 (rb_isR_ref _) ⟨9, 3, _, fl_X9_1_9, fun q hq => (by cases hq; exact Or.inr ⟨rfl, rfl⟩), rfl, rfl, h0, nl rfl, 9, _, _, _, i7_9 rb_up_eq, rb_dpk (by decide), zr, ⟨_, rb_up_eq⟩, ?_⟩
  rintro _ _ ⟨rfl, rfl⟩
  refine ⟨rfl, zf, rfl, ?_⟩
  exact rb_up_up
theorem i7_10 {a0 q : Nat} {x y : Int32} {v0 v1 v2 v3 : Value} (h0 : M.2 a0 = some (rb_O 10 [v0, v1, v2, v3])) : rb_Ct g yX7_init wX7_init 1 (0, 0) [.ref a0, .ref q, .int x, .int y] M (qr none (rb_up M a0 (rb_O 10 [.int x, .int y, .ref q, v3]))) := by
  refine rb_Ct.of (by decide) (Nat.le_of_ble_eq_true rfl) rfl ?_
  refine sgX7_init_0 (rb_isR_ref _) ⟨10, 2, _, fl_X7_1_10, fun q hq => (by cases hq; exact Or.inr ⟨rfl, rfl⟩), rfl, rfl, h0, nl rfl, rb_dpk (by decide), 10, 0, _, fl_X7_13_10, fun q hq => (by cases hq; exact Or.inr ⟨rfl, rfl⟩), rfl, rfl, rb_up_eq, nl rfl, 10, 1, _, fl_X7_17_10, fun q hq => (by cases hq; exact Or.inr ⟨rfl, rfl⟩), rfl, rfl, rb_up_eq, nl rfl, zf, rfl, ?_⟩
  rw [rb_up_up, rb_up_up]
  rfl
theorem i10_10 {a0 q : Nat} {x : Int32} {v0 v1 v2 v3 : Value} (h0 : M.2 a0 = some (rb_O 10 [v0, v1, v2, v3])) : rb_Ct g yX10_init wX10_init 2 (0, 0) [.ref a0, .ref q, .int x] M (qr none (rb_up M a0 (rb_O 10 [.int x, .int 0, .ref q, .ref q]))) := by
  refine rb_Ct.of (by decide) (Nat.le_of_ble_eq_true rfl) rfl ?_
  refine sgX10_init_0 (rb_isR_ref _) ⟨10, 3, _, fl_X10_1_10, fun q hq => (by cases hq; exact Or.inr ⟨rfl, rfl⟩), rfl, rfl, h0, nl rfl, 10, _, _, _, i7_10 rb_up_eq, rb_dpk (by decide), zr, ⟨_, rb_up_eq⟩, ?_⟩
  rintro _ _ ⟨rfl, rfl⟩
  refine ⟨rfl, zf, rfl, ?_⟩
  exact rb_up_up
theorem i7_11 {a0 q : Nat} {x y : Int32} {v0 v1 v2 v3 v4 : Value} (h0 : M.2 a0 = some (rb_O 11 [v0, v1, v2, v3, v4])) : rb_Ct g yX7_init wX7_init 1 (0, 0) [.ref a0, .ref q, .int x, .int y] M (qr none (rb_up M a0 (rb_O 11 [.int x, .int y, .ref q, v3, v4]))) := by
  refine rb_Ct.of (by decide) (Nat.le_of_ble_eq_true rfl) rfl ?_
  refine sgX7_init_0 (rb_isR_ref _) ⟨11, 2, _, fl_X7_1_11, fun q hq => (by cases hq; exact Or.inr ⟨rfl, rfl⟩), rfl, rfl, h0, nl rfl, rb_dpk (by decide), 11, 0, _, fl_X7_13_11, fun q hq => (by cases hq; exact Or.inr ⟨rfl, rfl⟩), rfl, rfl, rb_up_eq, nl rfl, 11, 1, _, fl_X7_17_11, fun q hq => (by cases hq; exact Or.inr ⟨rfl, rfl⟩), rfl, rfl, rb_up_eq, nl rfl, zf, rfl, ?_⟩
  rw [rb_up_up, rb_up_up]
  rfl
theorem i10_11 {a0 q : Nat} {x : Int32} {v0 v1 v2 v3 v4 : Value} (h0 : M.2 a0 = some (rb_O 11 [v0, v1, v2, v3, v4])) : rb_Ct g yX10_init wX10_init 2 (0, 0) [.ref a0, .ref q, .int x] M (qr none (rb_up M a0 (rb_O 11 [.int x, .int 0, .ref q, .ref q, v4]))) := by
  refine rb_Ct.of (by decide) (Nat.le_of_ble_eq_true rfl) rfl ?_
  refine sgX10_init_0 (rb_isR_ref _) ⟨11, 3, _, fl_X10_1_11, fun q hq => (by cases hq; exact Or.inr ⟨rfl, rfl⟩), rfl, rfl, h0, nl rfl, 11, _, _, _, i7_11 rb_up_eq, rb_dpk (by decide), zr, ⟨_, rb_up_eq⟩, ?_⟩
  rintro _ _ ⟨rfl, rfl⟩
  refine ⟨rfl, zf, rfl, ?_⟩
  exact rb_up_up
theorem i11_11 {a0 q : Nat} {x : Int32} {v0 v1 v2 v3 v4 : Value} (h0 : M.2 a0 = some (rb_O 11 [v0, v1, v2, v3, v4])) : rb_Ct g yX11_init wX11_init 3 (0, 0) [.ref a0, .ref q, .int x] M (qr none (rb_up M a0 (rb_O 11 [.int x, .int 0, .ref q, .ref q, .ref q]))) := by
  refine rb_Ct.of (by decide) (Nat.le_of_ble_eq_true rfl) rfl ?_
  refine sgX11_init_0 (rb_isR_ref _) ⟨11, 4, _, fl_X11_1_11, fun q hq => (by cases hq; exact Or.inr ⟨rfl, rfl⟩), rfl, rfl, h0, nl rfl, 11, _, _, _, i10_11 rb_up_eq, rb_dpk (by decide), zr, ⟨_, rb_up_eq⟩, ?_⟩
  rintro _ _ ⟨rfl, rfl⟩
  refine ⟨rfl, zf, rfl, ?_⟩
  exact rb_up_up
theorem i7_12 {a0 q : Nat} {x y : Int32} {v0 v1 v2 v3 : Value} (h0 : M.2 a0 = some (rb_O 12 [v0, v1, v2, v3])) : rb_Ct g yX7_init wX7_init 1 (0, 0) [.ref a0, .ref q, .int x, .int y] M (qr none (rb_up M a0 (rb_O 12 [.int x, .int y, .ref q, v3]))) := by
  refine rb_Ct.of (by decide) (Nat.le_of_ble_eq_true rfl) rfl ?_
  refine sgX7_init_0 (rb_isR_ref _) ⟨12, 2, _, fl_X7_1_12, fun q hq => (by cases hq; exact Or.inr ⟨rfl, rfl⟩), rfl, rfl, h0, nl rfl, rb_dpk (by decide), 12, 0, _, fl_X7_13_12, fun q hq => (by cases hq; exact Or.inr ⟨rfl, rfl⟩), rfl, rfl, rb_up_eq, nl rfl, 12, 1, _, fl_X7_17_12, fun q hq => (by cases hq; exact Or.inr ⟨rfl, rfl⟩), rfl, rfl, rb_up_eq, nl rfl, zf, rfl, ?_⟩
  rw [rb_up_up, rb_up_up]
  rfl
theorem i12_12 {a0 q : Nat} {x : Int32} {v0 v1 v2 v3 : Value} (h0 : M.2 a0 = some (rb_O 12 [v0, v1, v2, v3])) : rb_Ct g yX12_init wX12_init 2 (0, 0) [.ref a0, .ref q, .int x] M (qr none (rb_up M a0 (rb_O 12 [.int x, .int 0, .ref q, .ref q]))) := by
  refine rb_Ct.of (by decide) (Nat.le_of_ble_eq_true rfl) rfl ?_
  refine sgX12_init_0 (rb_isR_ref _) ⟨12, 3, _, fl_X12_1_12, fun q hq => (by cases hq; exact Or.inr ⟨rfl, rfl⟩), rfl, rfl, h0, nl rfl, 12, _, _, _, i7_12 rb_up_eq, rb_dpk (by decide), zr, ⟨_, rb_up_eq⟩, ?_⟩
  rintro _ _ ⟨rfl, rfl⟩
  refine ⟨rfl, zf, rfl, ?_⟩
  exact rb_up_up
theorem i7_13 {a0 q : Nat} {x y : Int32} {v0 v1 v2 v3 v4 : Value} (h0 : M.2 a0 = some (rb_O 13 [v0, v1, v2, v3, v4])) : rb_Ct g yX7_init wX7_init 1 (0, 0) [.ref a0, .ref q, .int x, .int y] M (qr none (rb_up M a0 (rb_O 13 [.int x, .int y, .ref q, v3, v4]))) := by
  refine rb_Ct.of (by decide) (Nat.le_of_ble_eq_true rfl) rfl ?_
  refine sgX7_init_0 (rb_isR_ref _) ⟨13, 2, _, fl_X7_1_13, fun q hq => (by cases hq; exact Or.inr ⟨rfl, rfl⟩), rfl, rfl, h0, nl rfl, rb_dpk (by decide), 13, 0, _, fl_X7_13_13, fun q hq => (by cases hq; exact Or.inr ⟨rfl, rfl⟩), rfl, rfl, rb_up_eq, nl rfl, 13, 1, _, fl_X7_17_13, fun q hq => (by cases hq; exact Or.inr ⟨rfl, rfl⟩), rfl, rfl, rb_up_eq, nl rfl, zf, rfl, ?_⟩
  rw [rb_up_up, rb_up_up]
  rfl
theorem i12_13 {a0 q : Nat} {x : Int32} {v0 v1 v2 v3 v4 : Value} (h0 : M.2 a0 = some (rb_O 13 [v0, v1, v2, v3, v4])) : rb_Ct g yX12_init wX12_init 2 (0, 0) [.ref a0, .ref q, .int x] M (qr none (rb_up M a0 (rb_O 13 [.int x, .int 0, .ref q, .ref q, v4]))) := by
  refine rb_Ct.of (by decide) (Nat.le_of_ble_eq_true rfl) rfl ?_
  refine sgX12_init_0 (rb_isR_ref _) ⟨13, 3, _, fl_X12_1_13, fun q hq => (by cases hq; exact Or.inr ⟨rfl, rfl⟩), rfl, rfl, h0, nl rfl, 13, _, _, _, i7_13 rb_up_eq, rb_dpk (by decide), zr, ⟨_, rb_up_eq⟩, ?_⟩
  rintro _ _ ⟨rfl, rfl⟩
  refine ⟨rfl, zf, rfl, ?_⟩
  exact rb_up_up
theorem i13_13 {a0 q : Nat} {x : Int32} {v0 v1 v2 v3 v4 : Value} (h0 : M.2 a0 = some (rb_O 13 [v0, v1, v2, v3, v4])) : rb_Ct g yX13_init wX13_init 3 (0, 0) [.ref a0, .ref q, .int x] M (qr none (rb_up M a0 (rb_O 13 [.int x, .int 0, .ref q, .ref q, .ref q]))) := by
  refine rb_Ct.of (by decide) (Nat.le_of_ble_eq_true rfl) rfl ?_
  refine sgX13_init_0 (rb_isR_ref _) ⟨13, 4, _, fl_X13_1_13, fun q hq => (by cases hq; exact Or.inr ⟨rfl, rfl⟩), rfl, rfl, h0, nl rfl, 13, _, _, _, i12_13 rb_up_eq, rb_dpk (by decide), zr, ⟨_, rb_up_eq⟩, ?_⟩
  rintro _ _ ⟨rfl, rfl⟩
  refine ⟨rfl, zf, rfl, ?_⟩
  exact rb_up_up
theorem i7_14 {a0 q : Nat} {x y : Int32} {v0 v1 v2 v3 v4 : Value} (h0 : M.2 a0 = some (rb_O 14 [v0, v1, v2, v3, v4])) : rb_Ct g yX7_init wX7_init 1 (0, 0) [.ref a0, .ref q, .int x, .int y] M (qr none (rb_up M a0 (rb_O 14 [.int x, .int y, .ref q, v3, v4]))) := by
  refine rb_Ct.of (by decide) (Nat.le_of_ble_eq_true rfl) rfl ?_
  refine sgX7_init_0 (rb_isR_ref _) ⟨14, 2, _, fl_X7_1_14, fun q hq => (by cases hq; exact Or.inr ⟨rfl, rfl⟩), rfl, rfl, h0, nl rfl, rb_dpk (by decide), 14, 0, _, fl_X7_13_14, fun q hq => (by cases hq; exact Or.inr ⟨rfl, rfl⟩), rfl, rfl, rb_up_eq, nl rfl, 14, 1, _, fl_X7_17_14, fun q hq => (by cases hq; exact Or.inr ⟨rfl, rfl⟩), rfl, rfl, rb_up_eq, nl rfl, zf, rfl, ?_⟩
  rw [rb_up_up, rb_up_up]
  rfl
theorem i12_14 {a0 q : Nat} {x : Int32} {v0 v1 v2 v3 v4 : Value} (h0 : M.2 a0 = some (rb_O 14 [v0, v1, v2, v3, v4])) : rb_Ct g yX12_init wX12_init 2 (0, 0) [.ref a0, .ref q, .int x] M (qr none (rb_up M a0 (rb_O 14 [.int x, .int 0, .ref q, .ref q, v4]))) := by
  refine rb_Ct.of (by decide) (Nat.le_of_ble_eq_true rfl) rfl ?_
  refine sgX12_init_0 (rb_isR_ref _) ⟨14, 3, _, fl_X12_1_14, fun q hq => (by cases hq; exact Or.inr ⟨rfl, rfl⟩), rfl, rfl, h0, nl rfl, 14, _, _, _, i7_14 rb_up_eq, rb_dpk (by decide), zr, ⟨_, rb_up_eq⟩, ?_⟩
  rintro _ _ ⟨rfl, rfl⟩
  refine ⟨rfl, zf, rfl, ?_⟩
  exact rb_up_up
theorem i14_14 {a0 q : Nat} {x : Int32} {v0 v1 v2 v3 v4 : Value} (h0 : M.2 a0 = some (rb_O 14 [v0, v1, v2, v3, v4])) : rb_Ct g yX14_init wX14_init 3 (0, 0) [.ref a0, .ref q, .int x] M (qr none (rb_up M a0 (rb_O 14 [.int x, .int 0, .ref q, .ref q, .ref q]))) := by
  refine rb_Ct.of (by decide) (Nat.le_of_ble_eq_true rfl) rfl ?_
  refine sgX14_init_0 (rb_isR_ref _) ⟨14, 4, _, fl_X14_3_14, fun q hq => (by cases hq; exact Or.inr ⟨rfl, rfl⟩), rfl, rfl, h0, nl rfl, 14, _, _, _, i12_14 rb_up_eq, rb_dpk (by decide), zr, ⟨_, rb_up_eq⟩, ?_⟩
  rintro _ _ ⟨rfl, rfl⟩
  refine ⟨rfl, zf, rfl, ?_⟩
  exact rb_up_up
theorem i7_15 {a0 q : Nat} {x y : Int32} {v0 v1 v2 v3 v4 : Value} (h0 : M.2 a0 = some (rb_O 15 [v0, v1, v2, v3, v4])) : rb_Ct g yX7_init wX7_init 1 (0, 0) [.ref a0, .ref q, .int x, .int y] M (qr none (rb_up M a0 (rb_O 15 [.int x, .int y, .ref q, v3, v4]))) := by
  refine rb_Ct.of (by decide) (Nat.le_of_ble_eq_true rfl) rfl ?_
  refine sgX7_init_0 (rb_isR_ref _) ⟨15, 2, _, fl_X7_1_15, fun q hq => (by cases hq; exact Or.inr ⟨rfl, rfl⟩), rfl, rfl, h0, nl rfl, rb_dpk (by decide), 15, 0, _, fl_X7_13_15, fun q hq => (by cases hq; exact Or.inr ⟨rfl, rfl⟩), rfl, rfl, rb_up_eq, nl rfl, 15, 1, _, fl_X7_17_15, fun q hq => (by cases hq; exact Or.inr ⟨rfl, rfl⟩), rfl, rfl, rb_up_eq, nl rfl, zf, rfl, ?_⟩
  rw [rb_up_up, rb_up_up]
  rfl
theorem i15_15 {a0 q : Nat} {x z : Int32} {v0 v1 v2 v3 v4 : Value} (hz : z = 0 ∨ z = 1) (h0 : M.2 a0 = some (rb_O 15 [v0, v1, v2, v3, v4])) : rb_Ct g yX15_init wX15_init 2 (0, 0) [.ref a0, .ref q, .int x, .int z] M (qr none (rb_up M a0 (rb_O 15 [.int x, .int 0, .ref q, .int z, .ref q]))) := by
  refine rb_Ct.of (by decide) (Nat.le_of_ble_eq_true rfl) rfl ?_
  refine sgX15_init_0 (rb_isR_ref _) ⟨15, 4, _, fl_X15_3_15, fun q hq => (by cases hq; exact Or.inr ⟨rfl, rfl⟩), rfl, rfl, h0, nl rfl, 15, _, _, _, i7_15 rb_up_eq, rb_dpk (by decide), zr, ⟨_, rb_up_eq⟩, ?_⟩
  rintro _ _ ⟨rfl, rfl⟩
  refine ⟨rfl, 15, 3, _, fl_X15_15_15, fun q hq => (by cases hq; exact Or.inr ⟨rfl, rfl⟩), by rcases hz with rfl | rfl <;> rfl, by rcases hz with rfl | rfl <;> rfl, rb_up_eq, nl rfl, zf, rfl, ?_⟩
  rw [rb_up_up, rb_up_up]
  rfl
theorem i7_16 {a0 q : Nat} {x y : Int32} {v0 v1 v2 v3 : Value} (h0 : M.2 a0 = some (rb_O 16 [v0, v1, v2, v3])) : rb_Ct g yX7_init wX7_init 1 (0, 0) [.ref a0, .ref q, .int x, .int y] M (qr none (rb_up M a0 (rb_O 16 [.int x, .int y, .ref q, v3]))) := by
  refine rb_Ct.of (by decide) (Nat.le_of_ble_eq_true rfl) rfl ?_
  refine sgX7_init_0 (rb_isR_ref _) ⟨16, 2, _, fl_X7_1_16, fun q hq => (by cases hq; exact Or.inr ⟨rfl, rfl⟩), rfl, rfl, h0, nl rfl, rb_dpk (by decide), 16, 0, _, fl_X7_13_16, fun q hq => (by cases hq; exact Or.inr ⟨rfl, rfl⟩), rfl, rfl, rb_up_eq, nl rfl, 16, 1, _, fl_X7_17_16, fun q hq => (by cases hq; exact Or.inr ⟨rfl, rfl⟩), rfl, rfl, rb_up_eq, nl rfl, zf, rfl, ?_⟩
  rw [rb_up_up, rb_up_up]
  rfl
theorem i16_16 {a0 q : Nat}  {v0 v1 v2 v3 : Value} (h0 : M.2 a0 = some (rb_O 16 [v0, v1, v2, v3])) : rb_Ct g yX16_init wX16_init 2 (0, 0) [.ref a0, .ref q] M (qr none (rb_up M a0 (rb_O 16 [.int 0, .int 0, .ref q, .ref q]))) := by
  refine rb_Ct.of (by decide) (Nat.le_of_ble_eq_true rfl) rfl ?_
  refine sgX16_init_0 (rb_isR_ref _) ⟨16, 3, _, fl_X16_3_16, fun q hq => (by cases hq; exact Or.inr ⟨rfl, rfl⟩), rfl, rfl, h0, nl rfl, 16, _, _, _, i7_16 rb_up_eq, rb_dpk (by decide), zr, ⟨_, rb_up_eq⟩, ?_⟩
  rintro _ _ ⟨rfl, rfl⟩
  refine ⟨rfl, zf, rfl, ?_⟩
  exact rb_up_up
theorem i7_17 {a0 q : Nat} {x y : Int32} {v0 v1 v2 v3 : Value} (h0 : M.2 a0 = some (rb_O 17 [v0, v1, v2, v3])) : rb_Ct g yX7_init wX7_init 1 (0, 0) [.ref a0, .ref q, .int x, .int y] M (qr none (rb_up M a0 (rb_O 17 [.int x, .int y, .ref q, v3]))) := by
  refine rb_Ct.of (by decide) (Nat.le_of_ble_eq_true rfl) rfl ?_
  refine sgX7_init_0 (rb_isR_ref _) ⟨17, 2, _, fl_X7_1_17, fun q hq => (by cases hq; exact Or.inr ⟨rfl, rfl⟩), rfl, rfl, h0, nl rfl, rb_dpk (by decide), 17, 0, _, fl_X7_13_17, fun q hq => (by cases hq; exact Or.inr ⟨rfl, rfl⟩), rfl, rfl, rb_up_eq, nl rfl, 17, 1, _, fl_X7_17_17, fun q hq => (by cases hq; exact Or.inr ⟨rfl, rfl⟩), rfl, rfl, rb_up_eq, nl rfl, zf, rfl, ?_⟩
  rw [rb_up_up, rb_up_up]
  rfl
theorem i17_17 {a0 q : Nat} {x y : Int32} {v0 v1 v2 v3 : Value} (h0 : M.2 a0 = some (rb_O 17 [v0, v1, v2, v3])) : rb_Ct g yX17_init wX17_init 2 (0, 0) [.ref a0, .ref q, .int x, .int y] M (qr none (rb_up M a0 (rb_O 17 [.int x, .int y, .ref q, .ref q]))) := by
  refine rb_Ct.of (by decide) (Nat.le_of_ble_eq_true rfl) rfl ?_
  refine sgX17_init_0 (rb_isR_ref _) ⟨17, 3, _, fl_X17_3_17, fun q hq => (by cases hq; exact Or.inr ⟨rfl, rfl⟩), rfl, rfl, h0, nl rfl, 17, _, _, _, i7_17 rb_up_eq, rb_dpk (by decide), zr, ⟨_, rb_up_eq⟩, ?_⟩
  rintro _ _ ⟨rfl, rfl⟩
  refine ⟨rfl, zf, rfl, ?_⟩
  exact rb_up_up
theorem i7_18 {a0 q : Nat} {x y : Int32} {v0 v1 v2 v3 v4 : Value} (h0 : M.2 a0 = some (rb_O 18 [v0, v1, v2, v3, v4])) : rb_Ct g yX7_init wX7_init 1 (0, 0) [.ref a0, .ref q, .int x, .int y] M (qr none (rb_up M a0 (rb_O 18 [.int x, .int y, .ref q, v3, v4]))) := by
  refine rb_Ct.of (by decide) (Nat.le_of_ble_eq_true rfl) rfl ?_
  refine sgX7_init_0 (rb_isR_ref _) ⟨18, 2, _, fl_X7_1_18, fun q hq => (by cases hq; exact Or.inr ⟨rfl, rfl⟩), rfl, rfl, h0, nl rfl, rb_dpk (by decide), 18, 0, _, fl_X7_13_18, fun q hq => (by cases hq; exact Or.inr ⟨rfl, rfl⟩), rfl, rfl, rb_up_eq, nl rfl, 18, 1, _, fl_X7_17_18, fun q hq => (by cases hq; exact Or.inr ⟨rfl, rfl⟩), rfl, rfl, rb_up_eq, nl rfl, zf, rfl, ?_⟩
  rw [rb_up_up, rb_up_up]
  rfl
theorem i17_18 {a0 q : Nat} {x y : Int32} {v0 v1 v2 v3 v4 : Value} (h0 : M.2 a0 = some (rb_O 18 [v0, v1, v2, v3, v4])) : rb_Ct g yX17_init wX17_init 2 (0, 0) [.ref a0, .ref q, .int x, .int y] M (qr none (rb_up M a0 (rb_O 18 [.int x, .int y, .ref q, .ref q, v4]))) := by
  refine rb_Ct.of (by decide) (Nat.le_of_ble_eq_true rfl) rfl ?_
  refine sgX17_init_0 (rb_isR_ref _) ⟨18, 3, _, fl_X17_3_18, fun q hq => (by cases hq; exact Or.inr ⟨rfl, rfl⟩), rfl, rfl, h0, nl rfl, 18, _, _, _, i7_18 rb_up_eq, rb_dpk (by decide), zr, ⟨_, rb_up_eq⟩, ?_⟩
  rintro _ _ ⟨rfl, rfl⟩
  refine ⟨rfl, zf, rfl, ?_⟩
  exact rb_up_up
theorem i18_18 {a0 q : Nat} {x : Int32} {v0 v1 v2 v3 v4 : Value} (h0 : M.2 a0 = some (rb_O 18 [v0, v1, v2, v3, v4])) : rb_Ct g yX18_init wX18_init 3 (0, 0) [.ref a0, .ref q, .int x] M (qr none (rb_up M a0 (rb_O 18 [.int x, .int 0, .ref q, .ref q, .ref q]))) := by
  refine rb_Ct.of (by decide) (Nat.le_of_ble_eq_true rfl) rfl ?_
  refine sgX18_init_0 (rb_isR_ref _) ⟨18, 4, _, fl_X18_3_18, fun q hq => (by cases hq; exact Or.inr ⟨rfl, rfl⟩), rfl, rfl, h0, nl rfl, 18, _, _, _, i17_18 rb_up_eq, rb_dpk (by decide), zr, ⟨_, rb_up_eq⟩, ?_⟩
  rintro _ _ ⟨rfl, rfl⟩
  refine ⟨rfl, zf, rfl, ?_⟩
  exact rb_up_up
theorem i7_19 {a0 q : Nat} {x y : Int32} {v0 v1 v2 v3 : Value} (h0 : M.2 a0 = some (rb_O 19 [v0, v1, v2, v3])) : rb_Ct g yX7_init wX7_init 1 (0, 0) [.ref a0, .ref q, .int x, .int y] M (qr none (rb_up M a0 (rb_O 19 [.int x, .int y, .ref q, v3]))) := by
  refine rb_Ct.of (by decide) (Nat.le_of_ble_eq_true rfl) rfl ?_
  refine sgX7_init_0 (rb_isR_ref _) ⟨19, 2, _, fl_X7_1_19, fun q hq => (by cases hq; exact Or.inr ⟨rfl, rfl⟩), rfl, rfl, h0, nl rfl, rb_dpk (by decide), 19, 0, _, fl_X7_13_19, fun q hq => (by cases hq; exact Or.inr ⟨rfl, rfl⟩), rfl, rfl, rb_up_eq, nl rfl, 19, 1, _, fl_X7_17_19, fun q hq => (by cases hq; exact Or.inr ⟨rfl, rfl⟩), rfl, rfl, rb_up_eq, nl rfl, zf, rfl, ?_⟩
  rw [rb_up_up, rb_up_up]
  rfl
theorem i19_19 {a0 q : Nat} {x : Int32} {v0 v1 v2 v3 : Value} (h0 : M.2 a0 = some (rb_O 19 [v0, v1, v2, v3])) : rb_Ct g yX19_init wX19_init 2 (0, 0) [.ref a0, .ref q, .int x] M (qr none (rb_up M a0 (rb_O 19 [.int x, .int 0, .ref q, .ref q]))) := by
  refine rb_Ct.of (by decide) (Nat.le_of_ble_eq_true rfl) rfl ?_
  refine sgX19_init_0 (rb_isR_ref _) ⟨19, 3, _, fl_X19_3_19, fun q hq => (by cases hq; exact Or.inr ⟨rfl, rfl⟩), rfl, rfl, h0, nl rfl, 19, _, _, _, i7_19 rb_up_eq, rb_dpk (by decide), zr, ⟨_, rb_up_eq⟩, ?_⟩
  rintro _ _ ⟨rfl, rfl⟩
  refine ⟨rfl, zf, rfl, ?_⟩
  exact rb_up_up
theorem i7_20 {a0 q : Nat} {x y : Int32} {v0 v1 v2 v3 : Value} (h0 : M.2 a0 = some (rb_O 20 [v0, v1, v2, v3])) : rb_Ct g yX7_init wX7_init 1 (0, 0) [.ref a0, .ref q, .int x, .int y] M (qr none (rb_up M a0 (rb_O 20 [.int x, .int y, .ref q, v3]))) := by
  refine rb_Ct.of (by decide) (Nat.le_of_ble_eq_true rfl) rfl ?_
  refine sgX7_init_0 (rb_isR_ref _) ⟨20, 2, _, fl_X7_1_20, fun q hq => (by cases hq; exact Or.inr ⟨rfl, rfl⟩), rfl, rfl, h0, nl rfl, rb_dpk (by decide), 20, 0, _, fl_X7_13_20, fun q hq => (by cases hq; exact Or.inr ⟨rfl, rfl⟩), rfl, rfl, rb_up_eq, nl rfl, 20, 1, _, fl_X7_17_20, fun q hq => (by cases hq; exact Or.inr ⟨rfl, rfl⟩), rfl, rfl, rb_up_eq, nl rfl, zf, rfl, ?_⟩
  rw [rb_up_up, rb_up_up]
  rfl
theorem i20_20 {a0 q : Nat} {x : Int32} {v0 v1 v2 v3 : Value} (h0 : M.2 a0 = some (rb_O 20 [v0, v1, v2, v3])) : rb_Ct g yX20_init wX20_init 2 (0, 0) [.ref a0, .ref q, .int x] M (qr none (rb_up M a0 (rb_O 20 [.int x, .int 0, .ref q, .ref q]))) := by
  refine rb_Ct.of (by decide) (Nat.le_of_ble_eq_true rfl) rfl ?_
  refine sgX20_init_0 (rb_isR_ref _) ⟨20, 3, _, fl_X20_1_20, fun q hq => (by cases hq; exact Or.inr ⟨rfl, rfl⟩), rfl, rfl, h0, nl rfl, 20, _, _, _, i7_20 rb_up_eq, rb_dpk (by decide), zr, ⟨_, rb_up_eq⟩, ?_⟩
  rintro _ _ ⟨rfl, rfl⟩
  refine ⟨rfl, zf, rfl, ?_⟩
  exact rb_up_up
theorem i7_21 {a0 q : Nat} {x y : Int32} {v0 v1 v2 v3 : Value} (h0 : M.2 a0 = some (rb_O 21 [v0, v1, v2, v3])) : rb_Ct g yX7_init wX7_init 1 (0, 0) [.ref a0, .ref q, .int x, .int y] M (qr none (rb_up M a0 (rb_O 21 [.int x, .int y, .ref q, v3]))) := by
  refine rb_Ct.of (by decide) (Nat.le_of_ble_eq_true rfl) rfl ?_
  refine sgX7_init_0 (rb_isR_ref _) ⟨21, 2, _, fl_X7_1_21, fun q hq => (by cases hq; exact Or.inr ⟨rfl, rfl⟩), rfl, rfl, h0, nl rfl, rb_dpk (by decide), 21, 0, _, fl_X7_13_21, fun q hq => (by cases hq; exact Or.inr ⟨rfl, rfl⟩), rfl, rfl, rb_up_eq, nl rfl, 21, 1, _, fl_X7_17_21, fun q hq => (by cases hq; exact Or.inr ⟨rfl, rfl⟩), rfl, rfl, rb_up_eq, nl rfl, zf, rfl, ?_⟩
  rw [rb_up_up, rb_up_up]
  rfl
theorem i21_21 {a0 q : Nat}  {v0 v1 v2 v3 : Value} (h0 : M.2 a0 = some (rb_O 21 [v0, v1, v2, v3])) : rb_Ct g yX21_init wX21_init 2 (0, 0) [.ref a0, .ref q] M (qr none (rb_up M a0 (rb_O 21 [.int 0, .int 0, .ref q, .ref q]))) := by
  refine rb_Ct.of (by decide) (Nat.le_of_ble_eq_true rfl) rfl ?_
  refine sgX21_init_0 (rb_isR_ref _) ⟨21, 3, _, fl_X21_3_21, fun q hq => (by cases hq; exact Or.inr ⟨rfl, rfl⟩), rfl, rfl, h0, nl rfl, 21, _, _, _, i7_21 rb_up_eq, rb_dpk (by decide), zr, ⟨_, rb_up_eq⟩, ?_⟩
  rintro _ _ ⟨rfl, rfl⟩
  refine ⟨rfl, zf, rfl, ?_⟩
  exact rb_up_up
theorem i7_22 {a0 q : Nat} {x y : Int32} {v0 v1 v2 v3 : Value} (h0 : M.2 a0 = some (rb_O 22 [v0, v1, v2, v3])) : rb_Ct g yX7_init wX7_init 1 (0, 0) [.ref a0, .ref q, .int x, .int y] M (qr none (rb_up M a0 (rb_O 22 [.int x, .int y, .ref q, v3]))) := by
  refine rb_Ct.of (by decide) (Nat.le_of_ble_eq_true rfl) rfl ?_
  refine sgX7_init_0 (rb_isR_ref _) ⟨22, 2, _, fl_X7_1_22, fun q hq => (by cases hq; exact Or.inr ⟨rfl, rfl⟩), rfl, rfl, h0, nl rfl, rb_dpk (by decide), 22, 0, _, fl_X7_13_22, fun q hq => (by cases hq; exact Or.inr ⟨rfl, rfl⟩), rfl, rfl, rb_up_eq, nl rfl, 22, 1, _, fl_X7_17_22, fun q hq => (by cases hq; exact Or.inr ⟨rfl, rfl⟩), rfl, rfl, rb_up_eq, nl rfl, zf, rfl, ?_⟩
  rw [rb_up_up, rb_up_up]
  rfl
theorem i22_22 {a0 q : Nat} {x y : Int32} {v0 v1 v2 v3 : Value} (h0 : M.2 a0 = some (rb_O 22 [v0, v1, v2, v3])) : rb_Ct g yX22_init wX22_init 2 (0, 0) [.ref a0, .ref q, .int x, .int y] M (qr none (rb_up M a0 (rb_O 22 [.int x, .int y, .ref q, .ref q]))) := by
  refine rb_Ct.of (by decide) (Nat.le_of_ble_eq_true rfl) rfl ?_
  refine sgX22_init_0 (rb_isR_ref _) ⟨22, 3, _, fl_X22_3_22, fun q hq => (by cases hq; exact Or.inr ⟨rfl, rfl⟩), rfl, rfl, h0, nl rfl, 22, _, _, _, i7_22 rb_up_eq, rb_dpk (by decide), zr, ⟨_, rb_up_eq⟩, ?_⟩
  rintro _ _ ⟨rfl, rfl⟩
  refine ⟨rfl, zf, rfl, ?_⟩
  exact rb_up_up
theorem i7_23 {a0 q : Nat} {x y : Int32} {v0 v1 v2 v3 v4 : Value} (h0 : M.2 a0 = some (rb_O 23 [v0, v1, v2, v3, v4])) : rb_Ct g yX7_init wX7_init 1 (0, 0) [.ref a0, .ref q, .int x, .int y] M (qr none (rb_up M a0 (rb_O 23 [.int x, .int y, .ref q, v3, v4]))) := by
  refine rb_Ct.of (by decide) (Nat.le_of_ble_eq_true rfl) rfl ?_
  refine sgX7_init_0 (rb_isR_ref _) ⟨23, 2, _, fl_X7_1_23, fun q hq => (by cases hq; exact Or.inr ⟨rfl, rfl⟩), rfl, rfl, h0, nl rfl, rb_dpk (by decide), 23, 0, _, fl_X7_13_23, fun q hq => (by cases hq; exact Or.inr ⟨rfl, rfl⟩), rfl, rfl, rb_up_eq, nl rfl, 23, 1, _, fl_X7_17_23, fun q hq => (by cases hq; exact Or.inr ⟨rfl, rfl⟩), rfl, rfl, rb_up_eq, nl rfl, zf, rfl, ?_⟩
  rw [rb_up_up, rb_up_up]
  rfl
theorem i22_23 {a0 q : Nat} {x y : Int32} {v0 v1 v2 v3 v4 : Value} (h0 : M.2 a0 = some (rb_O 23 [v0, v1, v2, v3, v4])) : rb_Ct g yX22_init wX22_init 2 (0, 0) [.ref a0, .ref q, .int x, .int y] M (qr none (rb_up M a0 (rb_O 23 [.int x, .int y, .ref q, .ref q, v4]))) := by
  refine rb_Ct.of (by decide) (Nat.le_of_ble_eq_true rfl) rfl ?_
  refine sgX22_init_0 (rb_isR_ref _) ⟨23, 3, _, fl_X22_3_23, fun q hq => (by cases hq; exact Or.inr ⟨rfl, rfl⟩), rfl, rfl, h0, nl rfl, 23, _, _, _, i7_23 rb_up_eq, rb_dpk (by decide), zr, ⟨_, rb_up_eq⟩, ?_⟩
  rintro _ _ ⟨rfl, rfl⟩
  refine ⟨rfl, zf, rfl, ?_⟩
  exact rb_up_up
theorem i23_23 {a0 q : Nat} {x y : Int32} {v0 v1 v2 v3 v4 : Value} (h0 : M.2 a0 = some (rb_O 23 [v0, v1, v2, v3, v4])) : rb_Ct g yX23_init wX23_init 3 (0, 0) [.ref a0, .ref q, .int x, .int y] M (qr none (rb_up M a0 (rb_O 23 [.int x, .int y, .ref q, .ref q, .ref q]))) := by
  refine rb_Ct.of (by decide) (Nat.le_of_ble_eq_true rfl) rfl ?_
  refine sgX23_init_0 (rb_isR_ref _) ⟨23, 4, _, fl_X23_3_23, fun q hq => (by cases hq; exact Or.inr ⟨rfl, rfl⟩), rfl, rfl, h0, nl rfl, 23, _, _, _, i22_23 rb_up_eq, rb_dpk (by decide), zr, ⟨_, rb_up_eq⟩, ?_⟩
  rintro _ _ ⟨rfl, rfl⟩
  refine ⟨rfl, zf, rfl, ?_⟩
  exact rb_up_up
theorem i7_24 {a0 q : Nat} {x y : Int32} {v0 v1 v2 v3 v4 v5 : Value} (h0 : M.2 a0 = some (rb_O 24 [v0, v1, v2, v3, v4, v5])) : rb_Ct g yX7_init wX7_init 1 (0, 0) [.ref a0, .ref q, .int x, .int y] M (qr none (rb_up M a0 (rb_O 24 [.int x, .int y, .ref q, v3, v4, v5]))) := by
  refine rb_Ct.of (by decide) (Nat.le_of_ble_eq_true rfl) rfl ?_
  refine sgX7_init_0 (rb_isR_ref _) ⟨24, 2, _, fl_X7_1_24, fun q hq => (by cases hq; exact Or.inr ⟨rfl, rfl⟩), rfl, rfl, h0, nl rfl, rb_dpk (by decide), 24, 0, _, fl_X7_13_24, fun q hq => (by cases hq; exact Or.inr ⟨rfl, rfl⟩), rfl, rfl, rb_up_eq, nl rfl, 24, 1, _, fl_X7_17_24, fun q hq => (by cases hq; exact Or.inr ⟨rfl, rfl⟩), rfl, rfl, rb_up_eq, nl rfl, zf, rfl, ?_⟩
  rw [rb_up_up, rb_up_up]
  rfl
theorem i22_24 {a0 q : Nat} {x y : Int32} {v0 v1 v2 v3 v4 v5 : Value} (h0 : M.2 a0 = some (rb_O 24 [v0, v1, v2, v3, v4, v5])) : rb_Ct g yX22_init wX22_init 2 (0, 0) [.ref a0, .ref q, .int x, .int y] M (qr none (rb_up M a0 (rb_O 24 [.int x, .int y, .ref q, .ref q, v4, v5]))) := by
  refine rb_Ct.of (by decide) (Nat.le_of_ble_eq_true rfl) rfl ?_
  refine sgX22_init_0 (rb_isR_ref _) ⟨24, 3, _, fl_X22_3_24, fun q hq => (by cases hq; exact Or.inr ⟨rfl, rfl⟩), rfl, rfl, h0, nl rfl, 24, _, _, _, i7_24 rb_up_eq, rb_dpk (by decide), zr, ⟨_, rb_up_eq⟩, ?_⟩
  rintro _ _ ⟨rfl, rfl⟩
  refine ⟨rfl, zf, rfl, ?_⟩
  exact rb_up_up
theorem i23_24 {a0 q : Nat} {x y : Int32} {v0 v1 v2 v3 v4 v5 : Value} (h0 : M.2 a0 = some (rb_O 24 [v0, v1, v2, v3, v4, v5])) : rb_Ct g yX23_init wX23_init 3 (0, 0) [.ref a0, .ref q, .int x, .int y] M (qr none (rb_up M a0 (rb_O 24 [.int x, .int y, .ref q, .ref q, .ref q, v5]))) := by
  refine rb_Ct.of (by decide) (Nat.le_of_ble_eq_true rfl) rfl ?_
  refine sgX23_init_0 (rb_isR_ref _) ⟨24, 4, _, fl_X23_3_24, fun q hq => (by cases hq; exact Or.inr ⟨rfl, rfl⟩), rfl, rfl, h0, nl rfl, 24, _, _, _, i22_24 rb_up_eq, rb_dpk (by decide), zr, ⟨_, rb_up_eq⟩, ?_⟩
  rintro _ _ ⟨rfl, rfl⟩
  refine ⟨rfl, zf, rfl, ?_⟩
  exact rb_up_up
theorem i24_24 {a0 q : Nat} {x y : Int32} {v0 v1 v2 v3 v4 v5 : Value} (h0 : M.2 a0 = some (rb_O 24 [v0, v1, v2, v3, v4, v5])) : rb_Ct g yX24_init wX24_init 4 (0, 0) [.ref a0, .ref q, .int x, .int y] M (qr none (rb_up M a0 (rb_O 24 [.int x, .int y, .ref q, .ref q, .ref q, .ref q]))) := by
  refine rb_Ct.of (by decide) (Nat.le_of_ble_eq_true rfl) rfl ?_
  refine sgX24_init_0 (rb_isR_ref _) ⟨24, 5, _, fl_X24_1_24, fun q hq => (by cases hq; exact Or.inr ⟨rfl, rfl⟩), rfl, rfl, h0, nl rfl, 24, _, _, _, i23_24 rb_up_eq, rb_dpk (by decide), zr, ⟨_, rb_up_eq⟩, ?_⟩
  rintro _ _ ⟨rfl, rfl⟩
  refine ⟨rfl, zf, rfl, ?_⟩
  exact rb_up_up
theorem i7_25 {a0 q : Nat} {x y : Int32} {v0 v1 v2 v3 v4 : Value} (h0 : M.2 a0 = some (rb_O 25 [v0, v1, v2, v3, v4])) : rb_Ct g yX7_init wX7_init 1 (0, 0) [.ref a0, .ref q, .int x, .int y] M (qr none (rb_up M a0 (rb_O 25 [.int x, .int y, .ref q, v3, v4]))) := by
  refine rb_Ct.of (by decide) (Nat.le_of_ble_eq_true rfl) rfl ?_
  refine sgX7_init_0 (rb_isR_ref _) ⟨25, 2, _, fl_X7_1_25, fun q hq => (by cases hq; exact Or.inr ⟨rfl, rfl⟩), rfl, rfl, h0, nl rfl, rb_dpk (by decide), 25, 0, _, fl_X7_13_25, fun q hq => (by cases hq; exact Or.inr ⟨rfl, rfl⟩), rfl, rfl, rb_up_eq, nl rfl, 25, 1, _, fl_X7_17_25, fun q hq => (by cases hq; exact Or.inr ⟨rfl, rfl⟩), rfl, rfl, rb_up_eq, nl rfl, zf, rfl, ?_⟩
  rw [rb_up_up, rb_up_up]
  rfl
theorem i17_25 {a0 q : Nat} {x y : Int32} {v0 v1 v2 v3 v4 : Value} (h0 : M.2 a0 = some (rb_O 25 [v0, v1, v2, v3, v4])) : rb_Ct g yX17_init wX17_init 2 (0, 0) [.ref a0, .ref q, .int x, .int y] M (qr none (rb_up M a0 (rb_O 25 [.int x, .int y, .ref q, .ref q, v4]))) := by
  refine rb_Ct.of (by decide) (Nat.le_of_ble_eq_true rfl) rfl ?_
  refine sgX17_init_0 (rb_isR_ref _) ⟨25, 3, _, fl_X17_3_25, fun q hq => (by cases hq; exact Or.inr ⟨rfl, rfl⟩), rfl, rfl, h0, nl rfl, 25, _, _, _, i7_25 rb_up_eq, rb_dpk (by decide), zr, ⟨_, rb_up_eq⟩, ?_⟩
  rintro _ _ ⟨rfl, rfl⟩
  refine ⟨rfl, zf, rfl, ?_⟩
  exact rb_up_up
theorem i25_25 {a0 q : Nat} {x y : Int32} {v0 v1 v2 v3 v4 : Value} (h0 : M.2 a0 = some (rb_O 25 [v0, v1, v2, v3, v4])) : rb_Ct g yX25_init wX25_init 3 (0, 0) [.ref a0, .ref q, .int x, .int y] M (qr none (rb_up M a0 (rb_O 25 [.int x, .int y, .ref q, .ref q, .ref q]))) := by
  refine rb_Ct.of (by decide) (Nat.le_of_ble_eq_true rfl) rfl ?_
  refine sgX25_init_0 (rb_isR_ref _) ⟨25, 4, _, fl_X25_3_25, fun q hq => (by cases hq; exact Or.inr ⟨rfl, rfl⟩), rfl, rfl, h0, nl rfl, 25, _, _, _, i17_25 rb_up_eq, rb_dpk (by decide), zr, ⟨_, rb_up_eq⟩, ?_⟩
  rintro _ _ ⟨rfl, rfl⟩
  refine ⟨rfl, zf, rfl, ?_⟩
  exact rb_up_up
theorem i7_26 {a0 q : Nat} {x y : Int32} {v0 v1 v2 v3 : Value} (h0 : M.2 a0 = some (rb_O 26 [v0, v1, v2, v3])) : rb_Ct g yX7_init wX7_init 1 (0, 0) [.ref a0, .ref q, .int x, .int y] M (qr none (rb_up M a0 (rb_O 26 [.int x, .int y, .ref q, v3]))) := by
  refine rb_Ct.of (by decide) (Nat.le_of_ble_eq_true rfl) rfl ?_
  refine sgX7_init_0 (rb_isR_ref _) ⟨26, 2, _, fl_X7_1_26, fun q hq => (by cases hq; exact Or.inr ⟨rfl, rfl⟩), rfl, rfl, h0, nl rfl, rb_dpk (by decide), 26, 0, _, fl_X7_13_26, fun q hq => (by cases hq; exact Or.inr ⟨rfl, rfl⟩), rfl, rfl, rb_up_eq, nl rfl, 26, 1, _, fl_X7_17_26, fun q hq => (by cases hq; exact Or.inr ⟨rfl, rfl⟩), rfl, rfl, rb_up_eq, nl rfl, zf, rfl, ?_⟩
  rw [rb_up_up, rb_up_up]
  rfl
theorem i26_26 {a0 q : Nat} {x y : Int32} {v0 v1 v2 v3 : Value} (h0 : M.2 a0 = some (rb_O 26 [v0, v1, v2, v3])) : rb_Ct g yX26_init wX26_init 2 (0, 0) [.ref a0, .ref q, .int x, .int y] M (qr none (rb_up M a0 (rb_O 26 [.int x, .int y, .ref q, .ref q]))) := by
  refine rb_Ct.of (by decide) (Nat.le_of_ble_eq_true rfl) rfl ?_
  refine sgX26_init_0 (rb_isR_ref _) ⟨26, 3, _, fl_X26_3_26, fun q hq => (by cases hq; exact Or.inr ⟨rfl, rfl⟩), rfl, rfl, h0, nl rfl, 26, _, _, _, i7_26 rb_up_eq, rb_dpk (by decide), zr, ⟨_, rb_up_eq⟩, ?_⟩
  rintro _ _ ⟨rfl, rfl⟩
  refine ⟨rfl, zf, rfl, ?_⟩
  exact rb_up_up
theorem X0_make {x0 k : Nat} {a b : Int32} (hk : k ≤ 19) : rb_Ct g yX0_make wX0_make 5 (1, 6) [.ref x0, .int (nI k), .int a, .int b] M (qr (some (.ref M.1)) (rb_nw M (rb_O (aCi k) (aFs k a b x0)))) := by
  refine rb_Ct.of (by decide) (Nat.le_of_ble_eq_true rfl) rfl ?_
  have ek : (nI k).toInt = (k : Int) := nI_toInt (by omega)
  refine sgX0_make_0 ?_
  rw [ek]
  refine ⟨fun h1 => ?_, fun h1 => ?_, fun h1 => ?_, fun h1 => ?_, fun h1 => ?_, fun h1 => ?_, fun h1 => ?_, fun h1 => ?_, fun h1 => ?_, fun h1 => ?_, fun h1 => ?_, fun h1 => ?_, fun h1 => ?_, fun h1 => ?_, fun h1 => ?_, fun h1 => ?_, fun h1 => ?_, fun h1 => ?_, fun h1 => ?_, fun h1 => ?_⟩
  · obtain rfl : k = 19 := by omega
    refine ⟨⟨nb rfl, nb rfl⟩, ?_⟩
    refine ⟨26, _, _, _, i26_26 rb_nw_eq, rb_dpk (by decide), ⟨nb rfl, nb rfl⟩, ⟨_, rb_nw_eq⟩, ?_⟩
    rintro _ _ ⟨rfl, rfl⟩
    refine ⟨rfl, ⟨nb rfl, nb rfl⟩, rfl, ?_⟩
    rw [rb_up_nw]
    rfl
  · obtain rfl : k = 0 := by omega
    refine ⟨⟨nb rfl, nb rfl⟩, ?_⟩
    refine ⟨8, _, _, _, i8_8 rb_nw_eq, rb_dpk (by decide), ⟨nb rfl, nb rfl⟩, ⟨_, rb_nw_eq⟩, ?_⟩
    rintro _ _ ⟨rfl, rfl⟩
    refine ⟨rfl, ⟨nb rfl, nb rfl⟩, rfl, ?_⟩
    rw [rb_up_nw]
    rfl
  · obtain rfl : k = 1 := by omega
    refine ⟨⟨nb rfl, nb rfl⟩, ?_⟩
    refine ⟨9, _, _, _, i9_9 rb_nw_eq, rb_dpk (by decide), ⟨nb rfl, nb rfl⟩, ⟨_, rb_nw_eq⟩, ?_⟩
    rintro _ _ ⟨rfl, rfl⟩
    refine ⟨rfl, ⟨nb rfl, nb rfl⟩, rfl, ?_⟩
    rw [rb_up_nw]
    rfl
  · obtain rfl : k = 2 := by omega
    refine ⟨⟨nb rfl, nb rfl⟩, ?_⟩
    refine ⟨10, _, _, _, i10_10 rb_nw_eq, rb_dpk (by decide), ⟨nb rfl, nb rfl⟩, ⟨_, rb_nw_eq⟩, ?_⟩
    rintro _ _ ⟨rfl, rfl⟩
    refine ⟨rfl, ⟨nb rfl, nb rfl⟩, rfl, ?_⟩
    rw [rb_up_nw]
    rfl
  · obtain rfl : k = 3 := by omega
    refine ⟨⟨nb rfl, nb rfl⟩, ?_⟩
    refine ⟨11, _, _, _, i11_11 rb_nw_eq, rb_dpk (by decide), ⟨nb rfl, nb rfl⟩, ⟨_, rb_nw_eq⟩, ?_⟩
    rintro _ _ ⟨rfl, rfl⟩
    refine ⟨rfl, ⟨nb rfl, nb rfl⟩, rfl, ?_⟩
    rw [rb_up_nw]
    rfl
  · obtain rfl : k = 4 := by omega
    refine ⟨⟨nb rfl, nb rfl⟩, ?_⟩
    refine ⟨12, _, _, _, i12_12 rb_nw_eq, rb_dpk (by decide), ⟨nb rfl, nb rfl⟩, ⟨_, rb_nw_eq⟩, ?_⟩
    rintro _ _ ⟨rfl, rfl⟩
    refine ⟨rfl, ⟨nb rfl, nb rfl⟩, rfl, ?_⟩
    rw [rb_up_nw]
    rfl
  · obtain rfl : k = 5 := by omega
    refine ⟨⟨nb rfl, nb rfl⟩, ?_⟩
    refine ⟨13, _, _, _, i13_13 rb_nw_eq, rb_dpk (by decide), ⟨nb rfl, nb rfl⟩, ⟨_, rb_nw_eq⟩, ?_⟩
    rintro _ _ ⟨rfl, rfl⟩
    refine ⟨rfl, ⟨nb rfl, nb rfl⟩, rfl, ?_⟩
    rw [rb_up_nw]
    rfl
  · obtain rfl : k = 6 := by omega
    refine ⟨⟨nb rfl, nb rfl⟩, ?_⟩
    refine ⟨14, _, _, _, i14_14 rb_nw_eq, rb_dpk (by decide), ⟨nb rfl, nb rfl⟩, ⟨_, rb_nw_eq⟩, ?_⟩
    rintro _ _ ⟨rfl, rfl⟩
    refine ⟨rfl, ⟨nb rfl, nb rfl⟩, rfl, ?_⟩
    rw [rb_up_nw]
    rfl
  · obtain rfl : k = 7 := by omega
    refine ⟨⟨nb rfl, nb rfl⟩, fun _ => ?_, fun h2 => absurd h2 (by decide)⟩
    refine ⟨15, _, _, _, i15_15 (Or.inl rfl) rb_nw_eq, rb_dpk (by decide), ⟨nb rfl, nb rfl⟩, ⟨_, rb_nw_eq⟩, ?_⟩
    rintro _ _ ⟨rfl, rfl⟩
    refine ⟨rfl, ⟨nb rfl, nb rfl⟩, rfl, ?_⟩
    rw [rb_up_nw]
    rfl
  · obtain rfl : k = 8 := by omega
    refine ⟨⟨nb rfl, nb rfl⟩, fun h2 => absurd rfl h2, fun _ => ?_⟩
    refine ⟨15, _, _, _, i15_15 (Or.inr rfl) rb_nw_eq, rb_dpk (by decide), ⟨nb rfl, nb rfl⟩, ⟨_, rb_nw_eq⟩, ?_⟩
    rintro _ _ ⟨rfl, rfl⟩
    refine ⟨rfl, ⟨nb rfl, nb rfl⟩, rfl, ?_⟩
    rw [rb_up_nw]
    rfl
  · obtain rfl : k = 9 := by omega
    refine ⟨⟨nb rfl, nb rfl⟩, ?_⟩
    refine ⟨16, _, _, _, i16_16 rb_nw_eq, rb_dpk (by decide), ⟨nb rfl, nb rfl⟩, ⟨_, rb_nw_eq⟩, ?_⟩
    rintro _ _ ⟨rfl, rfl⟩
    refine ⟨rfl, ⟨nb rfl, nb rfl⟩, rfl, ?_⟩
    rw [rb_up_nw]
    rfl
  · obtain rfl : k = 10 := by omega
    refine ⟨⟨nb rfl, nb rfl⟩, ?_⟩
    refine ⟨17, _, _, _, i17_17 rb_nw_eq, rb_dpk (by decide), ⟨nb rfl, nb rfl⟩, ⟨_, rb_nw_eq⟩, ?_⟩
    rintro _ _ ⟨rfl, rfl⟩
    refine ⟨rfl, ⟨nb rfl, nb rfl⟩, rfl, ?_⟩
    rw [rb_up_nw]
    rfl
  · obtain rfl : k = 11 := by omega
    refine ⟨⟨nb rfl, nb rfl⟩, ?_⟩
    refine ⟨18, _, _, _, i18_18 rb_nw_eq, rb_dpk (by decide), ⟨nb rfl, nb rfl⟩, ⟨_, rb_nw_eq⟩, ?_⟩
    rintro _ _ ⟨rfl, rfl⟩
    refine ⟨rfl, ⟨nb rfl, nb rfl⟩, rfl, ?_⟩
    rw [rb_up_nw]
    rfl
  · obtain rfl : k = 12 := by omega
    refine ⟨⟨nb rfl, nb rfl⟩, ?_⟩
    refine ⟨19, _, _, _, i19_19 rb_nw_eq, rb_dpk (by decide), ⟨nb rfl, nb rfl⟩, ⟨_, rb_nw_eq⟩, ?_⟩
    rintro _ _ ⟨rfl, rfl⟩
    refine ⟨rfl, ⟨nb rfl, nb rfl⟩, rfl, ?_⟩
    rw [rb_up_nw]
    rfl
  · obtain rfl : k = 13 := by omega
    refine ⟨⟨nb rfl, nb rfl⟩, ?_⟩
    refine ⟨20, _, _, _, i20_20 rb_nw_eq, rb_dpk (by decide), ⟨nb rfl, nb rfl⟩, ⟨_, rb_nw_eq⟩, ?_⟩
    rintro _ _ ⟨rfl, rfl⟩
    refine ⟨rfl, ⟨nb rfl, nb rfl⟩, rfl, ?_⟩
    rw [rb_up_nw]
    rfl
  · obtain rfl : k = 14 := by omega
    refine ⟨⟨nb rfl, nb rfl⟩, ?_⟩
    refine ⟨21, _, _, _, i21_21 rb_nw_eq, rb_dpk (by decide), ⟨nb rfl, nb rfl⟩, ⟨_, rb_nw_eq⟩, ?_⟩
    rintro _ _ ⟨rfl, rfl⟩
    refine ⟨rfl, ⟨nb rfl, nb rfl⟩, rfl, ?_⟩
    rw [rb_up_nw]
    rfl
  · obtain rfl : k = 15 := by omega
    refine ⟨⟨nb rfl, nb rfl⟩, ?_⟩
    refine ⟨22, _, _, _, i22_22 rb_nw_eq, rb_dpk (by decide), ⟨nb rfl, nb rfl⟩, ⟨_, rb_nw_eq⟩, ?_⟩
    rintro _ _ ⟨rfl, rfl⟩
    refine ⟨rfl, ⟨nb rfl, nb rfl⟩, rfl, ?_⟩
    rw [rb_up_nw]
    rfl
  · obtain rfl : k = 16 := by omega
    refine ⟨⟨nb rfl, nb rfl⟩, ?_⟩
    refine ⟨23, _, _, _, i23_23 rb_nw_eq, rb_dpk (by decide), ⟨nb rfl, nb rfl⟩, ⟨_, rb_nw_eq⟩, ?_⟩
    rintro _ _ ⟨rfl, rfl⟩
    refine ⟨rfl, ⟨nb rfl, nb rfl⟩, rfl, ?_⟩
    rw [rb_up_nw]
    rfl
  · obtain rfl : k = 17 := by omega
    refine ⟨⟨nb rfl, nb rfl⟩, ?_⟩
    refine ⟨24, _, _, _, i24_24 rb_nw_eq, rb_dpk (by decide), ⟨nb rfl, nb rfl⟩, ⟨_, rb_nw_eq⟩, ?_⟩
    rintro _ _ ⟨rfl, rfl⟩
    refine ⟨rfl, ⟨nb rfl, nb rfl⟩, rfl, ?_⟩
    rw [rb_up_nw]
    rfl
  · obtain rfl : k = 18 := by omega
    refine ⟨⟨nb rfl, nb rfl⟩, ?_⟩
    refine ⟨25, _, _, _, i25_25 rb_nw_eq, rb_dpk (by decide), ⟨nb rfl, nb rfl⟩, ⟨_, rb_nw_eq⟩, ?_⟩
    rintro _ _ ⟨rfl, rfl⟩
    refine ⟨rfl, ⟨nb rfl, nb rfl⟩, rfl, ?_⟩
    rw [rb_up_nw]
    rfl
theorem X0_isNumber {a : Int32} : rb_Ct g yX0_isNumber wX0_isNumber 1 (0, 0) [.int a] M (qr (some (.int (if -1000 ≤ a ∧ a ≤ 1000 then 1 else 0))) M) := by
  refine rb_Ct.of (by decide) (Nat.le_of_ble_eq_true rfl) rfl ?_
  exact sgX0_isNumber_0 (uI X0_in (rb_dpk (by decide)) zr ⟨nar01, zf, rfl, rfl⟩)
theorem fit0 {y q x0 p : Nat} {a b : Int32} (h0 : M.2 y = some (rb_O 8 (aFs 0 a b x0))) (p1 : rb_rd M q 5 1 (.int (ms.1 1 p))) (p2 : rb_rd M q 5 2 (.int (ms.1 2 p))) (p3 : rb_rd M q 5 3 (.int (ms.1 3 p))) : rb_Ct g yX8_fits wX8_fits 2 (0, 0) [.ref y, .ref q] M (qr (some (.int (bz (aOk ms 0 p a b)))) M) := by
  refine rb_Ct.of (by decide) (Nat.le_of_ble_eq_true rfl) rfl ?_
  exact sgX8_fits_0 (rb_isR_ref _) ⟨8, 0, _, fl_X8_13_8, ⟨_, h0, rfl⟩, uI X0_isNumber (rb_dpk (by decide)) zr ⟨nar01, zf, rbz⟩⟩
theorem fit2 {y q x0 p : Nat} {a b : Int32} (h0 : M.2 y = some (rb_O 10 (aFs 2 a b x0))) (p1 : rb_rd M q 5 1 (.int (ms.1 1 p))) (p2 : rb_rd M q 5 2 (.int (ms.1 2 p))) (p3 : rb_rd M q 5 3 (.int (ms.1 3 p))) : rb_Ct g yX10_fits wX10_fits 2 (0, 0) [.ref y, .ref q] M (qr (some (.int (bz (aOk ms 2 p a b)))) M) := by
  refine rb_Ct.of (by decide) (Nat.le_of_ble_eq_true rfl) rfl ?_
  exact sgX10_fits_0 (rb_isR_ref _) ⟨10, 0, _, fl_X10_13_10, ⟨_, h0, rfl⟩, uI X0_isNumber (rb_dpk (by decide)) zr ⟨nar01, zf, rbz⟩⟩
theorem fit3 {y q x0 p : Nat} {a b : Int32} (h0 : M.2 y = some (rb_O 11 (aFs 3 a b x0))) (p1 : rb_rd M q 5 1 (.int (ms.1 1 p))) (p2 : rb_rd M q 5 2 (.int (ms.1 2 p))) (p3 : rb_rd M q 5 3 (.int (ms.1 3 p))) : rb_Ct g yX10_fits wX10_fits 2 (0, 0) [.ref y, .ref q] M (qr (some (.int (bz (aOk ms 3 p a b)))) M) := by
  refine rb_Ct.of (by decide) (Nat.le_of_ble_eq_true rfl) rfl ?_
  exact sgX10_fits_0 (rb_isR_ref _) ⟨11, 0, _, fl_X10_13_11, ⟨_, h0, rfl⟩, uI X0_isNumber (rb_dpk (by decide)) zr ⟨nar01, zf, rbz⟩⟩
theorem fit4 {y q x0 p : Nat} {a b : Int32} (h0 : M.2 y = some (rb_O 12 (aFs 4 a b x0))) (p1 : rb_rd M q 5 1 (.int (ms.1 1 p))) (p2 : rb_rd M q 5 2 (.int (ms.1 2 p))) (p3 : rb_rd M q 5 3 (.int (ms.1 3 p))) : rb_Ct g yX12_fits wX12_fits 2 (0, 0) [.ref y, .ref q] M (qr (some (.int (bz (aOk ms 4 p a b)))) M) := by
  refine rb_Ct.of (by decide) (Nat.le_of_ble_eq_true rfl) rfl ?_
  exact sgX12_fits_0 (rb_isR_ref _) ⟨12, 0, _, fl_X12_25_12, ⟨_, h0, rfl⟩, _, rfl, _, p1, uI X0_in (rb_dpk (by decide)) zr ⟨nar01, zf, rbz⟩⟩
theorem fit5 {y q x0 p : Nat} {a b : Int32} (h0 : M.2 y = some (rb_O 13 (aFs 5 a b x0))) (p1 : rb_rd M q 5 1 (.int (ms.1 1 p))) (p2 : rb_rd M q 5 2 (.int (ms.1 2 p))) (p3 : rb_rd M q 5 3 (.int (ms.1 3 p))) : rb_Ct g yX12_fits wX12_fits 2 (0, 0) [.ref y, .ref q] M (qr (some (.int (bz (aOk ms 5 p a b)))) M) := by
  refine rb_Ct.of (by decide) (Nat.le_of_ble_eq_true rfl) rfl ?_
  exact sgX12_fits_0 (rb_isR_ref _) ⟨13, 0, _, fl_X12_25_13, ⟨_, h0, rfl⟩, _, rfl, _, p1, uI X0_in (rb_dpk (by decide)) zr ⟨nar01, zf, rbz⟩⟩
theorem fit6 {y q x0 p : Nat} {a b : Int32} (h0 : M.2 y = some (rb_O 14 (aFs 6 a b x0))) (p1 : rb_rd M q 5 1 (.int (ms.1 1 p))) (p2 : rb_rd M q 5 2 (.int (ms.1 2 p))) (p3 : rb_rd M q 5 3 (.int (ms.1 3 p))) : rb_Ct g yX12_fits wX12_fits 2 (0, 0) [.ref y, .ref q] M (qr (some (.int (bz (aOk ms 6 p a b)))) M) := by
  refine rb_Ct.of (by decide) (Nat.le_of_ble_eq_true rfl) rfl ?_
  exact sgX12_fits_0 (rb_isR_ref _) ⟨14, 0, _, fl_X12_25_14, ⟨_, h0, rfl⟩, _, rfl, _, p1, uI X0_in (rb_dpk (by decide)) zr ⟨nar01, zf, rbz⟩⟩
theorem fit7 {y q x0 p : Nat} {a b : Int32} (h0 : M.2 y = some (rb_O 15 (aFs 7 a b x0))) (p1 : rb_rd M q 5 1 (.int (ms.1 1 p))) (p2 : rb_rd M q 5 2 (.int (ms.1 2 p))) (p3 : rb_rd M q 5 3 (.int (ms.1 3 p))) : rb_Ct g yX15_fits wX15_fits 2 (0, 0) [.ref y, .ref q] M (qr (some (.int (bz (aOk ms 7 p a b)))) M) := by
  refine rb_Ct.of (by decide) (Nat.le_of_ble_eq_true rfl) rfl ?_
  exact sgX15_fits_0 (rb_isR_ref _) ⟨15, 0, _, fl_X15_23_15, ⟨_, h0, rfl⟩, uI X0_in (rb_dpk (by decide)) zr ⟨nar01, zf, rbz⟩⟩
theorem fit8 {y q x0 p : Nat} {a b : Int32} (h0 : M.2 y = some (rb_O 15 (aFs 8 a b x0))) (p1 : rb_rd M q 5 1 (.int (ms.1 1 p))) (p2 : rb_rd M q 5 2 (.int (ms.1 2 p))) (p3 : rb_rd M q 5 3 (.int (ms.1 3 p))) : rb_Ct g yX15_fits wX15_fits 2 (0, 0) [.ref y, .ref q] M (qr (some (.int (bz (aOk ms 8 p a b)))) M) := by
  refine rb_Ct.of (by decide) (Nat.le_of_ble_eq_true rfl) rfl ?_
  exact sgX15_fits_0 (rb_isR_ref _) ⟨15, 0, _, fl_X15_23_15, ⟨_, h0, rfl⟩, uI X0_in (rb_dpk (by decide)) zr ⟨nar01, zf, rbz⟩⟩
theorem fit10 {y q x0 p : Nat} {a b : Int32} (h0 : M.2 y = some (rb_O 17 (aFs 10 a b x0))) (p1 : rb_rd M q 5 1 (.int (ms.1 1 p))) (p2 : rb_rd M q 5 2 (.int (ms.1 2 p))) (p3 : rb_rd M q 5 3 (.int (ms.1 3 p))) : rb_Ct g yX17_fits wX17_fits 2 (0, 0) [.ref y, .ref q] M (qr (some (.int (bz (aOk ms 10 p a b)))) M) := by
  refine rb_Ct.of (by decide) (Nat.le_of_ble_eq_true rfl) rfl ?_
  exact sgX17_fits_0 (rb_isR_ref _) ⟨17, 0, _, fl_X17_21_17, ⟨_, h0, rfl⟩, uI X0_in (rb_dpk (by decide)) zr ⟨nar01, zf, rbz⟩⟩
theorem fit11 {y q x0 p : Nat} {a b : Int32} (h0 : M.2 y = some (rb_O 18 (aFs 11 a b x0))) (p1 : rb_rd M q 5 1 (.int (ms.1 1 p))) (p2 : rb_rd M q 5 2 (.int (ms.1 2 p))) (p3 : rb_rd M q 5 3 (.int (ms.1 3 p))) : rb_Ct g yX18_fits wX18_fits 2 (0, 0) [.ref y, .ref q] M (qr (some (.int (bz (aOk ms 11 p a b)))) M) := by
  refine rb_Ct.of (by decide) (Nat.le_of_ble_eq_true rfl) rfl ?_
  exact sgX18_fits_0 (rb_isR_ref _) ⟨18, 0, _, fl_X18_33_18, ⟨_, h0, rfl⟩, uI X0_in (rb_dpk (by decide)) zr ⟨nar01, zf, rbz⟩⟩
theorem fit12 {y q x0 p : Nat} {a b : Int32} (h0 : M.2 y = some (rb_O 19 (aFs 12 a b x0))) (p1 : rb_rd M q 5 1 (.int (ms.1 1 p))) (p2 : rb_rd M q 5 2 (.int (ms.1 2 p))) (p3 : rb_rd M q 5 3 (.int (ms.1 3 p))) : rb_Ct g yX19_fits wX19_fits 2 (0, 0) [.ref y, .ref q] M (qr (some (.int (bz (aOk ms 12 p a b)))) M) := by
  refine rb_Ct.of (by decide) (Nat.le_of_ble_eq_true rfl) rfl ?_
  exact sgX19_fits_0 (rb_isR_ref _) ⟨19, 0, _, fl_X19_21_19, ⟨_, h0, rfl⟩, uI X0_in (rb_dpk (by decide)) zr ⟨nar01, zf, rbz⟩⟩
theorem fit13 {y q x0 p : Nat} {a b : Int32} (h0 : M.2 y = some (rb_O 20 (aFs 13 a b x0))) (p1 : rb_rd M q 5 1 (.int (ms.1 1 p))) (p2 : rb_rd M q 5 2 (.int (ms.1 2 p))) (p3 : rb_rd M q 5 3 (.int (ms.1 3 p))) : rb_Ct g yX20_fits wX20_fits 2 (0, 0) [.ref y, .ref q] M (qr (some (.int (bz (aOk ms 13 p a b)))) M) := by
  refine rb_Ct.of (by decide) (Nat.le_of_ble_eq_true rfl) rfl ?_
  exact sgX20_fits_0 (rb_isR_ref _) ⟨20, 0, _, fl_X20_13_20, ⟨_, h0, rfl⟩, uI X0_in (rb_dpk (by decide)) zr ⟨nar01, zf, rbz⟩⟩
theorem fit15 {y q x0 p : Nat} {a b : Int32} (h0 : M.2 y = some (rb_O 22 (aFs 15 a b x0))) (p1 : rb_rd M q 5 1 (.int (ms.1 1 p))) (p2 : rb_rd M q 5 2 (.int (ms.1 2 p))) (p3 : rb_rd M q 5 3 (.int (ms.1 3 p))) : rb_Ct g yX22_fits wX22_fits 2 (0, 0) [.ref y, .ref q] M (qr (some (.int (bz (aOk ms 15 p a b)))) M) := by
  refine rb_Ct.of (by decide) (Nat.le_of_ble_eq_true rfl) rfl ?_
  exact sgX22_fits_0 (rb_isR_ref _) ⟨22, 0, _, fl_X22_33_22, ⟨_, h0, rfl⟩, _, rfl, _, p2, uI X0_in (rb_dpk (by decide)) zr ⟨nar01, zf, rbz⟩⟩
theorem fit16 {y q x0 p : Nat} {a b : Int32} (h0 : M.2 y = some (rb_O 23 (aFs 16 a b x0))) (p1 : rb_rd M q 5 1 (.int (ms.1 1 p))) (p2 : rb_rd M q 5 2 (.int (ms.1 2 p))) (p3 : rb_rd M q 5 3 (.int (ms.1 3 p))) : rb_Ct g yX23_fits wX23_fits 2 (0, 0) [.ref y, .ref q] M (qr (some (.int (bz (aOk ms 16 p a b)))) M) := by
  have hM : rb_Ct g yX22_fits wX22_fits 1 (0, 0) [.ref y, .ref q] M (qr (some (.int (if 0 ≤ a ∧ a ≤ ms.1 2 p - 1 then 1 else 0))) M) := by
    refine rb_Ct.of (by decide) (Nat.le_of_ble_eq_true rfl) rfl ?_
    exact sgX22_fits_0 (rb_isR_ref _) ⟨23, 0, _, fl_X22_33_23, ⟨_, h0, rfl⟩, _, rfl, _, p2, uI X0_in (rb_dpk (by decide)) zr ⟨nar01, zf, rfl, rfl⟩⟩
  refine rb_Ct.of (by decide) (Nat.le_of_ble_eq_true rfl) rfl ?_
  refine sgX23_fits_0 (rb_isR_ref _) ⟨23, _, _, _, hM, rb_dpk (by decide), zr, ⟨_, h0⟩, ?_⟩
  rintro _ _ ⟨rfl, rfl⟩
  refine ⟨_, rfl, fun h1 => ⟨zf, rbz0 (fun q => (pIn0.mp h1) q.1)⟩, fun h1 => ⟨23, 1, _, fl_X23_39_23, ⟨_, h0, rfl⟩, _, rfl, _, p1, uI X0_in (rb_dpk (by decide)) zr ⟨fun h2 => ⟨zf, rbz0 (fun q => (pIn0.mp h2) q.2)⟩, fun h2 => ⟨zf, rbz1 ⟨?_, ?_⟩⟩⟩⟩⟩
  · rw [pIn0] at h1; exact Decidable.not_not.mp h1
  · rw [pIn0] at h2; exact Decidable.not_not.mp h2
theorem fit17 {y q x0 p : Nat} {a b : Int32} (h0 : M.2 y = some (rb_O 24 (aFs 17 a b x0))) (p1 : rb_rd M q 5 1 (.int (ms.1 1 p))) (p2 : rb_rd M q 5 2 (.int (ms.1 2 p))) (p3 : rb_rd M q 5 3 (.int (ms.1 3 p))) : rb_Ct g yX23_fits wX23_fits 2 (0, 0) [.ref y, .ref q] M (qr (some (.int (bz (aOk ms 17 p a b)))) M) := by
  have hM : rb_Ct g yX22_fits wX22_fits 1 (0, 0) [.ref y, .ref q] M (qr (some (.int (if 0 ≤ a ∧ a ≤ ms.1 2 p - 1 then 1 else 0))) M) := by
    refine rb_Ct.of (by decide) (Nat.le_of_ble_eq_true rfl) rfl ?_
    exact sgX22_fits_0 (rb_isR_ref _) ⟨24, 0, _, fl_X22_33_24, ⟨_, h0, rfl⟩, _, rfl, _, p2, uI X0_in (rb_dpk (by decide)) zr ⟨nar01, zf, rfl, rfl⟩⟩
  refine rb_Ct.of (by decide) (Nat.le_of_ble_eq_true rfl) rfl ?_
  refine sgX23_fits_0 (rb_isR_ref _) ⟨24, _, _, _, hM, rb_dpk (by decide), zr, ⟨_, h0⟩, ?_⟩
  rintro _ _ ⟨rfl, rfl⟩
  refine ⟨_, rfl, fun h1 => ⟨zf, rbz0 (fun q => (pIn0.mp h1) q.1)⟩, fun h1 => ⟨24, 1, _, fl_X23_39_24, ⟨_, h0, rfl⟩, _, rfl, _, p1, uI X0_in (rb_dpk (by decide)) zr ⟨fun h2 => ⟨zf, rbz0 (fun q => (pIn0.mp h2) q.2)⟩, fun h2 => ⟨zf, rbz1 ⟨?_, ?_⟩⟩⟩⟩⟩
  · rw [pIn0] at h1; exact Decidable.not_not.mp h1
  · rw [pIn0] at h2; exact Decidable.not_not.mp h2
theorem fit18 {y q x0 p : Nat} {a b : Int32} (h0 : M.2 y = some (rb_O 25 (aFs 18 a b x0))) (p1 : rb_rd M q 5 1 (.int (ms.1 1 p))) (p2 : rb_rd M q 5 2 (.int (ms.1 2 p))) (p3 : rb_rd M q 5 3 (.int (ms.1 3 p))) : rb_Ct g yX25_fits wX25_fits 2 (0, 0) [.ref y, .ref q] M (qr (some (.int (bz (aOk ms 18 p a b)))) M) := by
  refine rb_Ct.of (by decide) (Nat.le_of_ble_eq_true rfl) rfl ?_
  refine sgX25_fits_0 (rb_isR_ref _) ⟨25, 0, _, fl_X25_27_25, ⟨_, h0, rfl⟩, _, rfl, _, p3, uI X0_in (rb_dpk (by decide)) zr ⟨fun h1 => ⟨zf, rbz0 (fun q => (pIn0.mp h1) q.1)⟩, fun h1 => ⟨25, 1, _, fl_X25_35_25, ⟨_, h0, rfl⟩, uI X0_in (rb_dpk (by decide)) zr ⟨fun h2 => ⟨zf, rbz0 (fun q => (pIn0.mp h2) q.2)⟩, fun h2 => ⟨zf, rbz1 ⟨?_, ?_⟩⟩⟩⟩⟩⟩
  · rw [pIn0] at h1; exact Decidable.not_not.mp h1
  · rw [pIn0] at h2; exact Decidable.not_not.mp h2
theorem fit19 {y q x0 p : Nat} {a b : Int32} (h0 : M.2 y = some (rb_O 26 (aFs 19 a b x0))) (p1 : rb_rd M q 5 1 (.int (ms.1 1 p))) (p2 : rb_rd M q 5 2 (.int (ms.1 2 p))) (p3 : rb_rd M q 5 3 (.int (ms.1 3 p))) : rb_Ct g yX26_fits wX26_fits 2 (0, 0) [.ref y, .ref q] M (qr (some (.int (bz (aOk ms 19 p a b)))) M) := by
  refine rb_Ct.of (by decide) (Nat.le_of_ble_eq_true rfl) rfl ?_
  refine sgX26_fits_0 (rb_isR_ref _) ⟨26, 0, _, fl_X26_27_26, ⟨_, h0, rfl⟩, _, rfl, _, p3, uI X0_in (rb_dpk (by decide)) zr ⟨fun h1 => ⟨zf, rbz0 (fun q => (pIn0.mp h1) q.1)⟩, fun h1 => ⟨26, 1, _, fl_X26_35_26, ⟨_, h0, rfl⟩, uI X0_in (rb_dpk (by decide)) zr ⟨fun h2 => ⟨zf, rbz0 (fun q => (pIn0.mp h2) q.2)⟩, fun h2 => ⟨zf, rbz1 ⟨?_, ?_⟩⟩⟩⟩⟩⟩
  · rw [pIn0] at h1; exact Decidable.not_not.mp h1
  · rw [pIn0] at h2; exact Decidable.not_not.mp h2
/-- the interface call of fits -/
theorem fitAny {k y q x0 p : Nat} {a b : Int32} (hk : k ≤ 19) (hn : k ≠ 1 ∧ k ≠ 9 ∧ k ≠ 14) (h0 : M.2 y = some (rb_O (aCi k) (aFs k a b x0))) (p1 : rb_rd M q 5 1 (.int (ms.1 1 p))) (p2 : rb_rd M q 5 2 (.int (ms.1 2 p))) (p3 : rb_rd M q 5 3 (.int (ms.1 3 p))) : ∃ (y1 : MethodName) (w1 : Cond), rb_Go "RoleLoom" (.invokeinterface 254 2) 5 y1 w1 (some (aCi k)) 2 ∧ rb_Ct g y1 w1 2 (0, 0) [.ref y, .ref q] M (qr (some (.int (bz (aOk ms k p a b)))) M) := by
  match k, hk, hn with
  | 0, _, _ => exact ⟨_, _, st_X0_254_8, fit0 h0 p1 p2 p3⟩
  | 1, _, hn => exact absurd rfl hn.1
  | 2, _, _ => exact ⟨_, _, st_X0_254_10, fit2 h0 p1 p2 p3⟩
  | 3, _, _ => exact ⟨_, _, st_X0_254_11, fit3 h0 p1 p2 p3⟩
  | 4, _, _ => exact ⟨_, _, st_X0_254_12, fit4 h0 p1 p2 p3⟩
  | 5, _, _ => exact ⟨_, _, st_X0_254_13, fit5 h0 p1 p2 p3⟩
  | 6, _, _ => exact ⟨_, _, st_X0_254_14, fit6 h0 p1 p2 p3⟩
  | 7, _, _ => exact ⟨_, _, st_X0_254_15, fit7 h0 p1 p2 p3⟩
  | 8, _, _ => exact ⟨_, _, st_X0_254_15, fit8 h0 p1 p2 p3⟩
  | 9, _, hn => exact absurd rfl hn.2.1
  | 10, _, _ => exact ⟨_, _, st_X0_254_17, fit10 h0 p1 p2 p3⟩
  | 11, _, _ => exact ⟨_, _, st_X0_254_18, fit11 h0 p1 p2 p3⟩
  | 12, _, _ => exact ⟨_, _, st_X0_254_19, fit12 h0 p1 p2 p3⟩
  | 13, _, _ => exact ⟨_, _, st_X0_254_20, fit13 h0 p1 p2 p3⟩
  | 14, _, hn => exact absurd rfl hn.2.2
  | 15, _, _ => exact ⟨_, _, st_X0_254_22, fit15 h0 p1 p2 p3⟩
  | 16, _, _ => exact ⟨_, _, st_X0_254_23, fit16 h0 p1 p2 p3⟩
  | 17, _, _ => exact ⟨_, _, st_X0_254_24, fit17 h0 p1 p2 p3⟩
  | 18, _, _ => exact ⟨_, _, st_X0_254_25, fit18 h0 p1 p2 p3⟩
  | 19, _, _ => exact ⟨_, _, st_X0_254_26, fit19 h0 p1 p2 p3⟩
  | k + 20, hk, _ => exact absurd hk (by omega)
end C11
