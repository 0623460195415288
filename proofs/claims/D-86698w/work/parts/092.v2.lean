set_option maxRecDepth 100000
/-! bits -/
def bt (x : Int32) (q : Nat) : Prop := ((x >>> (nI q &&& 31)) &&& 1) = 1
theorem sh_n : ∀ q : Fin 24, ((nI q.val &&& 31).toBitVec.smod 32).toNat = q.val := by decide
theorem sh_1 : ∀ k q : Fin 24, ((1 : Int32) <<< (nI k.val &&& 31)).toBitVec.getLsbD q.val = decide (q.val = k.val) := by decide
theorem bt_iff {x : Int32} {q : Nat} (hq : q < 24) : bt x q ↔ x.toBitVec.getLsbD q = true := by
  unfold bt
  rw [← Int32.toBitVec_inj, Int32.toBitVec_and, Int32.toBitVec_shiftRight, show (1 : Int32).toBitVec = 1#32 from rfl, BitVec.and_one_eq_setWidth_ofBool_getLsbD, BitVec.getLsbD_sshiftRight', sh_n ⟨q, hq⟩]
  rw [if_pos (show q + 0 < 32 by omega), Nat.add_zero]
  cases x.toBitVec.getLsbD q <;> decide
theorem bt_or {x : Int32} {k q : Nat} (hk : k < 24) (hq : q < 24) : bt (x ||| ((1 : Int32) <<< (nI k &&& 31))) q ↔ bt x q ∨ q = k := by
  rw [bt_iff hq, bt_iff hq, Int32.toBitVec_or, BitVec.getLsbD_or, sh_1 ⟨k, hk⟩ ⟨q, hq⟩, Bool.or_eq_true, decide_eq_true_iff]
theorem bt_0 {q : Nat} (hq : q < 24) : ¬ bt 0 q := by
  rw [bt_iff hq]
  simp
