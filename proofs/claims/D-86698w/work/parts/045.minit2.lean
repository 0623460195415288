set_option maxRecDepth 100000
/-- the model after j steps of the loop of its constructor; 601: a new model -/
def mm_ij (j : Nat) : mm_S := (fun k i => if k = 10 then (if i < j then -9 else 0) else mm_i0.1 k i, fun _ _ => 0)
theorem mm_ij0 : mm_ij 0 = mm_i0 := by
  refine Prod.ext (funext fun k => funext fun i => ?_) rfl
  simp only [mm_ij, mm_i0]
  by_cases h : k = 10
  · subst h; simp
  · simp [h]
theorem mm_ijs (j : Nat) : mm_sI (mm_ij j) 10 j (-9) = mm_ij (j + 1) := by
  refine Prod.ext (funext fun k => funext fun i => ?_) rfl
  simp only [mm_sI, mm_ij]
  by_cases h : k = 10
  · subst h
    simp only [if_true]
    by_cases hi : i = j
    · subst hi; rw [va_up_self, if_pos (by omega)]
    · rw [show ∀ f : Nat → Int32, va_up f j (-9) i = f i from fun f => by simp [va_up, hi]]
      by_cases h2 : i < j
      · rw [if_pos h2, if_pos (by omega)]
      · rw [if_neg h2, if_neg (by omega)]
  · simp [h]
theorem mm_initLoop {κ : rb_K} {n : Nat × Nat} {M0 : rb_H} {h : Nat} (hf : rb_fin κ n) (hp : κ.2.2.1 (.returned none) (mm_H h (mm_ij 601) M0)) : ∀ r j, j + r = 601 → rb_Bd κ mX4_init n (mm_H h (mm_ij j) M0) 461 [some (.ref h), some (.int (nI j))] [] := by
  intro r
  induction r with
  | zero =>
    intro j hj
    refine rb_iload_n 1 rfl rfl dX4_init_461 ?_
    refine rb_sipush (v := (601 : Int32)) (by decide) dX4_init_462 ?_
    obtain rfl : j = 601 := by omega
    refine rb_icge 482 (by decide) dX4_init_465 (fun c1 => ?_) (fun c1 => absurd c1 (by decide))
    exact rb_vret rfl hf.1 hf.2 dX4_init_482 hp
  | succ r ih =>
    intro j hj
    refine rb_iload_n 1 rfl rfl dX4_init_461 ?_
    refine rb_sipush (v := (601 : Int32)) (by decide) dX4_init_462 ?_
    refine rb_icge 482 (by decide) dX4_init_465 (fun c1 => absurd c1 (nI_ge (b := 601) (by omega) (by decide))) (fun c1 => ?_)
    refine rb_aload_n 0 rfl rfl (rb_isR_ref _) dX4_init_468 ?_
    refine mm_getA (k := 10) (t := 2) fl_X4_35 (by decide) (by decide) dX4_init_469 ?_
    refine rb_iload_n 1 rfl rfl dX4_init_472 ?_
    refine rb_bipush (v := (-9 : Int32)) (by decide) dX4_init_473 ?_
    refine mm_iast (k := 10) (by decide) (vp_in_nI (N := 601) (by omega) (by decide)) dX4_init_475 ?_
    rw [nI_clamp (by omega), mm_ijs]
    refine rb_iinc (ls' := [some (.ref h), some (.int (nI j + 1))]) (v := nI j + 1) rfl rfl (by decide) rfl rfl dX4_init_476 ?_
    refine rb_goto 461 (by decide) dX4_init_479 ?_
    rw [nI_1]
    exact ih (j + 1) (by omega)
