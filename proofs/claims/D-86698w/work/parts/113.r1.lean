set_option maxRecDepth 100000
/-! runs: raise and enter in the model -/
def noT (ms : mm_S) : mm_S := mm_sL (mm_sI (mm_sI (mm_sI ms 64 0 (-9)) 65 0 (-9)) 66 0 (-9)) 67 0 0
/-- what is thrown looks for a body that catches it, from the k-th on -/
def F_unw (num : Int32) (w : Int64) : Nat → mm_S → mm_S
  | 0, ms => mm_sI ms 61 0 1
  | k + 1, ms => if ms.1 59 k = 0 ∧ ms.1 11 (nN ms 51 k) = num then noT (mm_sL (mm_sI ms 59 k 1) 57 k w) else F_unw num w k (mm_sI ms 50 0 (nI k))
def thrS (ms : mm_S) (num : Int32) (w : Int64) : mm_S := mm_sL (mm_sI (mm_sI (mm_sI ms 64 0 num) 65 0 (nI (nN ms 51 (nN ms 50 0 - 1) / 25))) 66 0 (ms.1 56 (nN ms 50 0 - 1) - 1)) 67 0 w
def F_raise (ms : mm_S) (num : Int32) (w : Int64) : mm_S := F_unw num w (nN ms 50 0) (thrS ms num w)
/-- a body begins: what is written for the k-th -/
def F_ent0 (ms : mm_S) (k : Nat) (b o p m t : Int32) (v : Int64) : mm_S := mm_sI (mm_sI (mm_sL (mm_sL (mm_sI (mm_sI (mm_sI (mm_sI (mm_sI (mm_sI ms 51 k b) 52 k o) 53 k p) 54 k m) 55 k t) 56 k 0) 57 k v) 58 k v) 59 k 0) 50 0 (nI (k + 1))
/-- it is noted as the j-th that ran -/
def F_note (ms : mm_S) (j k b : Nat) : mm_S := mm_sI (mm_sI (mm_sI (mm_sI (mm_sI ms 69 j (nI (b / 25))) 70 j (buse b)) 71 j (bmem b)) 72 j (nI (k + 1))) 68 0 (nI (j + 1))
def F_enter (ms : mm_S) (b : Nat) (o p m t : Int32) (v : Int64) : mm_S :=
  if nN ms 50 0 = 40 then mm_sI (mm_sI ms 61 0 4) 50 0 0 else
  if nN ms 68 0 < 60 then F_note (F_ent0 ms (nN ms 50 0) (nI b) o p m t v) (nN ms 68 0) (nN ms 50 0) b else F_ent0 ms (nN ms 50 0) (nI b) o p m t v
section R1
variable {g : rb_G} {M0 : rb_H} {h : Nat} {ms : mm_S}
theorem X4_noThrow : mm_C g yX4_noThrow wX4_noThrow 0 h M0 ms [.ref h] none (noT ms) := by
  refine rb_Ct.of (by decide) (Nat.le_of_ble_eq_true rfl) rfl ?_
  exact sgX4_noThrow_0 ⟨rfl, rfl⟩
theorem mm_sI_0 {ms : mm_S} {k i : Nat} {x : Int32} : (mm_sI ms k i x).1 k i = x := by simp [mm_sI, va_up]
theorem mm_sL_0 {ms : mm_S} {k i : Nat} {x : Int64} : (mm_sL ms k i x).2 k i = x := by simp [mm_sL, va_up]
theorem X4_raiseLoop {num : Int32} {w : Int64} {κ : rb_K} (hd : rb_dp κ 0) : ∀ k (ms : mm_S), k ≤ 40 → ms.1 50 0 = nI k → (∀ j, j < k → ∃ b, b < 600 ∧ ms.1 51 j = nI b) → κ.2.2.1 (.returned none) (mm_H h (F_unw num w k ms) M0) → ∀ a4, rb_Bd κ mX4_raise (0, 0) (mm_H h ms M0) 45 [some (.ref h), some (.int num), some (.long w), none, some (.int a4)] [] := by
  intro k
  induction k with
  | zero =>
    intro ms _ h50 _ K a4
    refine sgX4_raise_45 ⟨fun _ => K, fun z => ?_⟩
    rw [h50] at z
    exact absurd z (by decide)
  | succ k ih =>
    intro ms hk h50 hb K a4
    obtain ⟨b, hb1, hb2⟩ := hb k (by omega)
    have e1 : ms.1 50 0 - 1 = nI k := by rw [h50]; exact nI_pred k
    have hc : (nI k).toNatClampNeg = k := nI_clamp (by omega)
    have hcb : (nI b).toNatClampNeg = b := nI_clamp (by omega)
    have hn : nN ms 51 k = b := by unfold nN; rw [hb2, hcb]
    have hvk : vp_in (nI k) 40 := vp_in_nI (by omega) (by decide)
    have nxt : ¬ (ms.1 59 k = 0 ∧ ms.1 11 (nN ms 51 k) = num) → ∀ a4, rb_Bd κ mX4_raise (0, 0) (mm_H h (mm_sI ms 50 0 (nI k)) M0) 45 [some (.ref h), some (.int num), some (.long w), none, some (.int a4)] [] := by
      intro hno a4
      rw [F_unw, if_neg hno] at K
      exact ih (mm_sI ms 50 0 (nI k)) (by omega) mm_sI_0 (fun j hj => by rw [mm_sI_ne (by decide)]; exact hb j (by omega)) K a4
    refine sgX4_raise_45 ⟨fun z => ?_, fun _ => ?_⟩
    · rw [h50] at z
      exact absurd z (nI_nle (by omega) (by omega))
    rw [e1, hc, hb2, hcb]
    refine ⟨hvk, fun z => nxt (fun q => z q.1) _, fun z => ⟨hvk, vp_in_nI (N := 601) (by omega) (by decide), fun z2 => nxt (fun q => z2 (by rw [← hn]; exact q.2)) _, fun z2 => ⟨hvk, hvk, _, _, X4_noThrow, hd, ?_⟩⟩⟩
    rw [F_unw, if_pos ⟨z, by rw [hn]; exact z2⟩] at K
    exact K
theorem X4_raise {num : Int32} {w : Int64} {k : Nat} (hk : k < 40) (h50 : ms.1 50 0 = nI (k + 1)) (hb : ∀ j, j ≤ k → ∃ b, b < 600 ∧ ms.1 51 j = nI b) : mm_C g yX4_raise wX4_raise 1 h M0 ms [.ref h, .int num, .long w] none (F_raise ms num w) := by
  refine rb_Ct.of (by decide) (Nat.le_of_ble_eq_true rfl) rfl ?_
  obtain ⟨b, hb1, hb2⟩ := hb k (by omega)
  have e1 : ms.1 50 0 - 1 = nI k := by rw [h50]; exact nI_pred k
  have hc : (nI k).toNatClampNeg = k := nI_clamp (by omega)
  have n50 : nN ms 50 0 = k + 1 := by unfold nN; rw [h50, nI_clamp (by omega)]
  have hcb : (nI b).toNatClampNeg = b := nI_clamp (by omega)
  have hn : nN ms 51 k = b := by unfold nN; rw [hb2, hcb]
  have ediv : nI b / 25 = nI (b / 25) := pk_div (by omega) (by decide) (by decide)
  refine sgX4_raise_0 ?_
  rw [e1, hc, hb2, ediv]
  refine ⟨vp_in_nI (N := 40) (by omega) (by decide), vp_in_nI (N := 40) (by omega) (by decide), ?_⟩
  have e : mm_sL (mm_sI (mm_sI (mm_sI ms 64 0 num) 65 0 (nI (b / 25))) 66 0 (ms.1 56 k - 1)) 67 0 w = thrS ms num w := by
    unfold thrS
    rw [n50, show k + 1 - 1 = k by omega, hn]
  rw [e]
  refine X4_raiseLoop (κ := mm_k1 g 1 h M0 none (F_raise ms num w)) (rb_dpk (by decide)) (k + 1) (thrS ms num w) (by omega) h50 (fun j hj => hb j (by omega)) ?_ _
  unfold F_raise
  rw [n50]
  exact ⟨rfl, rfl⟩
theorem X4_enter {b : Nat} {o p m t : Int32} {v : Int64} (hb : b < 600) (h50 : iB (ms.1 50 0) 40) (h68 : iB (ms.1 68 0) 60) : mm_C g yX4_enter wX4_enter 1 h M0 ms [.ref h, .int (nI b), .int o, .int p, .int m, .int t, .long v] none (F_enter ms b o p m t v) := by
  obtain ⟨e50, l50⟩ := h50.n (by decide)
  obtain ⟨e68, l68⟩ := h68.n (by decide)
  have n50 : nN ms 50 0 = (ms.1 50 0).toNatClampNeg := rfl
  generalize hk : nN ms 50 0 = k at e50 l50 n50
  generalize hj : nN ms 68 0 = j at e68 l68
  have ediv : nI b / 25 = nI (b / 25) := pk_div (by omega) (by decide) (by decide)
  have erem : nI b - nI b / 25 * 25 = nI (b % 25) := pk_rem (d := 25) (by omega) (by decide) (by decide)
  have erem2 : nI (b % 25) - nI (b % 25) / 12 * 12 = nI (b % 25 % 12) := pk_rem (d := 12) (by omega) (by decide) (by decide)
  have hc : (nI k).toNatClampNeg = k := nI_clamp (by omega)
  have hcj : (nI j).toNatClampNeg = j := nI_clamp (by omega)
  have e24 : nI (b % 25) = 24 ↔ b % 25 = 24 := nI_eq (by omega) (b := 24) (by decide)
  refine rb_Ct.of (by decide) (Nat.le_of_ble_eq_true rfl) rfl ?_
  refine sgX4_enter_0 ?_
  rw [e50, e68, hc, hcj, erem, erem2, ediv, nI_1, nI_1]
  unfold F_enter
  rw [hk, hj]
  constructor
  · intro h40
    have k40 : k ≠ 40 := fun q => h40 (by rw [q]; rfl)
    have hv : vp_in (nI k) 40 := vp_in_nI (by omega) (by decide)
    rw [if_neg k40]
    refine ⟨hv, hv, hv, hv, hv, hv, hv, hv, hv, fun z => ?_, fun z => ?_⟩
    · have : ¬ j < 60 := fun q => absurd z (nI_ge (b := 60) q (by decide))
      rw [if_neg this]
      exact ⟨rfl, rfl⟩
    · have hj60 : j < 60 := by
        rw [show (60 : Int32) = nI 60 from rfl, nI_ltI (by omega) (by decide)] at z
        exact z
      have hvj : vp_in (nI j) 60 := vp_in_nI hj60 (by decide)
      rw [if_pos hj60]
      refine ⟨hvj, fun z2 => ?_, fun z2 => ?_⟩
      · have hb24 : b % 25 ≠ 24 := fun q => z2 (e24.mpr q)
        have q68 : (mm_sI (F_ent0 ms k (nI b) o p m t v) 69 j (nI (b / 25))).1 68 0 = nI j := e68
        have q50 : (mm_sI (F_ent0 ms k (nI b) o p m t v) 69 j (nI (b / 25))).1 50 0 = nI (k + 1) := by
          rw [mm_sI_ne (by decide)]
          exact mm_sI_0
        refine ⟨_, mm_sI (F_ent0 ms k (nI b) o p m t v) 69 j (nI (b / 25)), _, X4_isGivenC (by omega), rb_dpk (by decide), ?_⟩
        rw [q68, q50, hcj, nI_1]
        refine ⟨fun z3 => ⟨hvj, fun _ => ⟨hvj, hvj, rfl, ?_⟩, fun q => absurd (e24.mp q) hb24⟩, fun z3 => ⟨hvj, fun _ => ⟨hvj, hvj, rfl, ?_⟩, fun q => absurd (e24.mp q) hb24⟩⟩
        · unfold F_note buse bmem
          rw [if_neg hb24, if_neg hb24, if_neg (bz_0.mp z3)]
        · unfold F_note buse bmem
          rw [if_neg hb24, if_neg hb24, if_pos (bz_1.mp z3)]
      · have hb24 : b % 25 = 24 := e24.mp z2
        refine ⟨hvj, fun q => absurd z2 q, fun _ => ⟨hvj, hvj, rfl, ?_⟩⟩
        unfold F_note F_ent0 buse bmem
        rw [if_pos hb24, if_pos hb24]
  · intro h40
    have k40 : k = 40 := (nI_eq (by omega) (by decide)).mp h40
    rw [if_pos k40]
    exact ⟨rfl, rfl⟩
end R1
