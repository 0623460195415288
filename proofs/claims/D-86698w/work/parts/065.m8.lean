set_option maxRecDepth 100000
/-! the digest -/
def dgF (f : Nat → Int64) : Nat → Int64 → Int64
  | 0, x => x
  | n + 1, x => 31 * dgF f n x + f n
def rwV (ms : mm_S) (y : Nat) : Int64 := (if ms.1 43 y < 0 then (-1 : Int32) else ms.1 43 y).toInt64
def rwF (ms : mm_S) (s : Nat) : Nat → Int64 → Int64
  | 0, x => x
  | k + 1, x => dgF (fun j => ms.2 44 (12 * (2 * s + k) + j)) (nN ms 43 (2 * s + k)) (31 * rwF ms s k x + rwV ms (2 * s + k))
def mixF (ms : mm_S) (s p : Nat) (x : Int64) : Int64 := dgF (fun k => (ms.1 45 (2 * s + k)).toInt64) (nN ms 3 p) (rwF ms s (nN ms 2 p) (dgF (fun k => ms.2 42 (4 * s + k)) (nN ms 1 p) x))
noncomputable def rlF (ms : mm_S) : Nat → Int64
  | 0 => 17
  | r + 1 => dgF (fun i => (ms.1 32 (24 * stepF ms r (i + 1) + i)).toInt64) (nN ms 25 r) (dgF (fun i => (ms.1 26 (24 * r + i)).toInt64) (nN ms 25 r) (rlF ms r))
def plF (ms : mm_S) (o : Nat) : Nat → Int64 → Int64
  | 0, x => x
  | i + 1, x => mixF ms (24 * o + i) (nN ms 26 (24 * nN ms 41 o + i)) (plF ms o i x)
def obF (ms : mm_S) : Nat → Int64 → Int64
  | 0, x => x
  | o + 1, x => plF ms o (nN ms 25 (nN ms 41 o)) (31 * obF ms o x + (ms.1 41 o).toInt64)
noncomputable def F_digest (ms : mm_S) : Int64 := dgF (ms.2 46) 8 (obF ms (nN ms 40 0) (rlF ms (nN ms 24 0)))
section M8
variable {g : rb_G} {M0 : rb_H} {h : Nat} {ms : mm_S} {B : Nat}
theorem X4_mix4 {κ : rb_K} {s p : Nat} {a1 x : Int64} {a3 a4 : Int32} (hp : p < 24) (hs : s < 2424) (hc : iB (ms.1 3 p) 2) (hP : κ.2.2.1 (.returned (some (.long (dgF (fun k => (ms.1 45 (2 * s + k)).toInt64) (nN ms 3 p) x)))) (mm_H h ms M0)) :
    ∀ d j, j + d = nN ms 3 p → rb_Bd κ mX4_mixed (0, 0) (mm_H h ms M0) 161 [some (.ref h), some (.long a1), none, some (.int a3), some (.int a4), some (.int (nI p)), some (.long (dgF (fun k => (ms.1 45 (2 * s + k)).toInt64) j x)), none, some (.int (nI s)), some (.int (nI j)), none, none] [] := by
  have e := hc.n (by decide)
  intro d
  induction d with
  | zero =>
    intro j hj
    obtain rfl : j = nN ms 3 p := by omega
    refine sgX4_mixed_161 ?_
    rw [nI_clamp (by omega), e.1]
    exact ⟨vp_in_nI (N := 24) hp (by decide), fun _ => hP, fun q => absurd q (nI_nlt (Nat.le_refl _) (by omega))⟩
  | succ d ih =>
    intro j hj
    refine sgX4_mixed_161 ?_
    rw [nI_clamp (by omega), e.1]
    refine ⟨vp_in_nI (N := 24) hp (by decide), fun q => absurd q (nI_ge (by omega) (by omega)), fun _ => ?_⟩
    rw [ix2, nI_1, nI_clamp (by omega)]
    exact ⟨vp_in_nI (N := 4848) (by omega) (by decide), ih (j + 1) (by omega)⟩
theorem X4_mix3 {κ : rb_K} {s p y k : Nat} {a1 x : Int64} {a3 a4 : Int32} (hy : y < 4848) (hc : iN (ms.1 43 y) 12)
    (hP : rb_Bd κ mX4_mixed (0, 0) (mm_H h ms M0) 57 [some (.ref h), some (.long a1), none, some (.int a3), some (.int a4), some (.int (nI p)), some (.long (dgF (fun j => ms.2 44 (12 * y + j)) (nN ms 43 y) x)), none, some (.int (nI s)), some (.int (nI (k + 1))), none, none] []) :
    ∀ d j, j + d = nN ms 43 y → rb_Bd κ mX4_mixed (0, 0) (mm_H h ms M0) 112 [some (.ref h), some (.long a1), none, some (.int a3), some (.int a4), some (.int (nI p)), some (.long (dgF (fun j => ms.2 44 (12 * y + j)) j x)), none, some (.int (nI s)), some (.int (nI k)), some (.int (nI y)), some (.int (nI j))] [] := by
  have hle : nN ms 43 y ≤ 12 := by
    rcases hc with q | q
    · rw [nN, q]; decide
    · exact (q.n (by decide)).2
  have hge : ∀ j, nN ms 43 y ≤ j → j < 2 ^ 31 → ms.1 43 y ≤ nI j := by
    intro j hj hj2
    rcases hc with q | q
    · rw [q]; exact Int32.le_trans (by decide) (nI_pos' hj2)
    · rw [(q.n (by decide)).1]; exact (nI_leI (by omega) hj2).mpr hj
  intro d
  induction d with
  | zero =>
    intro j hj
    obtain rfl : j = nN ms 43 y := by omega
    refine sgX4_mixed_112 ?_
    rw [nI_clamp (by omega), nI_1]
    exact ⟨vp_in_nI (N := 4848) hy (by decide), fun _ => rb_weak (by simp [rb_wk]) hP, fun q => absurd (hge _ (Nat.le_refl _) (by omega)) (Int32.not_le.mpr q)⟩
  | succ d ih =>
    intro j hj
    have hB : iB (ms.1 43 y) 12 := by
      rcases hc with q | q
      · exfalso
        have : nN ms 43 y = 0 := by rw [nN, q]; decide
        omega
      · exact q
    have e := hB.n (by decide)
    refine sgX4_mixed_112 ?_
    rw [nI_clamp (by omega), ix12, nI_clamp (by omega), e.1]
    simp only [nI_1]
    exact ⟨vp_in_nI (N := 4848) hy (by decide), fun q => absurd q (nI_ge (by omega) (by omega)), fun _ => ⟨vp_in_nI (N := 58176) (by omega) (by decide), ih (j + 1) (by omega)⟩⟩
theorem X4_mix2 {κ : rb_K} {s p : Nat} {a1 x : Int64} {a3 a4 : Int32} (hp : p < 24) (hs : s < 2424) (hc : iB (ms.1 2 p) 2) (hr : ∀ k, k < nN ms 2 p → iN (ms.1 43 (2 * s + k)) 12)
    (hP : rb_Bd κ mX4_mixed (0, 0) (mm_H h ms M0) 161 [some (.ref h), some (.long a1), none, some (.int a3), some (.int a4), some (.int (nI p)), some (.long (rwF ms s (nN ms 2 p) x)), none, some (.int (nI s)), some (.int 0), none, none] []) :
    ∀ d j, j + d = nN ms 2 p → rb_Bd κ mX4_mixed (0, 0) (mm_H h ms M0) 57 [some (.ref h), some (.long a1), none, some (.int a3), some (.int a4), some (.int (nI p)), some (.long (rwF ms s j x)), none, some (.int (nI s)), some (.int (nI j)), none, none] [] := by
  have e := hc.n (by decide)
  intro d
  induction d with
  | zero =>
    intro j hj
    obtain rfl : j = nN ms 2 p := by omega
    refine sgX4_mixed_57 ?_
    rw [nI_clamp (by omega), e.1]
    exact ⟨vp_in_nI (N := 24) hp (by decide), fun _ => hP, fun q => absurd q (nI_nlt (Nat.le_refl _) (by omega))⟩
  | succ d ih =>
    intro j hj
    refine sgX4_mixed_57 ?_
    rw [nI_clamp (by omega), ix2, nI_clamp (by omega)]
    have hv : vp_in (nI (2 * s + j)) (mm_l 43) := vp_in_nI (N := 4848) (by omega) (by decide)
    refine ⟨vp_in_nI (N := 24) hp (by decide), fun q => absurd q (by rw [e.1]; exact nI_ge (by omega) (by omega)), fun _ => ⟨hv, fun q => ⟨hv, ?_⟩, fun q => ?_⟩⟩
    · have ev : (ms.1 43 (2 * s + j)).toInt64 = rwV ms (2 * s + j) := by rw [rwV, if_neg (Int32.not_lt.mpr q)]
      rw [ev]
      exact X4_mix3 (by omega) (hr j (by omega)) (ih (j + 1) (by omega)) (nN ms 43 (2 * s + j)) 0 (by omega)
    · have ev : ((-1 : Int32)).toInt64 = rwV ms (2 * s + j) := by rw [rwV, if_pos q]
      rw [ev]
      exact X4_mix3 (by omega) (hr j (by omega)) (ih (j + 1) (by omega)) (nN ms 43 (2 * s + j)) 0 (by omega)
theorem X4_mix1 {κ : rb_K} {s p : Nat} {a1 x : Int64} {a3 a4 : Int32} (hp : p < 24) (hs : s < 2424) (hc : iB (ms.1 1 p) 4)
    (hP : rb_Bd κ mX4_mixed (0, 0) (mm_H h ms M0) 57 [some (.ref h), some (.long a1), none, some (.int a3), some (.int a4), some (.int (nI p)), some (.long (dgF (fun k => ms.2 42 (4 * s + k)) (nN ms 1 p) x)), none, some (.int (nI s)), some (.int 0), none, none] []) :
    ∀ d j, j + d = nN ms 1 p → rb_Bd κ mX4_mixed (0, 0) (mm_H h ms M0) 15 [some (.ref h), some (.long a1), none, some (.int a3), some (.int a4), some (.int (nI p)), some (.long (dgF (fun k => ms.2 42 (4 * s + k)) j x)), none, some (.int (nI s)), some (.int (nI j)), none, none] [] := by
  have e := hc.n (by decide)
  intro d
  induction d with
  | zero =>
    intro j hj
    obtain rfl : j = nN ms 1 p := by omega
    refine sgX4_mixed_15 ?_
    rw [nI_clamp (by omega), e.1]
    exact ⟨vp_in_nI (N := 24) hp (by decide), fun _ => hP, fun q => absurd q (nI_nlt (Nat.le_refl _) (by omega))⟩
  | succ d ih =>
    intro j hj
    refine sgX4_mixed_15 ?_
    rw [nI_clamp (by omega), e.1]
    refine ⟨vp_in_nI (N := 24) hp (by decide), fun q => absurd q (nI_ge (by omega) (by omega)), fun _ => ?_⟩
    rw [ix4, nI_1, nI_clamp (by omega)]
    exact ⟨vp_in_nI (N := 9696) (by omega) (by decide), ih (j + 1) (by omega)⟩
theorem X4_mixed {o i p : Nat} {x : Int64} (I : Inv B ms) (ho : o < nN ms 40 0) (hi : i < nN ms 25 (nN ms 41 o)) (hp : p < nN ms 0 0) : mm_C g yX4_mixed wX4_mixed 0 h M0 ms [.ref h, .long x, .int (nI o), .int (nI i), .int (nI p)] (some (.long (mixF ms (24 * o + i) p x))) ms := by
  have hpn := I.pn
  have hon := I.on
  have hl := I.ln (I.ro ho).2
  refine rb_Ct.of (by decide) (Nat.le_of_ble_eq_true rfl) rfl ?_
  refine sgX4_mixed_0 ?_
  rw [ix24]
  have c2 := (I.pt hp).2.1.n (by decide)
  refine X4_mix1 (x := x) (by omega) (by omega) (I.pt hp).1 ?_ (nN ms 1 p) 0 (by omega)
  refine X4_mix2 (x := dgF (fun k => ms.2 42 (4 * (24 * o + i) + k)) (nN ms 1 p) x) (by omega) (by omega) (I.pt hp).2.1 (fun k hk => I.rw ho hi (by omega)) ?_ (nN ms 2 p) 0 (by omega)
  refine X4_mix4 (x := rwF ms (24 * o + i) (nN ms 2 p) (dgF (fun k => ms.2 42 (4 * (24 * o + i) + k)) (nN ms 1 p) x)) (by omega) (by omega) (I.pt hp).2.2.1 ?_ (nN ms 3 p) 0 (by omega)
  exact ⟨rfl, rfl⟩
theorem X4_dg6 {κ : rb_K} {x : Int64} (hP : κ.2.2.1 (.returned (some (.long (dgF (ms.2 46) 8 x)))) (mm_H h ms M0)) : ∀ d j, j + d = 8 → rb_Bd κ mX4_digest (0, 0) (mm_H h ms M0) 178 [some (.ref h), some (.long (dgF (ms.2 46) j x)), none, some (.int (nI j)), none] [] := by
  intro d
  induction d with
  | zero =>
    intro j hj
    obtain rfl : j = 8 := by omega
    exact sgX4_digest_178 ⟨fun _ => hP, fun q => absurd q (by decide)⟩
  | succ d ih =>
    intro j hj
    refine sgX4_digest_178 ⟨fun q => absurd q (nI_ge (b := 8) (by omega) (by decide)), fun _ => ?_⟩
    rw [nI_1, nI_clamp (by omega)]
    exact ⟨vp_in_nI (N := 8) (by omega) (by decide), ih (j + 1) (by omega)⟩
theorem X4_dg5 {κ : rb_K} {o : Nat} {x : Int64} (I : Inv B ms) (hd : rb_dp κ 0) (ho : o < nN ms 40 0)
    (hP : rb_Bd κ mX4_digest (0, 0) (mm_H h ms M0) 97 [some (.ref h), some (.long (plF ms o (nN ms 25 (nN ms 41 o)) x)), none, some (.int (nI (o + 1))), none] []) :
    ∀ d j, j + d = nN ms 25 (nN ms 41 o) → rb_Bd κ mX4_digest (0, 0) (mm_H h ms M0) 122 [some (.ref h), some (.long (plF ms o j x)), none, some (.int (nI o)), some (.int (nI j))] [] := by
  have hpn := I.pn
  have hon := I.on
  have hrn := I.rn
  have er := I.ro ho
  have hl := I.ln er.2
  have hvo : vp_in (nI o) (mm_l 41) := vp_in_nI (N := 101) (by omega) (by decide)
  have hvr : vp_in (ms.1 41 o) (mm_l 25) := by rw [er.1]; exact vp_in_nI (N := 24) (by omega) (by decide)
  have e0 : (ms.1 41 o).toNatClampNeg = nN ms 41 o := rfl
  intro d
  induction d with
  | zero =>
    intro j hj
    obtain rfl : j = nN ms 25 (nN ms 41 o) := by omega
    refine sgX4_digest_122 ?_
    rw [nI_clamp (show o < 2 ^ 31 by omega), e0, nI_1]
    refine ⟨hvo, hvr, fun _ => rb_weak (by simp [rb_wk]) hP, fun q => absurd q ?_⟩
    rw [hl.1]
    exact nI_nlt (Nat.le_refl _) (by omega)
  | succ d ih =>
    intro j hj
    refine sgX4_digest_122 ?_
    have e1 : (24 : Int32) * ms.1 41 o + nI j = nI (24 * nN ms 41 o + j) := by rw [er.1, ix24]
    rw [nI_clamp (show o < 2 ^ 31 by omega), e0, e1, nI_clamp (show 24 * nN ms 41 o + j < 2 ^ 31 by omega)]
    simp only [nI_1]
    refine ⟨hvo, hvr, fun q => absurd q ?_, fun _ => ⟨hvo, vp_in_nI (N := 576) (by omega) (by decide), ?_⟩⟩
    · rw [hl.1]
      exact nI_ge (by omega) (by omega)
    · obtain ⟨p, hp, ep⟩ := (I.role er.2).2.1 j (by omega)
      have ep2 : nN ms 26 (24 * nN ms 41 o + j) = p := by rw [nN, ep, nI_clamp (by omega)]
      have hM := X4_mixed (g := κ.1) (M0 := M0) (h := h) (x := plF ms o j x) I ho (show j < _ by omega) hp
      rw [← ep] at hM
      refine ⟨_, _, _, hM, hd, ?_⟩
      have := ih (j + 1) (by omega)
      simp only [plF, ep2] at this
      exact this
theorem X4_dg4 {κ : rb_K} {x : Int64} (I : Inv B ms) (hd : rb_dp κ 0)
    (hP : rb_Bd κ mX4_digest (0, 0) (mm_H h ms M0) 178 [some (.ref h), some (.long (obF ms (nN ms 40 0) x)), none, some (.int 0), none] []) :
    ∀ d j, j + d = nN ms 40 0 → rb_Bd κ mX4_digest (0, 0) (mm_H h ms M0) 97 [some (.ref h), some (.long (obF ms j x)), none, some (.int (nI j)), none] [] := by
  have hon := I.on
  intro d
  induction d with
  | zero =>
    intro j hj
    obtain rfl : j = nN ms 40 0 := by omega
    refine sgX4_digest_97 ⟨fun _ => hP, fun q => absurd q ?_⟩
    rw [hon.1]
    exact nI_nlt (Nat.le_refl _) (by omega)
  | succ d ih =>
    intro j hj
    refine sgX4_digest_97 ⟨fun q => absurd q ?_, fun _ => ⟨vp_in_nI (N := 101) (by omega) (by decide), ?_⟩⟩
    · rw [hon.1]
      exact nI_ge (by omega) (by omega)
    · rw [nI_clamp (by omega)]
      exact X4_dg5 (x := 31 * obF ms j x + (ms.1 41 j).toInt64) I hd (by omega) (ih (j + 1) (by omega)) (nN ms 25 (nN ms 41 j)) 0 (by omega)
theorem X4_dg3 {κ : rb_K} {r : Nat} {x : Int64} (I : Inv B ms) (hd : rb_dp κ 2) (hr : r < nN ms 24 0)
    (hP : rb_Bd κ mX4_digest (0, 0) (mm_H h ms M0) 6 [some (.ref h), some (.long (dgF (fun i => (ms.1 32 (24 * stepF ms r (i + 1) + i)).toInt64) (nN ms 25 r) x)), none, some (.int (nI (r + 1))), none] []) :
    ∀ d j, j + d = nN ms 25 r → rb_Bd κ mX4_digest (0, 0) (mm_H h ms M0) 57 [some (.ref h), some (.long (dgF (fun i => (ms.1 32 (24 * stepF ms r (i + 1) + i)).toInt64) j x)), none, some (.int (nI r)), some (.int (nI j))] [] := by
  have hrn := I.rn
  have hl := I.ln hr
  intro d
  induction d with
  | zero =>
    intro j hj
    obtain rfl : j = nN ms 25 r := by omega
    refine sgX4_digest_57 ?_
    rw [nI_clamp (by omega), nI_1, hl.1]
    exact ⟨vp_in_nI (N := 24) (by omega) (by decide), fun _ => rb_weak (by simp [rb_wk]) hP, fun q => absurd q (nI_nlt (Nat.le_refl _) (by omega))⟩
  | succ d ih =>
    intro j hj
    refine sgX4_digest_57 ?_
    rw [nI_clamp (by omega), hl.1]
    simp only [nI_1]
    exact ⟨vp_in_nI (N := 24) (by omega) (by decide), fun q => absurd q (nI_ge (by omega) (by omega)), fun _ => ⟨_, _, _, X4_startedAt (by omega) (by omega) (fun o ho => I.L (by omega)), hd, ih (j + 1) (by omega)⟩⟩
theorem X4_dg2 {κ : rb_K} {r : Nat} {x : Int64} (I : Inv B ms) (hr : r < nN ms 24 0)
    (hP : rb_Bd κ mX4_digest (0, 0) (mm_H h ms M0) 57 [some (.ref h), some (.long (dgF (fun i => (ms.1 26 (24 * r + i)).toInt64) (nN ms 25 r) x)), none, some (.int (nI r)), some (.int 0)] []) :
    ∀ d j, j + d = nN ms 25 r → rb_Bd κ mX4_digest (0, 0) (mm_H h ms M0) 17 [some (.ref h), some (.long (dgF (fun i => (ms.1 26 (24 * r + i)).toInt64) j x)), none, some (.int (nI r)), some (.int (nI j))] [] := by
  have hrn := I.rn
  have hl := I.ln hr
  intro d
  induction d with
  | zero =>
    intro j hj
    obtain rfl : j = nN ms 25 r := by omega
    refine sgX4_digest_17 ?_
    rw [nI_clamp (show r < 2 ^ 31 by omega), hl.1]
    exact ⟨vp_in_nI (N := 24) (by omega) (by decide), fun _ => hP, fun q => absurd q (nI_nlt (Nat.le_refl _) (by omega))⟩
  | succ d ih =>
    intro j hj
    refine sgX4_digest_17 ?_
    rw [nI_clamp (show r < 2 ^ 31 by omega), ix24, nI_1, hl.1, nI_clamp (show 24 * r + j < 2 ^ 31 by omega)]
    exact ⟨vp_in_nI (N := 24) (by omega) (by decide), fun q => absurd q (nI_ge (by omega) (by omega)), fun _ => ⟨vp_in_nI (N := 576) (by omega) (by decide), ih (j + 1) (by omega)⟩⟩
theorem X4_dg1 {κ : rb_K} (I : Inv B ms) (hd : rb_dp κ 2)
    (hP : rb_Bd κ mX4_digest (0, 0) (mm_H h ms M0) 97 [some (.ref h), some (.long (rlF ms (nN ms 24 0))), none, some (.int 0), none] []) :
    ∀ d j, j + d = nN ms 24 0 → rb_Bd κ mX4_digest (0, 0) (mm_H h ms M0) 6 [some (.ref h), some (.long (rlF ms j)), none, some (.int (nI j)), none] [] := by
  have hrn := I.rn
  intro d
  induction d with
  | zero =>
    intro j hj
    obtain rfl : j = nN ms 24 0 := by omega
    refine sgX4_digest_6 ⟨fun _ => hP, fun q => absurd q ?_⟩
    rw [hrn.1]
    exact nI_nlt (Nat.le_refl _) (by omega)
  | succ d ih =>
    intro j hj
    refine sgX4_digest_6 ⟨fun q => absurd q ?_, fun _ => ?_⟩
    · rw [hrn.1]
      exact nI_ge (by omega) (by omega)
    · refine X4_dg2 (x := rlF ms j) I (by omega) ?_ (nN ms 25 j) 0 (by omega)
      exact X4_dg3 (x := dgF (fun i => (ms.1 26 (24 * j + i)).toInt64) (nN ms 25 j) (rlF ms j)) I hd (by omega) (ih (j + 1) (by omega)) (nN ms 25 j) 0 (by omega)
theorem X4_digest (I : Inv B ms) : mm_C g yX4_digest wX4_digest 3 h M0 ms [.ref h] (some (.long (F_digest ms))) ms := by
  refine rb_Ct.of (by decide) (Nat.le_of_ble_eq_true rfl) rfl ?_
  refine sgX4_digest_0 (X4_dg1 I (rb_dpk (by decide)) ?_ (nN ms 24 0) 0 (by omega))
  refine X4_dg4 (x := rlF ms (nN ms 24 0)) I (rb_dpk (by decide)) ?_ (nN ms 40 0) 0 (by omega)
  refine X4_dg6 (x := obF ms (nN ms 40 0) (rlF ms (nN ms 24 0))) ?_ 8 0 (by omega)
  exact ⟨rfl, rfl⟩
end M8
