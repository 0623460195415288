set_option maxRecDepth 100000
/-! weaving: what is lacking, in the model -/
/-- one of a chain is given -/
def hasG (c : List Nat) : Prop := ∃ k, k < c.length ∧ c.getD k 0 % 25 < 12
/-- the place of a given body in its chain -/
def plc (c : List Nat) (p m : Nat) (x : Int32) : Prop := isL (fun k => c.getD k 0 = 25 * p + (12 * 0 + m)) c.length x
/-- the i-th of the line wishes for m, and none gives it -/
def lk (ms : mm_S) (C : Nat → List Nat) (l : List Nat) (i m : Nat) : Prop := ms.1 6 (12 * l.getD i 0 + m) ≠ 0 ∧ ¬ hasG (C m)
/-- the name a stands for what is not there -/
def alBad (ms : mm_S) (C : Nat → List Nat) (a : Nat) : Prop := ms.1 23 a ≠ 0 ∧ plc (C (nN ms 22 a)) (nN ms 21 a) (nN ms 22 a) (-9)
def alRes (ms : mm_S) (C : Nat → List Nat) (R : Nat) (ms' : mm_S) (a : Nat) : Prop := (ms.1 23 a = 0 ∧ ms'.1 30 (4 * R + a) = -9) ∨ (ms.1 23 a ≠ 0 ∧ ms'.1 30 (4 * R + a) = ms.1 22 a ∧ ∃ t, t < (C (nN ms 22 a)).length ∧ plc (C (nN ms 22 a)) (nN ms 21 a) (nN ms 22 a) (nI t) ∧ ms'.1 31 (4 * R + a) = nI t)
section W7
variable {g : rb_G} {M0 : rb_H} {h : Nat}
theorem X4_hasLoop {ms : mm_S} {R m : Nat} {c : List Nat} {κ : rb_K} (hR : R < 24) (hm : m < 12) (hc : rowC ms (12 * R + m) c) (hn : c.length ≤ 48) (hb : ∀ b, b ∈ c → b < 600) (hd : rb_dp κ 0) (hP : κ.2.2.1 (.returned (some (.int (bz (hasG c))))) (mm_H h ms M0)) : ∀ d j, j + d = c.length → ∀ x, x = bz (∃ k, k < j ∧ c.getD k 0 % 25 < 12) → rb_Bd κ mX4_hasGiven (0, 0) (mm_H h ms M0) 13 [some (.ref h), some (.int (nI R)), some (.int (nI m)), some (.int x), some (.int (nI (12 * R + m))), some (.int (nI j))] [] := by
  intro d
  induction d with
  | zero =>
    intro j hj x hx
    obtain rfl : j = c.length := by omega
    refine sgX4_hasGiven_13 ?_
    rw [nI_clamp (by omega), hc.1]
    exact ⟨vp_in_nI (N := 288) (by omega) (by decide), fun _ => ⟨by rw [hx]; exact bz_nar, by rw [hx]; exact hP⟩, fun q => absurd q (nI_nlt (Nat.le_refl _) (by omega))⟩
  | succ d ih =>
    intro j hj x hx
    have hno : x = 0 → ¬ (c.getD j 0 % 25 < 12) → (0 : Int32) = bz (∃ k, k < j + 1 ∧ c.getD k 0 % 25 < 12) := by
      intro h0 hne
      rw [bz_f]
      rintro ⟨w, h1, h2⟩
      rcases Nat.lt_or_ge w j with r | r
      · exact (bz_0.mp (hx.symm.trans h0)) ⟨w, r, h2⟩
      · obtain rfl : w = j := by omega
        exact hne h2
    have hbj := hb _ (getD_mem c j (by omega))
    refine sgX4_hasGiven_13 ?_
    rw [nI_clamp (by omega), hc.1, ix48, nI_clamp (by omega), hc.2 j (by omega), nI_1]
    refine ⟨vp_in_nI (N := 288) (by omega) (by decide), fun q => absurd q (nI_ge (by omega) (by omega)), fun _ => ⟨fun h1 => ?_, fun h1 => ⟨vp_in_nI (N := 13824) (by omega) (by decide), _, _, _, X4_isGivenC (by omega), hd, fun h2 => ih (j + 1) (by omega) 0 (hno h1 (bz_0.mp h2)), fun h2 => ih (j + 1) (by omega) 1 ?_⟩⟩⟩
    · refine ih (j + 1) (by omega) 1 ?_
      rw [hx, bz_1] at h1
      obtain ⟨w, r1, r2⟩ := h1
      rw [bz_t ⟨w, by omega, r2⟩]
    · rw [bz_t ⟨j, by omega, bz_1.mp h2⟩]
theorem X4_hasGiven {ms : mm_S} {R m : Nat} {c : List Nat} (hR : R < 24) (hm : m < 12) (hc : rowC ms (12 * R + m) c) (hn : c.length ≤ 48) (hb : ∀ b, b ∈ c → b < 600) : mm_C g yX4_hasGiven wX4_hasGiven 1 h M0 ms [.ref h, .int (nI R), .int (nI m)] (some (.int (bz (hasG c)))) ms := by
  refine rb_Ct.of (by decide) (Nat.le_of_ble_eq_true rfl) rfl ?_
  refine sgX4_hasGiven_0 ?_
  rw [ix12]
  refine X4_hasLoop (κ := mm_k1 g 1 h M0 (some (.int (bz (hasG c)))) ms) hR hm hc hn hb (rb_dpk (by decide)) ⟨rfl, rfl⟩ c.length 0 (by omega) 0 ?_
  rw [bz_f]
  rintro ⟨k, hk, -⟩; omega
theorem X4_placeLoop {ms : mm_S} {R p m : Nat} {c : List Nat} {κ : rb_K} (hR : R < 24) (hm : m < 12) (hp : p < 24) (hc : rowC ms (12 * R + m) c) (hn : c.length ≤ 48) (hb : ∀ b, b ∈ c → b < 600) (hd : rb_dp κ 0) (hP : ∀ x, plc c p m x → κ.2.2.1 (.returned (some (.int x))) (mm_H h ms M0)) : ∀ d j, j + d = c.length → (∀ k, k < j → ¬ c.getD k 0 = 25 * p + (12 * 0 + m)) → rb_Bd κ mX4_chainPlace (0, 0) (mm_H h ms M0) 11 [some (.ref h), some (.int (nI R)), some (.int (nI p)), some (.int (nI m)), some (.int (nI (12 * R + m))), some (.int (nI j))] [] := by
  intro d
  induction d with
  | zero =>
    intro j hj hno
    obtain rfl : j = c.length := by omega
    refine sgX4_chainPlace_11 ?_
    rw [nI_clamp (by omega), hc.1]
    exact ⟨vp_in_nI (N := 288) (by omega) (by decide), fun _ => hP _ (Or.inl ⟨rfl, hno⟩), fun q => absurd q (nI_nlt (Nat.le_refl _) (by omega))⟩
  | succ d ih =>
    intro j hj hno
    have hbj := hb _ (getD_mem c j (by omega))
    refine sgX4_chainPlace_11 ?_
    rw [nI_clamp (by omega), hc.1, ix48, nI_clamp (by omega), hc.2 j (by omega), nI_1]
    refine ⟨vp_in_nI (N := 288) (by omega) (by decide), fun q => absurd q (nI_ge (by omega) (by omega)), fun _ => ⟨vp_in_nI (N := 13824) (by omega) (by decide), _, _, _, X4_bodyOf, hd, ?_⟩⟩
    rw [bo0, nI_eq (by omega) (by omega)]
    refine ⟨fun h1 => ih (j + 1) (by omega) (fun k hk => ?_), fun h1 => hP _ (Or.inr ⟨j, by omega, h1, hno, rfl⟩)⟩
    rcases Nat.lt_or_ge k j with r | r
    · exact hno k r
    · obtain rfl : k = j := by omega
      exact h1
theorem X4_chainPlace {ms : mm_S} {R p m : Nat} {c : List Nat} {x : Int32} (hR : R < 24) (hm : m < 12) (hp : p < 24) (hc : rowC ms (12 * R + m) c) (hn : c.length ≤ 48) (hb : ∀ b, b ∈ c → b < 600) (hx : plc c p m x) : mm_C g yX4_chainPlace wX4_chainPlace 1 h M0 ms [.ref h, .int (nI R), .int (nI p), .int (nI m)] (some (.int x)) ms := by
  refine rb_Ct.of (by decide) (Nat.le_of_ble_eq_true rfl) rfl ?_
  refine sgX4_chainPlace_0 ?_
  rw [ix12]
  refine X4_placeLoop (κ := mm_k1 g 1 h M0 (some (.int x)) ms) hR hm hp hc hn hb (rb_dpk (by decide)) ?_ c.length 0 (by omega) (fun k hk => by omega)
  intro y hy
  exact ⟨by rw [isL_uniq hx hy], rfl⟩
theorem X4_lkIn {ms : mm_S} {κ : rb_K} {R i M : Nat} {C : Nat → List Nat} {l : List Nat} (hR : R < 24) (hp : l.getD i 0 < 24) (hC : ∀ m, m < 12 → rowC ms (12 * R + m) (C m) ∧ (C m).length ≤ 48 ∧ ∀ b, b ∈ C m → b < 600) (hM : M ≤ 12) (hno : ∀ m, m < M → ¬ lk ms C l i m) (hd : rb_dp κ 1) (hk : rb_Bd κ mX4_lacksAny (0, 0) (mm_H h ms M0) 27 [some (.ref h), some (.int (nI R)), some (.int (nI i)), some (.int (nI (l.getD i 0))), some (.int (nI M))] []) : ∀ d j, j + d = M → rb_Bd κ mX4_lacksAny (0, 0) (mm_H h ms M0) 27 [some (.ref h), some (.int (nI R)), some (.int (nI i)), some (.int (nI (l.getD i 0))), some (.int (nI j))] [] := by
  intro d
  induction d with
  | zero => intro j hj; obtain rfl : j = M := by omega
            exact hk
  | succ d ih =>
    intro j hj
    obtain ⟨c1, c2, c3⟩ := hC j (by omega)
    refine sgX4_lacksAny_27 ?_
    rw [ix12, nI_clamp (by omega)]
    simp only [nI_1]
    refine ⟨fun q => absurd q (nI_ge (b := 12) (by omega) (by omega)), fun _ => ⟨vp_in_nI (N := 288) (by omega) (by decide), fun _ => ih (j + 1) (by omega), fun h1 => ⟨_, _, _, X4_hasGiven hR (by omega) c1 c2 c3, hd, fun _ => ih (j + 1) (by omega), fun h2 => absurd ⟨h1, bz_0.mp h2⟩ (hno j (by omega))⟩⟩⟩
theorem X4_lkHit {ms : mm_S} {κ : rb_K} {R i j : Nat} {C : Nat → List Nat} {l : List Nat} (hR : R < 24) (hp : l.getD i 0 < 24) (hC : ∀ m, m < 12 → rowC ms (12 * R + m) (C m) ∧ (C m).length ≤ 48 ∧ ∀ b, b ∈ C m → b < 600) (hj : j < 12) (hy : lk ms C l i j) (hd : rb_dp κ 1) (hP : κ.2.2.1 (.returned (some (.int 1))) (mm_H h (mm_sI (mm_sI ms 35 0 (nI (l.getD i 0))) 36 0 (nI j)) M0)) : rb_Bd κ mX4_lacksAny (0, 0) (mm_H h ms M0) 27 [some (.ref h), some (.int (nI R)), some (.int (nI i)), some (.int (nI (l.getD i 0))), some (.int (nI j))] [] := by
  obtain ⟨c1, c2, c3⟩ := hC j (by omega)
  refine sgX4_lacksAny_27 ?_
  rw [ix12, nI_clamp (by omega), nI_1]
  refine ⟨fun q => absurd q (nI_ge (b := 12) (by omega) (by omega)), fun _ => ⟨vp_in_nI (N := 288) (by omega) (by decide), fun q => absurd q hy.1, fun h1 => ⟨_, _, _, X4_hasGiven hR (by omega) c1 c2 c3, hd, fun h2 => absurd (bz_1.mp h2) hy.2, fun _ => hP⟩⟩⟩
theorem X4_lkOut {ms : mm_S} {κ : rb_K} {R N : Nat} {C : Nat → List Nat} {l : List Nat} (hR : R < 24) (hl : rowL ms R l) (hn : l.length ≤ 24) (hp : ∀ p, p ∈ l → p < 24) (hC : ∀ m, m < 12 → rowC ms (12 * R + m) (C m) ∧ (C m).length ≤ 48 ∧ ∀ b, b ∈ C m → b < 600) (hN : N ≤ l.length) (hno : ∀ i m, i < N → m < 12 → ¬ lk ms C l i m) (hd : rb_dp κ 1) (hk : rb_Bd κ mX4_lacksAny (0, 0) (mm_H h ms M0) 2 [some (.ref h), some (.int (nI R)), some (.int (nI N)), none, none] []) : ∀ d j, j + d = N → rb_Bd κ mX4_lacksAny (0, 0) (mm_H h ms M0) 2 [some (.ref h), some (.int (nI R)), some (.int (nI j)), none, none] [] := by
  intro d
  induction d with
  | zero => intro j hj; obtain rfl : j = N := by omega
            exact hk
  | succ d ih =>
    intro j hj
    refine sgX4_lacksAny_2 ?_
    rw [nI_clamp (by omega), hl.1, ix24, nI_clamp (by omega), hl.2 j (by omega)]
    refine ⟨vp_in_nI (N := 24) (by omega) (by decide), fun q => absurd q (nI_ge (by omega) (by omega)), fun _ => ⟨vp_in_nI (N := 576) (by omega) (by decide), ?_⟩⟩
    refine X4_lkIn (C := C) hR (hp _ (getD_mem l j (by omega))) hC (Nat.le_refl 12) (fun m hm => hno j m (by omega) hm) hd ?_ 12 0 rfl
    refine sgX4_lacksAny_27 ⟨fun _ => ?_, fun q => absurd q (by decide)⟩
    rw [nI_1]
    exact rb_weak (by simp [rb_wk]) (ih (j + 1) (by omega))
theorem X4_lkAl {ms0 : mm_S} {R : Nat} {C : Nat → List Nat} (hR : R < 24) (hA : ∀ a, a < 4 → ms0.1 23 a = 0 ∨ (ms0.1 23 a = 1 ∧ ∃ p m, p < nN ms0 0 0 ∧ m < 12 ∧ ms0.1 21 a = nI p ∧ ms0.1 22 a = nI m)) (hP0 : nN ms0 0 0 ≤ 24) (hC : ∀ m, m < 12 → rowC ms0 (12 * R + m) (C m) ∧ (C m).length ≤ 48 ∧ ∀ b, b ∈ C m → b < 600) : ∀ d a, a + d = 4 → ∀ ms : mm_S, sameX [30, 31] ms0 ms → ∃ x ms', low R ms ms' ∧ (∀ b, b < a → ms'.1 30 (4 * R + b) = ms.1 30 (4 * R + b) ∧ ms'.1 31 (4 * R + b) = ms.1 31 (4 * R + b)) ∧
      ((x = 1 ∧ sameX [30, 31, 35, 36] ms0 ms' ∧ ∃ b, a ≤ b ∧ b < 4 ∧ alBad ms0 C b ∧ (∀ c, a ≤ c → c < b → ¬ alBad ms0 C c) ∧ ms'.1 35 0 = ms0.1 21 b ∧ ms'.1 36 0 = ms0.1 22 b) ∨ (x = 0 ∧ sameX [30, 31] ms0 ms' ∧ ∀ b, a ≤ b → b < 4 → ¬ alBad ms0 C b ∧ alRes ms0 C R ms' b)) ∧
      ∀ κ : rb_K, rb_dp κ 1 → κ.2.2.1 (.returned (some (.int x))) (mm_H h ms' M0) → rb_Bd κ mX4_lacksAny (0, 0) (mm_H h ms M0) 86 [some (.ref h), some (.int (nI R)), some (.int (nI a)), none, none] [] := by
  intro d
  induction d with
  | zero =>
    intro a ha ms hs
    obtain rfl : a = 4 := by omega
    exact ⟨0, ms, .refl, fun _ _ => ⟨rfl, rfl⟩, Or.inr ⟨rfl, hs, fun b h1 h2 => by omega⟩, fun κ _ hP => sgX4_lacksAny_86 ⟨fun _ => hP, fun q => absurd q (by decide)⟩⟩
  | succ d ih =>
    intro a ha ms hs
    have hs1 : sameX [30, 31] ms0 (mm_sI ms 30 (4 * R + a) (-9)) := hs.trans (.sI (by decide))
    have hlow1 : low R ms (mm_sI ms 30 (4 * R + a) (-9)) := .sI (by show 4 * R ≤ _; omega)
    have v30 : vp_in (nI (4 * R + a)) (mm_l 30) := vp_in_nI (N := 96) (by omega) (by decide)
    have v31 : vp_in (nI (4 * R + a)) (mm_l 31) := vp_in_nI (N := 96) (by omega) (by decide)
    have v23 : vp_in (nI a) (mm_l 23) := vp_in_nI (N := 4) (by omega) (by decide)
    have v21 : vp_in (nI a) (mm_l 21) := vp_in_nI (N := 4) (by omega) (by decide)
    have v22 : vp_in (nI a) (mm_l 22) := vp_in_nI (N := 4) (by omega) (by decide)
    have e30 : ∀ (ms : mm_S) v b, b ≠ a → (mm_sI ms 30 (4 * R + a) v).1 30 (4 * R + b) = ms.1 30 (4 * R + b) := by
      intro ms v b hb
      rw [mm_sI_k]
      simp only [va_up, if_neg (show ¬ 4 * R + b = 4 * R + a by omega)]
    have e31 : ∀ (ms : mm_S) v b, b ≠ a → (mm_sI ms 31 (4 * R + a) v).1 31 (4 * R + b) = ms.1 31 (4 * R + b) := by
      intro ms v b hb
      rw [mm_sI_k]
      simp only [va_up, if_neg (show ¬ 4 * R + b = 4 * R + a by omega)]
    rcases hA a (by omega) with h0 | ⟨h1, p, m, hp, hm, e21, e22⟩
    · obtain ⟨x, ms', k1, k2, k3, k4⟩ := ih (a + 1) (by omega) _ hs1
      refine ⟨x, ms', hlow1.trans k1, fun b hb => ?_, ?_, fun κ hd hP => sgX4_lacksAny_86 ⟨fun q => absurd q (nI_ge (b := 4) (by omega) (by omega)), fun _ => ?_⟩⟩
      · rw [(k2 b (by omega)).1, (k2 b (by omega)).2, e30 _ _ _ (by omega), mm_sI_ne (by decide)]
        exact ⟨rfl, rfl⟩
      · rcases k3 with ⟨rfl, z1, b, b1, b2, b3, b4, b5⟩ | ⟨rfl, z1, z2⟩
        · refine Or.inl ⟨rfl, z1, b, by omega, b2, b3, fun c c1 c2 => ?_, b5⟩
          rcases Nat.lt_or_ge a c with r | r
          · exact b4 c r c2
          · obtain rfl : c = a := by omega
            exact fun q => q.1 h0
        · refine Or.inr ⟨rfl, z1, fun b b1 b2 => ?_⟩
          rcases Nat.lt_or_ge a b with r | r
          · exact z2 b r b2
          · obtain rfl : b = a := by omega
            refine ⟨fun q => q.1 h0, Or.inl ⟨h0, ?_⟩⟩
            rw [(k2 b (by omega)).1, mm_sI_k, va_up_self]
      · rw [ix4, nI_clamp (by omega), nI_clamp (by omega), nI_1, hs.2 23 (by decide)]
        exact ⟨v30, v23, fun _ => k4 κ hd hP, fun q => absurd h0 q⟩
    · have n21 : nN ms0 21 a = p := by unfold nN; rw [e21, nI_clamp (by omega)]
      have n22 : nN ms0 22 a = m := by unfold nN; rw [e22, nI_clamp (by omega)]
      have hne : ms0.1 23 a ≠ 0 := by rw [h1]; decide
      obtain ⟨x, hx⟩ := isL_ex (fun k => (C m).getD k 0 = 25 * p + (12 * 0 + m)) (C m).length
      have hx' : plc (C m) p m x := hx
      obtain ⟨c1, c2, c3⟩ := hC m hm
      have c1' : rowC (mm_sI ms 30 (4 * R + a) (-9)) (12 * R + m) (C m) := by
        unfold rowC
        rw [hs1.2 28 (by decide), hs1.2 29 (by decide)]
        exact c1
      have call : ∀ κ : rb_K, mm_C κ.1 yX4_chainPlace wX4_chainPlace 1 h M0 (mm_sI ms 30 (4 * R + a) (-9)) [.ref h, .int (nI R), .int (nI p), .int (nI m)] (some (.int x)) (mm_sI ms 30 (4 * R + a) (-9)) := fun κ => X4_chainPlace hR hm (by omega) c1' c2 c3 hx'
      rcases hx with ⟨rfl, -⟩ | ⟨t, t1, t2, t3, rfl⟩
      · refine ⟨1, mm_sI (mm_sI (mm_sI ms 30 (4 * R + a) (-9)) 35 0 (nI p)) 36 0 (nI m), ?_, fun b hb => ?_, Or.inl ⟨rfl, ?_, a, Nat.le_refl _, by omega, ⟨hne, by rw [n21, n22]; exact hx'⟩, fun c c1 c2 => by omega, ?_, ?_⟩, fun κ hd hP => sgX4_lacksAny_86 ⟨fun q => absurd q (nI_ge (b := 4) (by omega) (by omega)), fun _ => ?_⟩⟩
        · exact (hlow1.trans (.sI (by show 0 * R ≤ _; omega))).trans (.sI (by show 0 * R ≤ _; omega))
        · rw [mm_sI_ne (by decide), mm_sI_ne (by decide), e30 _ _ _ (by omega), mm_sI_ne (by decide), mm_sI_ne (by decide), mm_sI_ne (by decide)]
          exact ⟨rfl, rfl⟩
        · exact sameX.trans (sameX.trans (hs1.mono (by decide)) (.sI (by decide))) (.sI (by decide))
        · rw [mm_sI_ne (by decide), mm_sI_k, va_up_self, e21]
        · rw [mm_sI_k, va_up_self, e22]
        · rw [ix4, nI_clamp (by omega), nI_clamp (by omega), nI_1, hs.2 23 (by decide), hs.2 21 (by decide), hs.2 22 (by decide), e21, e22]
          refine ⟨v30, v23, fun q => absurd q hne, fun _ => ⟨v21, v22, _, _, _, call κ, hd, fun q => absurd q (by decide), fun _ => ⟨v21, v22, ?_⟩⟩⟩
          rw [hs1.2 21 (by decide), hs1.2 22 (by decide), e21, e22]
          exact hP
      · have hs2 : sameX [30, 31] ms0 (mm_sI (mm_sI (mm_sI ms 30 (4 * R + a) (-9)) 30 (4 * R + a) (nI m)) 31 (4 * R + a) (nI t)) := (hs1.trans (.sI (by decide))).trans (.sI (by decide))
        have hlow2 : low R ms (mm_sI (mm_sI (mm_sI ms 30 (4 * R + a) (-9)) 30 (4 * R + a) (nI m)) 31 (4 * R + a) (nI t)) := (hlow1.trans (.sI (by show 4 * R ≤ _; omega))).trans (.sI (by show 4 * R ≤ _; omega))
        obtain ⟨x, ms', k1, k2, k3, k4⟩ := ih (a + 1) (by omega) _ hs2
        have nb : ¬ alBad ms0 C a := by
          intro q
          have := q.2
          rw [n21, n22] at this
          have e := isL_uniq this hx'
          have := nI_pos' (n := t) (by omega)
          rw [← e] at this
          exact absurd this (by decide)
        refine ⟨x, ms', hlow2.trans k1, fun b hb => ?_, ?_, fun κ hd hP => sgX4_lacksAny_86 ⟨fun q => absurd q (nI_ge (b := 4) (by omega) (by omega)), fun _ => ?_⟩⟩
        · rw [(k2 b (by omega)).1, (k2 b (by omega)).2, mm_sI_ne (by decide), e30 _ _ _ (by omega), e30 _ _ _ (by omega), e31 _ _ _ (by omega), mm_sI_ne (by decide), mm_sI_ne (by decide)]
          exact ⟨rfl, rfl⟩
        · rcases k3 with ⟨rfl, z1, b, b1, b2, b3, b4, b5⟩ | ⟨rfl, z1, z2⟩
          · refine Or.inl ⟨rfl, z1, b, by omega, b2, b3, fun c c1 c2 => ?_, b5⟩
            rcases Nat.lt_or_ge a c with r | r
            · exact b4 c r c2
            · obtain rfl : c = a := by omega
              exact nb
          · refine Or.inr ⟨rfl, z1, fun b b1 b2 => ?_⟩
            rcases Nat.lt_or_ge a b with r | r
            · exact z2 b r b2
            · obtain rfl : b = a := by omega
              refine ⟨nb, Or.inr ⟨hne, ?_, t, ?_, ?_, ?_⟩⟩
              · rw [(k2 b (by omega)).1, mm_sI_ne (by decide), mm_sI_k, va_up_self, e22]
              · rw [n22]; exact t1
              · rw [n21, n22]; exact hx'
              · rw [(k2 b (by omega)).2, mm_sI_k, va_up_self]
        · rw [ix4, nI_clamp (by omega), nI_clamp (by omega), nI_1, hs.2 23 (by decide), hs.2 21 (by decide), hs.2 22 (by decide), e21, e22]
          refine ⟨v30, v23, fun q => absurd q hne, fun _ => ⟨v21, v22, _, _, _, call κ, hd, fun _ => ⟨v22, v30, v31, ?_⟩, fun q => absurd q (nI_pos (by omega))⟩⟩
          rw [hs1.2 22 (by decide), e22]
          exact rb_weak (by simp [rb_wk]) (k4 κ hd hP)
/-- what is lacking first: the wish m of the i-th of the line -/
def lkAt (ms : mm_S) (C : Nat → List Nat) (l : List Nat) (i m : Nat) : Prop := i < l.length ∧ m < 12 ∧ lk ms C l i m ∧ (∀ i' m', i' < i → m' < 12 → ¬ lk ms C l i' m') ∧ ∀ m', m' < m → ¬ lk ms C l i m'
theorem lkAt_ex {ms : mm_S} {C : Nat → List Nat} {l : List Nat} : (∃ i m, lkAt ms C l i m) ∨ ∀ i m, i < l.length → m < 12 → ¬ lk ms C l i m := by
  by_cases e : ∃ i, i < l.length ∧ ∃ m, m < 12 ∧ lk ms C l i m
  · obtain ⟨i, hi, hm⟩ := e
    obtain ⟨i', h1, ⟨m, h2, h3⟩, h4⟩ := leastN (P := fun i => ∃ m, m < 12 ∧ lk ms C l i m) i hm
    obtain ⟨m', k1, k2, k3⟩ := leastN (P := fun m => lk ms C l i' m) m h3
    exact Or.inl ⟨i', m', by omega, by omega, k2, fun a b c d e => h4 a c ⟨b, d, e⟩, k3⟩
  · exact Or.inr fun i m h1 h2 h3 => e ⟨i, h1, m, h2, h3⟩
theorem X4_lacksAny {ms : mm_S} {R : Nat} {C : Nat → List Nat} {l : List Nat} (hR : R < 24) (hl : rowL ms R l) (hn : l.length ≤ 24) (hp : ∀ p, p ∈ l → p < 24) (hA : ∀ a, a < 4 → ms.1 23 a = 0 ∨ (ms.1 23 a = 1 ∧ ∃ p m, p < nN ms 0 0 ∧ m < 12 ∧ ms.1 21 a = nI p ∧ ms.1 22 a = nI m)) (hP0 : nN ms 0 0 ≤ 24) (hC : ∀ m, m < 12 → rowC ms (12 * R + m) (C m) ∧ (C m).length ≤ 48 ∧ ∀ b, b ∈ C m → b < 600) :
    (∃ i m ms', lkAt ms C l i m ∧ ms' = mm_sI (mm_sI ms 35 0 (nI (l.getD i 0))) 36 0 (nI m) ∧ mm_C g yX4_lacksAny wX4_lacksAny 2 h M0 ms [.ref h, .int (nI R)] (some (.int 1)) ms') ∨
    ((∀ i m, i < l.length → m < 12 → ¬ lk ms C l i m) ∧ ∃ x ms', low R ms ms' ∧ ((x = 1 ∧ sameX [30, 31, 35, 36] ms ms' ∧ ∃ b, b < 4 ∧ alBad ms C b ∧ (∀ c, c < b → ¬ alBad ms C c) ∧ ms'.1 35 0 = ms.1 21 b ∧ ms'.1 36 0 = ms.1 22 b) ∨ (x = 0 ∧ sameX [30, 31] ms ms' ∧ ∀ b, b < 4 → ¬ alBad ms C b ∧ alRes ms C R ms' b)) ∧ mm_C g yX4_lacksAny wX4_lacksAny 2 h M0 ms [.ref h, .int (nI R)] (some (.int x)) ms') := by
  rcases lkAt_ex (ms := ms) (C := C) (l := l) with ⟨i, m, hlk⟩ | hno
  · refine Or.inl ⟨i, m, _, hlk, rfl, ?_⟩
    obtain ⟨k1, k2, k3, k4, k5⟩ := hlk
    refine rb_Ct.of (by decide) (Nat.le_of_ble_eq_true rfl) rfl ?_
    refine sgX4_lacksAny_0 (X4_lkOut (C := C) hR hl hn hp hC (Nat.le_of_lt k1) k4 (rb_dpk (by decide)) ?_ i 0 (Nat.zero_add _))
    refine sgX4_lacksAny_2 ?_
    rw [nI_clamp (by omega), hl.1, ix24, nI_clamp (by omega), hl.2 i k1]
    refine ⟨vp_in_nI (N := 24) (by omega) (by decide), fun q => absurd q (nI_ge (by omega) (by omega)), fun _ => ⟨vp_in_nI (N := 576) (by omega) (by decide), ?_⟩⟩
    have hpi := hp _ (getD_mem l i k1)
    exact X4_lkIn (C := C) hR hpi hC (Nat.le_of_lt k2) k5 (rb_dpk (by decide)) (X4_lkHit (C := C) hR hpi hC k2 k3 (rb_dpk (by decide)) ⟨rfl, rfl⟩) m 0 (Nat.zero_add _)
  · obtain ⟨x, ms', h1, -, h3, h4⟩ := X4_lkAl (M0 := M0) (h := h) hR hA hP0 hC 4 0 rfl ms .refl
    refine Or.inr ⟨hno, x, ms', h1, ?_, ?_⟩
    · rcases h3 with ⟨z0, z1, b, -, b2, b3, b4, b5⟩ | ⟨z0, z1, z2⟩
      · exact Or.inl ⟨z0, z1, b, b2, b3, fun c c2 => b4 c (by omega) c2, b5⟩
      · exact Or.inr ⟨z0, z1, fun b hb => z2 b (by omega) hb⟩
    · refine rb_Ct.of (by decide) (Nat.le_of_ble_eq_true rfl) rfl ?_
      refine sgX4_lacksAny_0 (X4_lkOut (C := C) hR hl hn hp hC (Nat.le_refl _) hno (rb_dpk (by decide)) ?_ l.length 0 (Nat.zero_add _))
      refine sgX4_lacksAny_2 ?_
      rw [nI_clamp (by omega), hl.1]
      exact ⟨vp_in_nI (N := 24) (by omega) (by decide), fun _ => h4 _ (rb_dpk (by decide)) ⟨rfl, rfl⟩, fun q => absurd q (nI_nlt (Nat.le_refl _) (by omega))⟩
end W7
