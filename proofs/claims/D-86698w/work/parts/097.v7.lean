set_option maxRecDepth 100000
/-! weaving, the class's side: who is next -/
section V7
variable {g : rb_G} {ms ms0 : mm_S} {ad : aD} {h : Nat} {B : Nat} {κ : rb_K} {M : rb_H} {fI fB : Nat → Int32}
theorem X0_aheadLoop (hκ : κ.1 = g) (I : Inv B ms) (W : WS g ms ad h ms0 M fI fB) {q : Nat} (hd : rb_dp κ 0) (hz : rb_rom κ (0, 0)) (hf : rb_fin κ (0, 0)) (K : ∀ x, isL (fun p => fI p ≠ 0 ∧ bt (fB p) q) (nN ms 0 0) x → κ.2.2.1 (.returned (some (.int x))) M) :
    ∀ d j, j + d = nN ms 0 0 → (∀ p, p < j → ¬ (fI p ≠ 0 ∧ bt (fB p) q)) → rb_Bd κ mX0_aheadOf (0, 0) M 2 [some (.ref (ad 0 0)), some (.int (nI q)), some (.int (nI j))] [] := by
  subst hκ
  have hP0 := I.pn
  obtain ⟨sg, hm⟩ := W.1.main
  have hl := W.1.ls 0 0 (by decide) rfl
  intro d
  induction d with
  | zero =>
    intro j hj hno
    obtain rfl : j = nN ms 0 0 := by omega
    exact sgX0_aheadOf_2 ⟨_, ⟨_, hm, rfl⟩, rb_isR_ref _, _, rfl, uIo (J4_size hl) hd hz hl.ob ⟨fun _ => ⟨hf, K _ (Or.inl ⟨rfl, hno⟩)⟩, fun r => absurd r (nI_nlt (Nat.le_refl _) (by omega))⟩⟩
  | succ d ih =>
    intro j hj hno
    have hjj : j < nN ms 0 0 := by omega
    have step : ¬ (fI j ≠ 0 ∧ bt (fB j) q) → rb_Bd κ mX0_aheadOf (0, 0) M 2 [some (.ref (ad 0 0)), some (.int (nI q)), some (.int (nI (j + 1)))] [] := by
      intro hne
      refine ih (j + 1) (by omega) fun p hp => ?_
      rcases Nat.lt_or_ge p j with r | r
      · exact hno p r
      · obtain rfl : p = j := by omega
        exact hne
    have v24 : vp_in (nI j) 24 := vp_in_nI (by omega) (by decide)
    refine sgX0_aheadOf_2 ⟨_, ⟨_, hm, rfl⟩, rb_isR_ref _, _, rfl, uIo (J4_size hl) hd hz hl.ob ⟨fun r => absurd r (nI_ge hjj (show nN ms 0 0 < 2 ^ 31 by omega)), fun _ => ⟨_, ⟨_, hm, rfl⟩, rb_isR_ref _, _, rfl, 24, fI, _, W.2.1, v24, rfl, ?_⟩⟩⟩
    rw [nI_clamp (by omega), nI_1]
    refine ⟨fun h1 => step (fun r => r.1 h1), fun h1 => ⟨_, ⟨_, hm, rfl⟩, rb_isR_ref _, _, rfl, 24, fB, _, W.2.2, v24, rfl, ?_⟩⟩
    exact ⟨fun h2 => step (fun r => h2 r.2), fun h2 => ⟨hf, K _ (Or.inr ⟨j, hjj, ⟨h1, h2⟩, hno, rfl⟩)⟩⟩
theorem X0_aheadOf (I : Inv B ms) (W : WS g ms ad h ms0 M fI fB) {q : Nat} {x : Int32} (hx : isL (fun p => fI p ≠ 0 ∧ bt (fB p) q) (nN ms 0 0) x) : rb_Ct g yX0_aheadOf wX0_aheadOf 1 (0, 0) [.ref (ad 0 0), .int (nI q)] M (qr (some (.int x)) M) := by
  refine rb_Ct.of (by decide) (Nat.le_of_ble_eq_true rfl) rfl ?_
  refine sgX0_aheadOf_0 (X0_aheadLoop (κ := (g, rb_rm 1 (0, 0), qr (some (.int x)) M, (0, 0))) rfl I W (rb_dpk (by decide)) zr zf (fun y hy => ?_) (nN ms 0 0) 0 (Nat.zero_add _) (fun p hp => by omega))
  exact ⟨by rw [isL_uniq hx hy], rfl⟩
/-- isIn is L (what is left, of those that are in) -/
def LfI (ms : mm_S) (L : Nat → Prop) (fI : Nat → Int32) : Prop := isZ fI ∧ (∀ q, q < 24 → (fI q ≠ 0 ↔ L q)) ∧ ∀ q, L q → Cl ms q
theorem la_bt {L : Nat → Prop} (D : Dr ms) (hL : LfI ms L fI) (hO : ordB ms fB) {p : Nat} (hp : Cl ms p) : ∀ q, q < nN ms 0 0 → ((fI q ≠ 0 ∧ bt (fB q) p) ↔ la ms (Cl ms) L p q) := by
  intro q hq
  have hP := D.P
  unfold la
  rw [hL.2.1 q (by omega)]
  constructor
  · rintro ⟨h1, h2⟩
    exact ⟨h1, (hO q p (hL.2.2 q h1) hp).mp h2⟩
  · rintro ⟨h1, h2⟩
    exact ⟨h1, (hO q p (hL.2.2 q h1) hp).mpr h2⟩
theorem X0_aheadL {L : Nat → Prop} (I : Inv B ms) (W : WS g ms ad h ms0 M fI fB) (hL : LfI ms L fI) (hO : ordB ms fB) {p : Nat} {x : Int32} (hp : Cl ms p) (hx : isL (la ms (Cl ms) L p) (nN ms 0 0) x) : rb_Ct g yX0_aheadOf wX0_aheadOf 1 (0, 0) [.ref (ad 0 0), .int (nI p)] M (qr (some (.int x)) M) :=
  X0_aheadOf I W (isL_congr (fun q hq => (la_bt I.dr hL hO hp q hq).symm) hx)
theorem X0_nextLoop {L : Nat → Prop} (hκ : κ.1 = g) (I : Inv B ms) (W : WS g ms ad h ms0 M fI fB) (hL : LfI ms L fI) (hO : ordB ms fB) (hd : rb_dp κ 1) (hz : rb_rom κ (0, 0)) (hf : rb_fin κ (0, 0)) (K : ∀ x, isL (nx ms (Cl ms) L) (nN ms 0 0) x → κ.2.2.1 (.returned (some (.int x))) M) :
    ∀ d j, j + d = nN ms 0 0 → (∀ p, p < j → ¬ nx ms (Cl ms) L p) → rb_Bd κ mX0_nextInLine (0, 0) M 2 [some (.ref (ad 0 0)), some (.int (nI j))] [] := by
  subst hκ
  have hP0 := I.pn
  obtain ⟨sg, hm⟩ := W.1.main
  have hl := W.1.ls 0 0 (by decide) rfl
  intro d
  induction d with
  | zero =>
    intro j hj hno
    obtain rfl : j = nN ms 0 0 := by omega
    exact sgX0_nextInLine_2 ⟨_, ⟨_, hm, rfl⟩, rb_isR_ref _, _, rfl, uIo (J4_size hl) (rb_dp_le hd (by decide)) hz hl.ob ⟨fun _ => ⟨hf, K _ (Or.inl ⟨rfl, hno⟩)⟩, fun r => absurd r (nI_nlt (Nat.le_refl _) (by omega))⟩⟩
  | succ d ih =>
    intro j hj hno
    have hjj : j < nN ms 0 0 := by omega
    have step : ¬ nx ms (Cl ms) L j → rb_Bd κ mX0_nextInLine (0, 0) M 2 [some (.ref (ad 0 0)), some (.int (nI (j + 1)))] [] := by
      intro hne
      refine ih (j + 1) (by omega) fun p hp => ?_
      rcases Nat.lt_or_ge p j with r | r
      · exact hno p r
      · obtain rfl : p = j := by omega
        exact hne
    have v24 : vp_in (nI j) 24 := vp_in_nI (by omega) (by decide)
    refine sgX0_nextInLine_2 ⟨_, ⟨_, hm, rfl⟩, rb_isR_ref _, _, rfl, uIo (J4_size hl) (rb_dp_le hd (by decide)) hz hl.ob ⟨fun r => absurd r (nI_ge hjj (show nN ms 0 0 < 2 ^ 31 by omega)), fun _ => ⟨_, ⟨_, hm, rfl⟩, rb_isR_ref _, _, rfl, 24, fI, _, W.2.1, v24, rfl, ?_⟩⟩⟩
    rw [nI_clamp (by omega)]
    simp only [nI_1]
    refine ⟨fun h1 => step (fun r => (hL.2.1 j (by omega)).mpr r.1 h1), fun h1 => ?_⟩
    have lj := (hL.2.1 j (by omega)).mp h1
    obtain ⟨x, hx⟩ := isL_ex (la ms (Cl ms) L j) (nN ms 0 0)
    refine uIo (X0_aheadL I W hL hO (hL.2.2 j lj) hx) hd hz W.1.ob0 ?_
    rcases hx with ⟨rfl, k2⟩ | ⟨p, k1, k2, -, rfl⟩
    · exact ⟨fun r => absurd rfl r, fun _ => ⟨hf, K _ (Or.inr ⟨j, hjj, ⟨lj, k2⟩, hno, rfl⟩)⟩⟩
    · refine ⟨fun _ => step (fun r => r.2 p k1 k2), fun r => ?_⟩
      have := nI_pos' (n := p) (by omega)
      rw [r] at this
      exact absurd this (by decide)
theorem X0_nextInLine {L : Nat → Prop} (I : Inv B ms) (W : WS g ms ad h ms0 M fI fB) (hL : LfI ms L fI) (hO : ordB ms fB) {x : Int32} (hx : isL (nx ms (Cl ms) L) (nN ms 0 0) x) : rb_Ct g yX0_nextInLine wX0_nextInLine 2 (0, 0) [.ref (ad 0 0)] M (qr (some (.int x)) M) := by
  refine rb_Ct.of (by decide) (Nat.le_of_ble_eq_true rfl) rfl ?_
  refine sgX0_nextInLine_0 (X0_nextLoop (κ := (g, rb_rm 2 (0, 0), qr (some (.int x)) M, (0, 0))) rfl I W hL hO (rb_dpk (by decide)) zr zf (fun y hy => ?_) (nN ms 0 0) 0 (Nat.zero_add _) (fun p hp => by omega))
  exact ⟨by rw [isL_uniq hx hy], rfl⟩
theorem X0_anyLoop (hκ : κ.1 = g) (W : WS g ms ad h ms0 M fI fB) (hZ : isZ fI) (hf : rb_fin κ (0, 0)) (K : κ.2.2.1 (.returned (some (.int (bz (∃ q, q < 24 ∧ fI q ≠ 0))))) M) :
    ∀ d j, j + d = 24 → ∀ x, x = bz (∃ q, q < j ∧ fI q ≠ 0) → rb_Bd κ mX0_isAnyLeft (0, 0) M 4 [some (.ref (ad 0 0)), some (.int x), some (.int (nI j))] [] := by
  subst hκ
  obtain ⟨sg, hm⟩ := W.1.main
  intro d
  induction d with
  | zero =>
    intro j hj x hx
    obtain rfl : j = 24 := by omega
    exact sgX0_isAnyLeft_4 ⟨fun _ => ⟨by rw [hx]; exact bz_nar, hf, by rw [hx]; exact K⟩, fun q => absurd q (by decide)⟩
  | succ d ih =>
    intro j hj x hx
    refine sgX0_isAnyLeft_4 ⟨fun q => absurd q (nI_ge (b := 24) (by omega) (by omega)), fun _ => ⟨_, ⟨_, hm, rfl⟩, rb_isR_ref _, _, rfl, 24, fI, _, W.2.1, vp_in_nI (by omega) (by decide), rfl, ?_⟩⟩
    rw [nI_clamp (by omega), nI_1]
    refine ih (j + 1) (by omega) _ ?_
    by_cases e : ∃ q, q < j ∧ fI q ≠ 0
    · rw [hx, bz_t e]
      obtain ⟨q, q1, q2⟩ := e
      rw [bz_t ⟨q, by omega, q2⟩]
      rcases hZ j (by omega) with r | r <;> rw [r] <;> decide
    · rw [hx, bz_f e]
      rcases hZ j (by omega) with r | r
      · rw [r, bz_f]
        · decide
        · rintro ⟨q, q1, q2⟩
          rcases Nat.lt_or_ge q j with z | z
          · exact e ⟨q, z, q2⟩
          · obtain rfl : q = j := by omega
            exact q2 r
      · rw [r, bz_t ⟨j, by omega, by rw [r]; decide⟩]
        decide
theorem X0_isAnyLeft (W : WS g ms ad h ms0 M fI fB) (hZ : isZ fI) : rb_Ct g yX0_isAnyLeft wX0_isAnyLeft 0 (0, 0) [.ref (ad 0 0)] M (qr (some (.int (bz (∃ q, q < 24 ∧ fI q ≠ 0)))) M) := by
  refine rb_Ct.of (by decide) (Nat.le_of_ble_eq_true rfl) rfl ?_
  refine sgX0_isAnyLeft_0 (X0_anyLoop (κ := (g, rb_rm 0 (0, 0), qr (some (.int (bz (∃ q, q < 24 ∧ fI q ≠ 0)))) M, (0, 0))) rfl W hZ zf ⟨rfl, rfl⟩ 24 0 rfl 0 ?_)
  rw [bz_f]
  rintro ⟨q, hq, -⟩; omega
end V7
