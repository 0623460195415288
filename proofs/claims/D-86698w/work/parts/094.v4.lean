set_option maxRecDepth 100000
/-! weaving, the class's side: layOrder's loops (1) -/
section V4
variable {g : rb_G} {ms ms0 : mm_S} {ad : aD} {h : Nat} {B : Nat} {κ : rb_K} {N1 : Nat}
def bits (f : Nat → Int32) (Q : Nat → Nat → Prop) : Prop := ∀ a b, a < 24 → b < 24 → (bt (f a) b ↔ Q a b)
theorem X0_lay2 (hκ : κ.1 = g) (K : ∀ M fI fB, WS g ms ad h ms0 M fI fB → M.1 = N1 → (∀ i, i < 24 → fI i = 0 ∧ fB i = 0) → rb_Bd κ mX0_layOrder (0, 0) M 30 [some (.ref (ad 0 0)), some (.int 0), none, none, none] []) :
    ∀ d j, j + d = 24 → ∀ M fI fB, WS g ms ad h ms0 M fI fB → M.1 = N1 → (∀ i, i < j → fI i = 0 ∧ fB i = 0) → rb_Bd κ mX0_layOrder (0, 0) M 2 [some (.ref (ad 0 0)), some (.int (nI j)), none, none, none] [] := by
  subst hκ
  intro d
  induction d with
  | zero =>
    intro j hj M fI fB W hM h0
    obtain rfl : j = 24 := by omega
    exact sgX0_layOrder_2 ⟨fun _ => K M fI fB W hM h0, fun q => absurd q (by decide)⟩
  | succ d ih =>
    intro j hj M fI fB W hM h0
    obtain ⟨sg, hm⟩ := W.1.main
    have W1 := W.setI (f := va_up fI j 0)
    obtain ⟨sg1, hm1⟩ := W1.1.main
    have W2 := W1.setB (f := va_up fB j 0)
    have v24 : vp_in (nI j) 24 := vp_in_nI (by omega) (by decide)
    refine sgX0_layOrder_2 ⟨fun q => absurd q (nI_ge (b := 24) (by omega) (by omega)), fun _ => ⟨_, ⟨_, hm, rfl⟩, rb_isR_ref _, _, rfl, 24, fI, W.2.1, v24, rfl, ?_⟩⟩
    rw [nI_clamp (by omega), nI_1]
    refine ⟨_, ⟨_, hm1, rfl⟩, rb_isR_ref _, _, rfl, 24, fB, W1.2.2, v24, ?_⟩
    refine ih (j + 1) (by omega) _ _ _ W2 hM (fun i hi => ?_)
    by_cases e : i = j
    · rw [e, va_up_self, va_up_self]; exact ⟨rfl, rfl⟩
    · simp only [va_up, if_neg e]; exact h0 i (by omega)
/-- the names told so far: all those below k, and the k-th with those below i -/
def QN (ms : mm_S) (k i a b : Nat) : Prop := (∃ x y, x < y ∧ y < k ∧ nN ms 17 x = a ∧ nN ms 17 y = b) ∨ ∃ x, x < i ∧ nN ms 17 x = a ∧ nN ms 17 k = b
theorem X0_lay58 (hκ : κ.1 = g) (I : Inv B ms) {k : Nat} {fI : Nat → Int32} (hk : k < nN ms 16 0) (hd : rb_dp κ 2) (hz : rb_rom κ (0, 0)) (K : ∀ M fB, WS g ms ad h ms0 M fI fB → M.1 = N1 → bits fB (QN ms k k) → rb_Bd κ mX0_layOrder (0, 0) M 30 [some (.ref (ad 0 0)), some (.int (nI (k + 1))), none, none, none] []) :
    ∀ d i, i + d = k → ∀ M fB, WS g ms ad h ms0 M fI fB → M.1 = N1 → bits fB (QN ms k i) → rb_Bd κ mX0_layOrder (0, 0) M 58 [some (.ref (ad 0 0)), some (.int (nI k)), some (.int (nI i)), none, none] [] := by
  subst hκ
  have D := I.dr
  have hP0 := I.pn
  have hN := D.N
  intro d
  induction d with
  | zero =>
    intro i hi M fB W hM hb
    obtain rfl : i = k := by omega
    refine sgX0_layOrder_58 ⟨fun _ => ?_, fun q => absurd q (nI_nlt (Nat.le_refl _) (by omega))⟩
    rw [nI_1]
    exact rb_weak (by simp [rb_wk]) (K M fB W hM hb)
  | succ d ih =>
    intro i hi M fB W hM hb
    obtain ⟨sg, hm⟩ := W.1.main
    have hl := W.1.ls 3 0 (by decide) rfl
    have ni := D.nm (k := i) (by omega)
    have nk := D.nm hk
    have hG1 : rb_Ct κ.1 yJ4_get wJ4_get 2 (0, 0) [.ref (ad 23 0), .int (nI i)] M (qr (some (.ref (ad 4 (nN ms 17 i)))) M) := J4_get hl (show i < nN ms 16 0 by omega)
    have hG2 : rb_Ct κ.1 yJ4_get wJ4_get 2 (0, 0) [.ref (ad 23 0), .int (nI k)] M (qr (some (.ref (ad 4 (nN ms 17 k)))) M) := J4_get hl (show k < nN ms 16 0 by omega)
    refine sgX0_layOrder_58 ⟨fun q => absurd q (nI_ge (by omega) (by omega)), fun _ => ⟨_, ⟨_, hm, rfl⟩, rb_isR_ref _, _, rfl, uRo hG1 hd hz hl.ob ⟨_, rfl, 5, W.1.obP ni.1, cc_5, _, ⟨_, hm, rfl⟩, rb_isR_ref _, _, rfl, uRo hG2 hd hz hl.ob ⟨_, rfl, 5, W.1.obP nk.1, cc_5, _, _, _, X0_stands I W ni.1 nk.1, rb_dp_le hd (by decide), hz, W.1.ob0, ?_⟩⟩⟩⟩
    rintro _ _ ⟨rfl, rfl⟩
    refine ⟨rfl, ?_⟩
    rw [nI_1]
    refine ih (i + 1) (by omega) _ _ W.setB hM (fun a b ha hb' => ?_)
    rw [stB_bt (by omega) hb', hb a b ha hb']
    unfold QN
    constructor
    · rintro ((r | ⟨x, x1, x2⟩) | ⟨r1, r2⟩)
      · exact Or.inl r
      · exact Or.inr ⟨x, by omega, x2⟩
      · exact Or.inr ⟨i, by omega, r1.symm, r2.symm⟩
    · rintro (r | ⟨x, x1, x2⟩)
      · exact Or.inl (Or.inl r)
      · rcases Nat.lt_or_ge x i with z | z
        · exact Or.inl (Or.inr ⟨x, z, x2⟩)
        · obtain rfl : x = i := by omega
          exact Or.inr ⟨x2.1.symm, x2.2.symm⟩
/-- what is in after k names -/
def inN (ms : mm_S) (k : Nat) (f : Nat → Int32) : Prop := isZ f ∧ (∀ q, q < 24 → f q ≠ 0 → Cl ms q) ∧ (∀ q j, q < nN ms 0 0 → f q ≠ 0 → j < nN ms 4 q → f (nN ms 5 (4 * q + j)) ≠ 0) ∧ ∀ x, x < k → f (nN ms 17 x) ≠ 0
theorem inN.all {k : Nat} {f : Nat → Int32} (D : Dr ms) (h : inN ms (nN ms 16 0) f) : ∀ q, q < 24 → (f q ≠ 0 ↔ Cl ms q) := by
  intro q hq
  refine ⟨h.2.1 q hq, fun c => ?_⟩
  exact (c (fun j => j < nN ms 0 0 ∧ f j ≠ 0) (fun k hk => ⟨(D.nm hk).1, h.2.2.2 k hk⟩) (fun q k r hk => by
    have := D.ex r.1 hk
    exact ⟨by omega, h.2.2.1 q k r.1 r.2 hk⟩)).2
theorem X0_lay30 (hκ : κ.1 = g) (I : Inv B ms) (hd : rb_dp κ 26) (hz : rb_rom κ (0, 0)) (K : ∀ M fI fB, WS g ms ad h ms0 M fI fB → M.1 = N1 → inN ms (nN ms 16 0) fI → bits fB (QN ms (nN ms 16 0) 0) → rb_Bd κ mX0_layOrder (0, 0) M 103 [some (.ref (ad 0 0)), some (.int 0), none, none, none] []) :
    ∀ d k, k + d = nN ms 16 0 → ∀ M fI fB, WS g ms ad h ms0 M fI fB → M.1 = N1 → inN ms k fI → bits fB (QN ms k 0) → rb_Bd κ mX0_layOrder (0, 0) M 30 [some (.ref (ad 0 0)), some (.int (nI k)), none, none, none] [] := by
  subst hκ
  have D := I.dr
  have hP0 := I.pn
  have hN := D.N
  intro d
  induction d with
  | zero =>
    intro k hk M fI fB W hM hi hb
    obtain rfl : k = nN ms 16 0 := by omega
    obtain ⟨sg, hm⟩ := W.1.main
    have hl := W.1.ls 3 0 (by decide) rfl
    refine sgX0_layOrder_30 ⟨_, ⟨_, hm, rfl⟩, rb_isR_ref _, _, rfl, uIo (J4_size hl) (rb_dp_le hd (by decide)) hz hl.ob ⟨fun _ => K M fI fB W hM hi hb, fun q => absurd q (nI_nlt (Nat.le_refl _) (by omega))⟩⟩
  | succ d ih =>
    intro k hk M fI fB W hM hi hb
    obtain ⟨sg, hm⟩ := W.1.main
    have hl := W.1.ls 3 0 (by decide) rfl
    have nk := D.nm (k := k) (by omega)
    have hG2 : rb_Ct κ.1 yJ4_get wJ4_get 2 (0, 0) [.ref (ad 23 0), .int (nI k)] M (qr (some (.ref (ad 4 (nN ms 17 k)))) M) := J4_get hl (show k < nN ms 16 0 by omega)
    refine sgX0_layOrder_30 ⟨_, ⟨_, hm, rfl⟩, rb_isR_ref _, _, rfl, uIo (J4_size hl) (rb_dp_le hd (by decide)) hz hl.ob ⟨fun q => absurd q (nI_ge (show k < nN ms 16 0 by omega) (show nN ms 16 0 < 2 ^ 31 by omega)), fun _ => ⟨_, ⟨_, hm, rfl⟩, rb_isR_ref _, _, rfl, uRo hG2 (rb_dp_le hd (by decide)) hz hl.ob ⟨_, rfl, 5, W.1.obP nk.1, cc_5, _, _, _, X0_take I _ nk.1 M fI W, rb_dp_le hd (by omega), hz, W.1.ob0, ?_⟩⟩⟩⟩
    rintro _ M' ⟨rfl, hM', f', W', t1, t2, t3, t4, t5⟩
    refine ⟨rfl, ?_⟩
    refine X0_lay58 rfl I (by omega) (rb_dp_le hd (by decide)) hz (fun M2 fB2 W2 hM2 hb2 => ?_) k 0 (Nat.zero_add _) M' fB W' (hM'.trans hM) hb
    refine ih (k + 1) (by omega) M2 f' fB2 W2 hM2 ⟨t5 hi.1, fun q hq c => ?_, fun q j q1 q2 q3 => ?_, fun x hx => ?_⟩ (fun a b ha hb' => ?_)
    · rcases t4 (Cl ms) (Cl.nm (by omega)) (fun q k _ q2 q3 => Cl.ex q2 q3) q c with r | r
      · exact hi.2.1 q hq r
      · exact r
    · by_cases e : fI q = 0
      · exact t3 q j q1 (Or.inr e) q2 q3
      · exact t1 _ (hi.2.2.1 q j q1 e q3)
    · rcases Nat.lt_or_ge x k with r | r
      · exact t1 _ (hi.2.2.2 x r)
      · obtain rfl : x = k := by omega
        exact t2
    · rw [hb2 a b ha hb']
      unfold QN
      constructor
      · rintro (⟨x, y, z1, z2, z3⟩ | ⟨x, x1, x2⟩)
        · exact Or.inl ⟨x, y, z1, by omega, z3⟩
        · exact Or.inl ⟨x, k, x1, by omega, x2⟩
      · rintro (⟨x, y, z1, z2, z3⟩ | ⟨x, x1, x2⟩)
        · rcases Nat.lt_or_ge y k with r | r
          · exact Or.inl ⟨x, y, z1, r, z3⟩
          · obtain rfl : y = k := by omega
            exact Or.inr ⟨x, z1, z3⟩
        · omega
end V4
