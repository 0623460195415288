set_option maxRecDepth 100000
/-! weaving, the class's side: isWhole -/
section V17
variable {g : rb_G} {ms ms0 : mm_S} {ad : aD} {h : Nat} {B : Nat} {κ : rb_K} {M : rb_H} {fI fB : Nat → Int32} {b0 R : Nat} {fa : Nat → Option Nat} {l : List Nat} {na : Nat → Nat}
/-- ms with a lack -/
def lkS (ms : mm_S) (x y : Int32) : mm_S := mm_sI (mm_sI ms 35 0 x) 36 0 y
theorem lkS_same {x y : Int32} : sameX [35, 36] ms (lkS ms x y) := sameX.trans (sameX.sI (by decide)) (sameX.sI (by decide))
theorem lkS_35 {x y : Int32} : (lkS ms x y).1 35 0 = x := by
  unfold lkS
  rw [mm_sI_ne (by decide)]
  simp [mm_sI, va_up]
theorem lkS_36 {x y : Int32} : (lkS ms x y).1 36 0 = y := by
  simp [lkS, mm_sI, va_up]
theorem X0_lacksS (R : Rep g ms ad h ms0 M) {x y : Int32} : rb_Ct g yX0_lacks wX0_lacks 0 (0, 0) [.ref (ad 0 0), .int x, .int y] M (fun o M' => o = .returned (some (.int 0)) ∧ M'.1 = M.1 ∧ (∀ b, b ≠ ad 0 0 → M'.2 b = M.2 b) ∧ Rep g (lkS ms x y) ad h ms0 M') := X0_lacks' R lkS_same lkS_35 lkS_36
theorem X0_iw15 (hκ : κ.1 = g) (I : Inv B ms) {i q : Nat} (hi : i < l.length) (hl : l.length ≤ 24) (hlt : ∀ p, p ∈ l → p < nN ms 0 0) (hd : rb_dp κ 3) (hz : rb_rom κ (0, 0)) (hf : rb_fin κ (0, 0)) (N : NS g ms ad h ms0 M fI fB b0 R na l 12 (fun k => chL ms k l) fa 14) (n0 : na 0 = q) (hno : ∀ i' m', i' < i → m' < 12 → ¬ lk ms (fun m => chL ms m l) l i' m')
    (hbad : ∀ j, lkAt ms (fun m => chL ms m l) l i j → ∀ M', Rep g (lkS ms (nI (l.getD i 0)) (nI j)) ad h ms0 M' → κ.2.2.1 (.returned (some (.int 0))) M')
    (K : (∀ m', m' < 12 → ¬ lk ms (fun m => chL ms m l) l i m') → rb_Bd κ mX0_isWhole (0, 0) M 2 [some (.ref (ad 0 0)), some (.ref q), some (.int (nI (i + 1))), none] []) :
    ∀ d j, j + d = 12 → (∀ m', m' < j → ¬ lk ms (fun m => chL ms m l) l i m') → rb_Bd κ mX0_isWhole (0, 0) M 15 [some (.ref (ad 0 0)), some (.ref q), some (.int (nI i)), some (.int (nI j))] [] := by
  subst hκ
  have hP0 := I.pn
  have hlt24 : ∀ p, p ∈ l → p < 24 := fun p hp => by have := hlt p hp; omega
  have hq := N.2.1.1
  rw [n0] at hq
  have hln := N.line (by omega)
  have hchs := N.chs (by omega)
  have hp := hlt _ (getD_mem l i hi)
  have hpart := N.1.1.part hp
  obtain ⟨_, k7, f7, rfl, e7⟩ := N.1.1.1 7 _ hp
  have hG := J4_get hln hi
  intro d
  induction d with
  | zero =>
    intro j hj hj2
    obtain rfl : j = 12 := by omega
    refine sgX0_isWhole_15 (rb_isR_ref _) ⟨fun _ => ?_, fun z => absurd z (by decide)⟩
    rw [nI_1]
    exact rb_weak (by simp [rb_wk]) (K hj2)
  | succ d ih =>
    intro j hj hj2
    have hj12 : j < 12 := by omega
    have hch := N.ch (k := j) (by omega)
    have nxt : ¬ lk ms (fun m => chL ms m l) l i j → rb_Bd κ mX0_isWhole (0, 0) M 15 [some (.ref (ad 0 0)), some (.ref q), some (.int (nI i)), some (.int (nI (j + 1)))] [] := by
      intro hn
      refine ih (j + 1) (by omega) fun m' hm' => ?_
      rcases Nat.lt_or_ge m' j with z | z
      · exact hj2 m' z
      · obtain rfl : m' = j := by omega
        exact hn
    refine sgX0_isWhole_15 (rb_isR_ref _) ⟨fun z => absurd z (nI_ge (b := 12) hj12 (by decide)), fun _ => ⟨_, rfl, _, ⟨_, hq, rfl⟩, rb_isR_ref _, _, rfl, uRo hG (rb_dp_le hd (by decide)) hz hln.ob ⟨_, rfl, 5, ⟨_, hpart⟩, cc_5, _, ⟨_, hpart, rfl⟩, rb_isR_ref _, _, rfl, 12, f7, _, k7, vp_in_nI hj12 (by decide), rfl, fun e0 => ?_, fun e1 => ⟨_, ⟨_, hq, rfl⟩, rb_isR_ref _, _, rfl, uRo (J4_get hchs hj12) (rb_dp_le hd (by decide)) hz hchs.ob ⟨_, rfl, 7, hch.ob, cc_7, uI (X0_hasGiver N.1.1 hch (chL_chOk hj12 hl hlt24)) hd hz ⟨fun e2 => ?_, fun e2 => ⟨_, ⟨_, hq, rfl⟩, rb_isR_ref _, _, rfl, uRo hG (rb_dp_le hd (by decide)) hz hln.ob ⟨_, rfl, 5, ⟨_, hpart⟩, cc_5, _, ⟨_, hpart, rfl⟩, _, _, _, X0_lacksS N.1.1, rb_dp_le hd (by decide), hz, N.1.1.ob0, ?_⟩⟩⟩⟩⟩⟩⟩⟩
    · rw [nI_1]
      rw [nI_clamp (by omega), e7 j hj12] at e0
      exact nxt fun z => z.1 e0
    · rw [nI_1]
      exact nxt fun z => z.2 (bz_1.mp e2)
    · rw [nI_clamp (by omega), e7 j hj12] at e1
      rintro _ M' ⟨rfl, -, -, R'⟩
      exact ⟨_, rfl, rfl, hf, hbad j ⟨hi, hj12, ⟨e1, bz_0.mp e2⟩, hno, hj2⟩ M' R'⟩
theorem X0_iw2 (hκ : κ.1 = g) (I : Inv B ms) {q : Nat} (hl : l.length ≤ 24) (hlt : ∀ p, p ∈ l → p < nN ms 0 0) (hd : rb_dp κ 3) (hz : rb_rom κ (0, 0)) (hf : rb_fin κ (0, 0)) (N : NS g ms ad h ms0 M fI fB b0 R na l 12 (fun k => chL ms k l) fa 14) (n0 : na 0 = q)
    (hbad : ∀ i j, lkAt ms (fun m => chL ms m l) l i j → ∀ M', Rep g (lkS ms (nI (l.getD i 0)) (nI j)) ad h ms0 M' → κ.2.2.1 (.returned (some (.int 0))) M')
    (K : (∀ i m, i < l.length → m < 12 → ¬ lk ms (fun m => chL ms m l) l i m) → rb_Bd κ mX0_isWhole (0, 0) M 91 [some (.ref (ad 0 0)), some (.ref q), some (.int (nI 0)), none] []) :
    ∀ d i, i + d = l.length → (∀ i' m', i' < i → m' < 12 → ¬ lk ms (fun m => chL ms m l) l i' m') → rb_Bd κ mX0_isWhole (0, 0) M 2 [some (.ref (ad 0 0)), some (.ref q), some (.int (nI i)), none] [] := by
  subst hκ
  have hq := N.2.1.1
  rw [n0] at hq
  have hln := N.line (by omega)
  intro d
  induction d with
  | zero =>
    intro i hi hno
    obtain rfl : i = l.length := by omega
    exact sgX0_isWhole_2 (rb_isR_ref _) ⟨_, rfl, _, ⟨_, hq, rfl⟩, rb_isR_ref _, _, rfl, uIo (J4_size hln) (rb_dp_le hd (by decide)) hz hln.ob ⟨fun _ => K hno, fun z => absurd z (nI_nlt (Nat.le_refl _) (by omega))⟩⟩
  | succ d ih =>
    intro i hi hno
    refine sgX0_isWhole_2 (rb_isR_ref _) ⟨_, rfl, _, ⟨_, hq, rfl⟩, rb_isR_ref _, _, rfl, uIo (J4_size hln) (rb_dp_le hd (by decide)) hz hln.ob ⟨fun z => absurd z (nI_ge (show i < l.length by omega) (by omega)), fun _ => ?_⟩⟩
    refine X0_iw15 (κ := κ) rfl I (show i < l.length by omega) hl hlt hd hz hf N n0 hno (fun j => hbad i j) (fun hn => ?_) 12 0 rfl (fun m' hm' => absurd hm' (Nat.not_lt_zero _))
    refine ih (i + 1) (by omega) fun i' m' h1 h2 => ?_
    rcases Nat.lt_or_ge i' i with z | z
    · exact hno i' m' z h2
    · obtain rfl : i' = i := by omega
      exact hn m' h2
theorem alBad_iff {C : Nat → List Nat} {a p m : Nat} (hlen : (C m).length ≤ 48) (h1 : ms.1 23 a ≠ 0) (hp : p < 24) (hm : m < 12) (h21 : ms.1 21 a = nI p) (h22 : ms.1 22 a = nI m) : alBad ms C a ↔ ¬ ∃ k, k < (C m).length ∧ (C m).getD k 0 = 25 * p + m := by
  unfold alBad plc
  rw [show nN ms 22 a = m by unfold nN; rw [h22, nI_clamp (by omega)], show nN ms 21 a = p by unfold nN; rw [h21, nI_clamp (by omega)]]
  constructor
  · rintro ⟨-, q | ⟨k, k1, k2, k3, k4⟩⟩ ⟨k', k1', k2'⟩
    · exact q.2 k' k1' (by show (C m).getD k' 0 = _; rw [k2']; omega)
    · exact n9_ne (show k < 2 ^ 31 by omega) k4.symm
  · intro hn
    exact ⟨h1, Or.inl ⟨rfl, fun k k1 k2 => hn ⟨k, k1, by have k2 : (C m).getD k 0 = 25 * p + (12 * 0 + m) := k2; rw [k2]; omega⟩⟩⟩
/-- what an alias comes to -/
def alS (ms : mm_S) (ad : aD) (a : Nat) : Option Nat := if ms.1 23 a = 0 then none else some (ad 8 (25 * nN ms 21 a + nN ms 22 a))
theorem X0_iw91 (hκ : κ.1 = g) (I : Inv B ms) {q : Nat} (hl : l.length ≤ 24) (hlt : ∀ p, p ∈ l → p < nN ms 0 0) (hd : rb_dp κ 3) (hz : rb_rom κ (0, 0)) (hf : rb_fin κ (0, 0)) (n0 : na 0 = q)
    (hbad : ∀ b, b < 4 → alBad ms (fun m => chL ms m l) b → (∀ c, c < b → ¬ alBad ms (fun m => chL ms m l) c) → ∀ M', Rep g (lkS ms (ms.1 21 b) (ms.1 22 b)) ad h ms0 M' → κ.2.2.1 (.returned (some (.int 0))) M')
    (K : (∀ b, b < 4 → ¬ alBad ms (fun m => chL ms m l) b) → ∀ M' fa', (∀ a, a < 4 → fa' a = alS ms ad a) → NS g ms ad h ms0 M' fI fB b0 R na l 12 (fun k => chL ms k l) fa' 14 → κ.2.2.1 (.returned (some (.int 1))) M') :
    ∀ d a, a + d = 4 → ∀ M fa, NS g ms ad h ms0 M fI fB b0 R na l 12 (fun k => chL ms k l) fa 14 → (∀ b, b < a → ¬ alBad ms (fun m => chL ms m l) b ∧ fa b = alS ms ad b) → (∀ b, a ≤ b → b < 4 → fa b = none) → rb_Bd κ mX0_isWhole (0, 0) M 91 [some (.ref (ad 0 0)), some (.ref q), some (.int (nI a)), none] [] := by
  subst hκ
  have hP0 := I.pn
  have hlt24 : ∀ p, p ∈ l → p < 24 := fun p hp => by have := hlt p hp; omega
  intro d
  induction d with
  | zero =>
    intro a ha M fa N h1 h2
    obtain rfl : a = 4 := by omega
    exact sgX0_isWhole_91 (rb_isR_ref _) ⟨fun _ => ⟨hf, K (fun b hb => (h1 b hb).1) M fa (fun b hb => (h1 b hb).2) N⟩, fun z => absurd z (by decide)⟩
  | succ d ih =>
    intro a ha M fa N h1 h2
    have ha4 : a < 4 := by omega
    refine rb_know fun hw => ?_
    obtain ⟨sg, hm⟩ := N.1.1.main
    obtain ⟨_, k64, f64, rfl, e64⟩ := N.1.1.1 64 0 rfl
    obtain ⟨_, k65, f65, rfl, e65⟩ := N.1.1.1 65 0 rfl
    have hq := N.2.1.1
    rw [n0] at hq
    have hA := I.2.2.2.1.2.2 a ha4
    by_cases h23 : ms.1 23 a = 0
    · refine sgX0_isWhole_91 (rb_isR_ref _) ⟨fun z => absurd z (nI_ge (b := 4) ha4 (by decide)), fun _ => ⟨_, ⟨_, hm, rfl⟩, rb_isR_ref _, _, rfl, 4, f64, -9, k64, vp_in_nI ha4 (by decide), by rw [nI_clamp (by omega), e64 a ha4, if_pos h23], fun _ => ?_, fun e => absurd rfl e⟩⟩
      rw [nI_1]
      refine ih (a + 1) (by omega) M fa N (fun b hb => ?_) (fun b hb hb2 => h2 b (by omega) hb2)
      rcases Nat.lt_or_ge b a with z | z
      · exact h1 b z
      · obtain rfl : b = a := by omega
        refine ⟨fun q => q.1 h23, ?_⟩
        rw [h2 b (Nat.le_refl _) ha4, alS, if_pos h23]
    · obtain ⟨h231, p, m, hp, hmm, h21, h22⟩ := hA.resolve_left h23
      have hp24 : p < 24 := by omega
      have x64 : f64 (nI a).toNatClampNeg = nI p := by rw [nI_clamp (by omega), e64 a ha4, if_neg h23, h21]
      have x65 : f65 (nI a).toNatClampNeg = nI m := by rw [nI_clamp (by omega), e65 a ha4 h23, h22]
      have hPl := N.1.1.ls 0 0 (by decide) rfl
      have hGp : rb_Ct κ.1 yJ4_get wJ4_get 2 (0, 0) [.ref (ad 20 0), .int (nI p)] M (qr (some (.ref (ad 4 p))) M) := J4_get hPl hp
      have hpart := N.1.1.part hp
      have hiff := alBad_iff (ms := ms) (C := fun m => chL ms m l) (m := m) (by have := chL_len ms m l; show (chL ms m l).length ≤ 48; omega) h23 hp24 hmm h21 h22
      obtain ⟨f5, k5, e5⟩ := N.1.1.gv hp hmm
      have hprev : ∀ c, c < a → ¬ alBad ms (fun m => chL ms m l) c := fun c hc => (h1 c hc).1
      refine sgX0_isWhole_91 (rb_isR_ref _) ⟨fun z => absurd z (nI_ge (b := 4) ha4 (by decide)), fun _ => ⟨_, ⟨_, hm, rfl⟩, rb_isR_ref _, _, rfl, 4, f64, nI p, k64, vp_in_nI ha4 (by decide), x64, fun e => absurd e (n9_ne (by omega)), fun _ => ⟨_, ⟨_, hm, rfl⟩, rb_isR_ref _, _, ⟨_, hm, rfl⟩, rb_isR_ref _, _, rfl, 4, f64, nI p, k64, vp_in_nI ha4 (by decide), x64, _, rfl, uRo hGp (rb_dp_le hd (by decide)) hz hPl.ob ⟨_, rfl, 5, ⟨_, hpart⟩, cc_5, _, ⟨_, hpart, rfl⟩, rb_isR_ref _, _, ⟨_, hm, rfl⟩, rb_isR_ref _, _, rfl, 4, f65, nI m, k65, vp_in_nI ha4 (by decide), x65, _, rfl, ?_⟩⟩⟩⟩
      by_cases hv : ms.1 10 (25 * p + m) = -9
      · refine ⟨4, 12, f5, .null, k5, ⟨nb rfl, nb rfl⟩, vp_in_nI hmm (by decide), e5.trans (bRf_no hv), fun _ => ⟨_, ⟨_, hm, rfl⟩, rb_isR_ref _, _, rfl, 4, f64, nI p, k64, vp_in_nI ha4 (by decide), x64, _, ⟨_, hm, rfl⟩, rb_isR_ref _, _, rfl, 4, f65, nI m, k65, vp_in_nI ha4 (by decide), x65, _, _, _, X0_lacksS N.1.1, rb_dp_le hd (by decide), hz, N.1.1.ob0, ?_⟩, fun q' e => by cases e⟩
        rintro _ M' ⟨rfl, -, -, R'⟩
        rw [← h21, ← h22] at R'
        refine ⟨_, rfl, rfl, hf, hbad a ha4 (hiff.mpr ?_) hprev M' R'⟩
        rintro ⟨k, k1, k2⟩
        have := chL_ok (ms := ms) (b := 25 * p + m) hmm l hlt24 (by rw [← k2]; exact getD_mem _ k k1)
        exact this.2.1 hv
      · have hb := N.1.1.body (b := 25 * p + m) (by omega) hv
        have hchs := N.chs (by omega)
        have hch := N.ch (k := m) (by omega)
        refine ⟨4, 12, f5, .ref (ad 8 (25 * p + m)), k5, ⟨nb rfl, nb rfl⟩, vp_in_nI hmm (by decide), e5.trans (bRf_yes hv), fun e => (by cases e), fun q' e => ?_⟩
        cases e
        refine ⟨_, rfl, _, ⟨_, hq, rfl⟩, rb_isR_ref _, _, ⟨_, hm, rfl⟩, rb_isR_ref _, _, rfl, 4, f65, nI m, k65, vp_in_nI ha4 (by decide), x65, _, rfl, uRo (J4_get hchs hmm) (rb_dp_le hd (by decide)) hz hchs.ob ⟨_, rfl, 7, hch.ob, cc_7, _, _, _, J4_contains hch (Or.inr ⟨_, hb⟩), hd, hz, hch.ob, ?_⟩⟩
        rintro _ _ ⟨x, hx, rfl, rfl⟩
        have hin : (∃ k, k < (chL ms m l).length ∧ ad 8 ((chL ms m l).getD k 0) = ad 8 (25 * p + m)) ↔ ∃ k, k < (chL ms m l).length ∧ (chL ms m l).getD k 0 = 25 * p + m := by
          constructor
          · rintro ⟨k, k1, k2⟩
            have hk := chL_ok (ms := ms) hmm l hlt24 (getD_mem _ k k1)
            exact ⟨k, k1, (N.1.1.2.1 8 _ 8 _ ⟨hk.1, hk.2.1⟩ ⟨by omega, hv⟩ k2).2⟩
          · rintro ⟨k, k1, k2⟩
            exact ⟨k, k1, by rw [k2]⟩
        refine ⟨_, rfl, fun e => ?_, fun e => ?_⟩
        · have hx := hx.resolve_right fun z => e z.1
          have hok : ¬ alBad ms (fun m => chL ms m l) a := fun z => (hiff.mp z) (hin.mp hx.2)
          refine ⟨_, ⟨_, hq, rfl⟩, rb_isR_ref _, _, rfl, 4, 4, 6, fa, N.2.1.2.1, ⟨nb rfl, nb rfl⟩, vp_in_nI ha4 (by decide), ⟨_, hb⟩, as4, ?_⟩
          rw [nI_1, nI_clamp (by omega)]
          refine rb_weak (by simp [rb_wk]) (ih (a + 1) (by omega) _ _ (N.al hw) (fun b hb => ?_) (fun b hb hb2 => ?_))
          · rcases Nat.lt_or_ge b a with z | z
            · refine ⟨(h1 b z).1, ?_⟩
              rw [← (h1 b z).2]
              simp [va_up, show ¬ b = a by omega]
            · obtain rfl : b = a := by omega
              refine ⟨hok, ?_⟩
              rw [alS, if_neg h23, show nN ms 22 b = m by unfold nN; rw [h22, nI_clamp (by omega)], show nN ms 21 b = p by unfold nN; rw [h21, nI_clamp (by omega)]]
              simp [va_up]
          · rw [← h2 b (by omega) hb2]
            simp [va_up, show ¬ b = a by omega]
        · have hx := hx.resolve_left fun z => by rw [z.1] at e; exact absurd e (by decide)
          refine ⟨_, ⟨_, hm, rfl⟩, rb_isR_ref _, _, rfl, 4, f64, nI p, k64, vp_in_nI ha4 (by decide), x64, _, ⟨_, hm, rfl⟩, rb_isR_ref _, _, rfl, 4, f65, nI m, k65, vp_in_nI ha4 (by decide), x65, _, _, _, X0_lacksS N.1.1, rb_dp_le hd (by decide), hz, N.1.1.ob0, ?_⟩
          rintro _ M' ⟨rfl, -, -, R'⟩
          rw [← h21, ← h22] at R'
          exact ⟨_, rfl, rfl, hf, hbad a ha4 (hiff.mpr fun z => hx.2 (hin.mpr z)) hprev M' R'⟩
/-- what isWhole says -/
def iwP (g : rb_G) (ms : mm_S) (ad : aD) (h : Nat) (ms0 : mm_S) (fI fB : Nat → Int32) (b0 R : Nat) (na : Nat → Nat) (l : List Nat) (o : Outcome) (M' : rb_H) : Prop :=
  (o = .returned (some (.int 0)) ∧ ((∃ i j, lkAt ms (fun m => chL ms m l) l i j ∧ Rep g (lkS ms (nI (l.getD i 0)) (nI j)) ad h ms0 M') ∨ ((∀ i m, i < l.length → m < 12 → ¬ lk ms (fun m => chL ms m l) l i m) ∧ ∃ b, b < 4 ∧ alBad ms (fun m => chL ms m l) b ∧ (∀ c, c < b → ¬ alBad ms (fun m => chL ms m l) c) ∧ Rep g (lkS ms (ms.1 21 b) (ms.1 22 b)) ad h ms0 M'))) ∨
  (o = .returned (some (.int 1)) ∧ (∀ i m, i < l.length → m < 12 → ¬ lk ms (fun m => chL ms m l) l i m) ∧ (∀ b, b < 4 → ¬ alBad ms (fun m => chL ms m l) b) ∧ ∃ fa', (∀ a, a < 4 → fa' a = alS ms ad a) ∧ NS g ms ad h ms0 M' fI fB b0 R na l 12 (fun k => chL ms k l) fa' 14)
theorem X0_isWhole (I : Inv B ms) (hl : l.length ≤ 24) (hlt : ∀ p, p ∈ l → p < nN ms 0 0) (N : NS g ms ad h ms0 M fI fB b0 R na l 12 (fun k => chL ms k l) (fun _ => none) 14) : rb_Ct g yX0_isWhole wX0_isWhole 4 (0, 0) [.ref (ad 0 0), .ref (na 0)] M (iwP g ms ad h ms0 fI fB b0 R na l) := by
  refine rb_Ct.of (by decide) (Nat.le_of_ble_eq_true rfl) rfl ?_
  refine sgX0_isWhole_0 (rb_isR_ref _) ?_
  refine X0_iw2 (κ := (g, rb_rm 4 (0, 0), iwP g ms ad h ms0 fI fB b0 R na l, (0, 0))) rfl I hl hlt (rb_dpk (by decide)) zr zf N rfl (fun i j hk M' R' => Or.inl ⟨rfl, Or.inl ⟨i, j, hk, R'⟩⟩) (fun hno => ?_) l.length 0 (Nat.zero_add _) (fun i' m' h1 => absurd h1 (Nat.not_lt_zero _))
  exact X0_iw91 (κ := (g, rb_rm 4 (0, 0), iwP g ms ad h ms0 fI fB b0 R na l, (0, 0))) (fI := fI) (fB := fB) (b0 := b0) (R := R) rfl I hl hlt (rb_dpk (by decide)) zr zf rfl (fun b h1 h2 h3 M' R' => Or.inl ⟨rfl, Or.inr ⟨hno, b, h1, h2, h3, R'⟩⟩) (fun h1 M' fa' h2 N' => Or.inr ⟨rfl, hno, h1, fa', h2, N'⟩) 4 0 rfl M _ N (fun b hb => absurd hb (Nat.not_lt_zero _)) (fun b _ _ => rfl)
end V17
