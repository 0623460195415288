set_option maxRecDepth 100000
/-! a call whose contract changes nothing -/
section UU
variable {κ : rb_K} {M : rb_H} {y : MethodName} {w : Cond} {d A B : Nat} {as : List Value} {O : Prop}
theorem uI {x : Int32} (ct : rb_Ct κ.1 y w d (0, 0) as M (qr (some (.int x)) M)) (hd : rb_dp κ d) (hr : rb_rom κ (A + 0, B + 0)) {P : Nat × Nat → Int32 → rb_H → Prop} (k : P (0, 0) x M) :
    ∃ (d : Nat) (n2 : Nat × Nat) (Q : Outcome → rb_H → Prop), rb_Ct κ.1 y w d n2 as M Q ∧ rb_dp κ d ∧ rb_rom κ (A + n2.1, B + n2.2) ∧ ∀ (o : Outcome) (M' : rb_H), Q o M' → ∃ x : Int32, o = .returned (some (.int x)) ∧ P n2 x M' :=
  ⟨d, (0, 0), _, ct, hd, hr, fun o M' ⟨h1, h2⟩ => by subst h1; subst h2; exact ⟨_, rfl, k⟩⟩
theorem uIo {x : Int32} (ct : rb_Ct κ.1 y w d (0, 0) as M (qr (some (.int x)) M)) (hd : rb_dp κ d) (hr : rb_rom κ (A + 0, B + 0)) (ho : O) {P : Nat × Nat → Int32 → rb_H → Prop} (k : P (0, 0) x M) :
    ∃ (d : Nat) (n2 : Nat × Nat) (Q : Outcome → rb_H → Prop), rb_Ct κ.1 y w d n2 as M Q ∧ rb_dp κ d ∧ rb_rom κ (A + n2.1, B + n2.2) ∧ O ∧ ∀ (o : Outcome) (M' : rb_H), Q o M' → ∃ x : Int32, o = .returned (some (.int x)) ∧ P n2 x M' :=
  ⟨d, (0, 0), _, ct, hd, hr, ho, fun o M' ⟨h1, h2⟩ => by subst h1; subst h2; exact ⟨_, rfl, k⟩⟩
theorem uLo {x : Int64} (ct : rb_Ct κ.1 y w d (0, 0) as M (qr (some (.long x)) M)) (hd : rb_dp κ d) (hr : rb_rom κ (A + 0, B + 0)) (ho : O) {P : Nat × Nat → Int64 → rb_H → Prop} (k : P (0, 0) x M) :
    ∃ (d : Nat) (n2 : Nat × Nat) (Q : Outcome → rb_H → Prop), rb_Ct κ.1 y w d n2 as M Q ∧ rb_dp κ d ∧ rb_rom κ (A + n2.1, B + n2.2) ∧ O ∧ ∀ (o : Outcome) (M' : rb_H), Q o M' → ∃ x : Int64, o = .returned (some (.long x)) ∧ P n2 x M' :=
  ⟨d, (0, 0), _, ct, hd, hr, ho, fun o M' ⟨h1, h2⟩ => by subst h1; subst h2; exact ⟨_, rfl, k⟩⟩
theorem uL {x : Int64} (ct : rb_Ct κ.1 y w d (0, 0) as M (qr (some (.long x)) M)) (hd : rb_dp κ d) (hr : rb_rom κ (A + 0, B + 0)) {P : Nat × Nat → Int64 → rb_H → Prop} (k : P (0, 0) x M) :
    ∃ (d : Nat) (n2 : Nat × Nat) (Q : Outcome → rb_H → Prop), rb_Ct κ.1 y w d n2 as M Q ∧ rb_dp κ d ∧ rb_rom κ (A + n2.1, B + n2.2) ∧ ∀ (o : Outcome) (M' : rb_H), Q o M' → ∃ x : Int64, o = .returned (some (.long x)) ∧ P n2 x M' :=
  ⟨d, (0, 0), _, ct, hd, hr, fun o M' ⟨h1, h2⟩ => by subst h1; subst h2; exact ⟨_, rfl, k⟩⟩
theorem uVo {v : Value} (ct : rb_Ct κ.1 y w d (0, 0) as M (qr (some v) M)) (hv : rb_isR v) (hd : rb_dp κ d) (hr : rb_rom κ (A + 0, B + 0)) (ho : O) {P : Nat × Nat → Value → rb_H → Prop} (k : P (0, 0) v M) :
    ∃ (d : Nat) (n2 : Nat × Nat) (Q : Outcome → rb_H → Prop), rb_Ct κ.1 y w d n2 as M Q ∧ rb_dp κ d ∧ rb_rom κ (A + n2.1, B + n2.2) ∧ O ∧ ∀ (o : Outcome) (M' : rb_H), Q o M' → ∃ v : Value, o = .returned (some v) ∧ rb_isR v ∧ P n2 v M' :=
  ⟨d, (0, 0), _, ct, hd, hr, ho, fun o M' ⟨h1, h2⟩ => by subst h1; subst h2; exact ⟨_, rfl, hv, k⟩⟩
/-- a reference comes back -/
theorem uRo {q : Nat} (ct : rb_Ct κ.1 y w d (0, 0) as M (qr (some (.ref q)) M)) (hd : rb_dp κ d) (hr : rb_rom κ (A + 0, B + 0)) (ho : O) {P : Nat × Nat → Value → rb_H → Prop} (k : P (0, 0) (.ref q) M) :
    ∃ (d : Nat) (n2 : Nat × Nat) (Q : Outcome → rb_H → Prop), rb_Ct κ.1 y w d n2 as M Q ∧ rb_dp κ d ∧ rb_rom κ (A + n2.1, B + n2.2) ∧ O ∧ ∀ (o : Outcome) (M' : rb_H), Q o M' → ∃ v : Value, o = .returned (some v) ∧ rb_isR v ∧ P n2 v M' :=
  uVo ct (rb_isR_ref _) hd hr ho k
end UU
section C2
variable {g : rb_G} {ms : mm_S} {ad : aD} {h : Nat} {ms0 : mm_S} {M : rb_H} {B : Nat}
theorem Rep.ob0 (R : Rep g ms ad h ms0 M) : rb_ob M (ad 0 0) 0 := by
  obtain ⟨sg, hm⟩ := R.main
  exact ⟨_, hm⟩
theorem Rep.obP (R : Rep g ms ad h ms0 M) {p : Nat} (hp : p < nN ms 0 0) : rb_ob M (ad 4 p) 5 := ⟨_, R.part hp⟩
theorem Rep.obR (R : Rep g ms ad h ms0 M) {r : Nat} (hr : r < nN ms 24 0) : rb_ob M (ad 10 r) 27 := ⟨_, R.role hr⟩
theorem lineE {ms : mm_S} {r i p : Nat} (hp : p < nN ms 0 0) (h24 : nN ms 0 0 ≤ 24) (e : ms.1 26 (24 * r + i) = nI p) (ad : aD) : eltL ms ad 6 r i = ad 4 p := by
  show ad 4 (nN ms 26 (24 * r + i)) = ad 4 p
  rw [nN, e, nI_clamp (by omega)]
theorem X0_line (R : Rep g ms ad h ms0 M) (I : Inv B ms) {a i : Int32} : rb_Ct g yX0_line wX0_line 3 (0, 0) [.ref (ad 0 0), .int a, .int i] M (qr (some (.int (F_line ms a i))) M) := by
  obtain ⟨sg, hm⟩ := R.main
  have hrn := I.rn
  have hpn := I.pn
  refine rb_Ct.of (by decide) (Nat.le_of_ble_eq_true rfl) rfl ?_
  refine sgX0_line_0 (uIo (X0_isRole R I.R) (rb_dpk (by decide)) zr R.ob0 ⟨fun h1 => ?_, fun h1 => ⟨zf, ?_, rfl⟩⟩) <;> rw [pIn0] at h1
  · have h1 := Decidable.not_not.mp h1
    rw [F_line, if_neg (fun q => q h1)]
    obtain ⟨r, hr, rfl⟩ := (isRo_iff I.R).mp h1
    have hL := R.ls 1 0 (by decide) rfl
    have hl := R.ls 6 r (by decide) hr
    have er := I.ln hr
    rw [nv_nI (by omega)]
    refine ⟨_, ⟨_, hm, rfl⟩, rb_isR_ref _, _, rfl, uRo (J4_get hL hr) (rb_dpk (by decide)) zr hL.ob ?_⟩
    refine ⟨_, rfl, 27, R.obR hr, cc_27, _, ⟨_, R.role hr, rfl⟩, rb_isR_ref _, _, rfl, uIo (J4_size hl) (rb_dpk (by decide)) zr hl.ob ?_⟩
    rw [show nI (lenL ms 6 r) = ms.1 25 r from er.1.symm]
    refine uI X0_in (rb_dpk (by decide)) zr ⟨fun h2 => ⟨zf, ?_, rfl⟩, fun h2 => ?_⟩ <;> rw [pIn0] at h2
    · rw [if_neg h2]
    · have h2 := Decidable.not_not.mp h2
      rw [if_pos h2]
      obtain ⟨j, hj, rfl⟩ := (pIn_n (I.L hr) (by decide)).mp h2
      obtain ⟨p, hp, ep⟩ := (I.role hr).2.1 j hj
      have hG := J4_get hl hj
      rw [lineE hp hpn.2 ep ad] at hG
      rw [nv_nI (by omega), ep]
      refine ⟨_, ⟨_, R.role hr, rfl⟩, rb_isR_ref _, _, rfl, uRo hG (rb_dpk (by decide)) zr hl.ob ?_⟩
      exact ⟨_, rfl, 5, R.obP hp, cc_5, _, ⟨_, R.part hp, rfl⟩, zf, rfl, rfl⟩
  · rw [F_line, if_pos h1]
theorem X0_chain (R : Rep g ms ad h ms0 M) (I : Inv B ms) {a m i : Int32} : rb_Ct g yX0_chain wX0_chain 3 (0, 0) [.ref (ad 0 0), .int a, .int m, .int i] M (qr (some (.int (F_chain ms a m i))) M) := by
  obtain ⟨sg, hm⟩ := R.main
  have hrn := I.rn
  have hpn := I.pn
  refine rb_Ct.of (by decide) (Nat.le_of_ble_eq_true rfl) rfl ?_
  refine sgX0_chain_0 (uIo (X0_isRole R I.R) (rb_dpk (by decide)) zr R.ob0 ⟨fun h1 => ⟨zf, ?_, rfl⟩, fun h1 => uI X0_in (rb_dpk (by decide)) zr ⟨fun h2 => ?_, fun h2 => ⟨zf, ?_, rfl⟩⟩⟩) <;> rw [pIn0] at *
  · rw [F_chain, if_pos (Or.inl h1)]
  · have h1 := Decidable.not_not.mp h1
    have h2 := Decidable.not_not.mp h2
    rw [F_chain, if_neg (by rintro (q | q); exact q h1; exact q h2)]
    obtain ⟨r, hr, rfl⟩ := (isRo_iff I.R).mp h1
    obtain ⟨m, hm', rfl⟩ := isM_iff.mp h2
    obtain ⟨⟨e1, e2⟩, hc⟩ := I.ch hr hm'
    have hL := R.ls 1 0 (by decide) rfl
    have hl := R.ls 7 r (by decide) hr
    have hk := R.ls 8 (12 * r + m) (by decide) (show 12 * r + m < 12 * nN ms 24 0 by omega)
    rw [nv_nI (by omega), nv_nI (by omega)]
    refine ⟨_, ⟨_, hm, rfl⟩, rb_isR_ref _, _, rfl, uRo (J4_get hL hr) (rb_dpk (by decide)) zr hL.ob ?_⟩
    refine ⟨_, rfl, 27, R.obR hr, cc_27, _, ⟨_, R.role hr, rfl⟩, rb_isR_ref _, _, rfl, uRo (J4_get hl hm') (rb_dpk (by decide)) zr hl.ob ?_⟩
    refine ⟨_, rfl, 7, hk.ob, cc_7, uIo (J4_size hk) (rb_dpk (by decide)) zr hk.ob ?_⟩
    rw [show nI (lenL ms 8 (12 * r + m)) = ms.1 28 (12 * r + m) from e1.symm]
    refine uI X0_in (rb_dpk (by decide)) zr ⟨fun h3 => ⟨zf, ?_, rfl⟩, fun h3 => ?_⟩ <;> rw [pIn0] at h3
    · rw [if_neg h3]
    · have h3 := Decidable.not_not.mp h3
      rw [if_pos h3]
      obtain ⟨t, ht, rfl⟩ := (pIn_n ((I.role hr).2.2.2.2.1 m hm').1 (by decide)).mp h3
      obtain ⟨k1, k2, k3, k4, k5⟩ := hc t ht
      have hG := J4_get hk ht
      rw [nv_nI (by omega)]
      refine uRo hG (rb_dpk (by decide)) zr hk.ob ⟨_, rfl, 6, ⟨_, R.body k2 k3⟩, cc_6, _, ⟨_, R.body k2 k3, rfl⟩, rb_isR_ref _, _, rfl, _, ⟨_, R.part k4, rfl⟩, uRo hG (rb_dpk (by decide)) zr hk.ob ⟨_, rfl, 6, ⟨_, R.body k2 k3⟩, cc_6, _, ⟨_, R.body k2 k3, rfl⟩, zf, ?_, rfl⟩⟩
      rw [show (2 : Int32) = nI 2 from rfl, pk_mul, chV, buse, if_neg (by omega)]
  · rw [F_chain, if_pos (Or.inr h2)]
theorem X0_alikeLoop {κ : rb_K} {r o n : Nat} (hκ : κ.1 = g) (R : Rep g ms ad h ms0 M) (I : Inv B ms) (hr : r < nN ms 24 0) (ho : o < nN ms 24 0) (hnr : n ≤ nN ms 25 r) (hno : n ≤ nN ms 25 o) (hd : rb_dp κ 2) (hz : rb_rom κ (0, 0)) (hf : rb_fin κ (0, 0))
    (hp : ∀ P : Prop, (P ↔ ∀ i, i < n → ms.1 26 (24 * r + i) = ms.1 26 (24 * o + i)) → κ.2.2.1 (.returned (some (.int (bz P)))) M) :
    ∀ d j, j + d = n → (∀ i, i < j → ms.1 26 (24 * r + i) = ms.1 26 (24 * o + i)) → rb_Bd κ mX0_isAlike (0, 0) M 31 [some (.ref (ad 10 r)), some (.ref (ad 10 o)), some (.int (nI n)), some (.int 1), some (.int (nI j))] [] := by
  subst hκ
  have hpn := I.pn
  have er := I.ln hr
  have hl := R.ls 6 r (by decide) hr
  have hl2 := R.ls 6 o (by decide) ho
  intro d
  induction d with
  | zero =>
    intro j hj hall
    obtain rfl : j = n := by omega
    have := hp True ⟨fun _ => hall, fun _ => trivial⟩
    rw [bz_t trivial] at this
    exact sgX0_isAlike_31 (rb_isR_ref _) (rb_isR_ref _) ⟨fun _ => ⟨rfl, hf, this⟩, fun h1 => absurd h1 (nI_nlt (Nat.le_refl _) (by omega))⟩
  | succ d ih =>
    intro j hj hall
    obtain ⟨p, hp1, ep⟩ := (I.role hr).2.1 j (by omega)
    obtain ⟨q, hq1, eq⟩ := (I.role ho).2.1 j (by omega)
    have hG := J4_get hl (show j < lenL ms 6 r from by show j < nN ms 25 r; omega)
    have hG2 := J4_get hl2 (show j < lenL ms 6 o from by show j < nN ms 25 o; omega)
    rw [lineE hp1 hpn.2 ep ad] at hG
    rw [lineE hq1 hpn.2 eq ad] at hG2
    refine sgX0_isAlike_31 (rb_isR_ref _) (rb_isR_ref _) ⟨fun h1 => absurd h1 (nI_ge (by omega) (by omega)), fun _ => ⟨fun h2 => absurd h2 (by decide), fun _ => ?_⟩⟩
    refine ⟨_, rfl, _, ⟨_, R.role hr, rfl⟩, rb_isR_ref _, _, rfl, uRo hG hd hz hl.ob ⟨_, rfl, _, ⟨_, R.role ho, rfl⟩, rb_isR_ref _, _, rfl, uRo hG2 hd hz hl2.ob ⟨fun h3 => ?_, fun h3 => ?_⟩⟩⟩
    · have hf' := hp False ⟨False.elim, fun q' => h3 (by
        have := q' j (by omega)
        rw [ep, eq, nI_eq (by omega) (by omega)] at this
        rw [this])⟩
      rw [bz_f id] at hf'
      exact sgX0_isAlike_31 (rb_isR_ref _) (rb_isR_ref _) ⟨fun _ => ⟨rfl, hf, hf'⟩, fun _ => ⟨fun _ => ⟨rfl, hf, hf'⟩, fun h4 => absurd rfl h4⟩⟩
    · rw [nI_1]
      refine ih (j + 1) (by omega) fun i hi => ?_
      rcases Nat.lt_or_ge i j with q' | q'
      · exact hall i q'
      · obtain rfl : i = j := by omega
        have h3 := Value.ref.inj h3
        have := (R.2.1 4 p 4 q hp1 hq1 h3).2
        rw [ep, eq, this]
theorem X0_isAlike (R : Rep g ms ad h ms0 M) (I : Inv B ms) {r o n : Nat} (hr : r < nN ms 24 0) (ho : o < nN ms 24 0) (hn : n < 2 ^ 31) : rb_Ct g yX0_isAlike wX0_isAlike 3 (0, 0) [.ref (ad 10 r), .ref (ad 10 o), .int (nI n)] M (qr (some (.int (bz (alike ms r o n)))) M) := by
  have e1 := I.ln hr
  have e2 := I.ln ho
  have hl := R.ls 6 r (by decide) hr
  have hl2 := R.ls 6 o (by decide) ho
  refine rb_Ct.of (by decide) (Nat.le_of_ble_eq_true rfl) rfl ?_
  have hbad : ¬ alike ms r o n → ∀ j, rb_Bd (g, rb_rm 3 (0, 0), qr (some (.int (bz (alike ms r o n)))) M, 0, 0) mX0_isAlike (0, 0) M 31 [some (.ref (ad 10 r)), some (.ref (ad 10 o)), some (.int (nI n)), some (.int 0), some (.int j)] [] := by
    intro hna j
    have hf : qr (some (.int (bz (alike ms r o n)))) M (.returned (some (.int 0))) M := ⟨by rw [bz_f hna], rfl⟩
    exact sgX0_isAlike_31 (rb_isR_ref _) (rb_isR_ref _) ⟨fun _ => ⟨rfl, zf, hf⟩, fun _ => ⟨fun _ => ⟨rfl, zf, hf⟩, fun h4 => absurd rfl h4⟩⟩
  refine sgX0_isAlike_0 (rb_isR_ref _) (rb_isR_ref _) ⟨_, rfl, _, ⟨_, R.role hr, rfl⟩, rb_isR_ref _, _, rfl, uIo (J4_size hl) (rb_dpk (by decide)) zr hl.ob ⟨fun h3 => hbad (fun q => ?_) _, fun h3 => ⟨_, rfl, _, ⟨_, R.role ho, rfl⟩, rb_isR_ref _, _, rfl, uIo (J4_size hl2) (rb_dpk (by decide)) zr hl2.ob ⟨fun h4 => hbad (fun q => ?_) _, fun h4 => ?_⟩⟩⟩⟩
  · have h3 := (nI_ltI (show lenL ms 6 r < 2 ^ 31 by show nN ms 25 r < _; omega) hn).mp h3
    have := q.1
    exact absurd h3 (Nat.not_lt.mpr this)
  · have h4 := (nI_ltI (show lenL ms 6 o < 2 ^ 31 by show nN ms 25 o < _; omega) hn).mp h4
    have := q.2.1
    exact absurd h4 (Nat.not_lt.mpr this)
  · have h3 := (nI_leI hn (show lenL ms 6 r < 2 ^ 31 by show nN ms 25 r < _; omega)).mp h3
    have h4 := (nI_leI hn (show lenL ms 6 o < 2 ^ 31 by show nN ms 25 o < _; omega)).mp h4
    refine X0_alikeLoop rfl R I hr ho h3 h4 (rb_dpk (by decide)) zr zf ?_ n 0 (by omega) (fun i hi => by omega)
    intro P hP
    exact ⟨by rw [bz_c (Q := alike ms r o n) (hP.trans ⟨fun q => ⟨h3, h4, q⟩, fun q => q.2.2⟩)], rfl⟩
theorem X0_isUnder (R : Rep g ms ad h ms0 M) (I : Inv B ms) {r o : Nat} (hr : r < nN ms 24 0) (ho : o < nN ms 24 0) : rb_Ct g yX0_isUnder wX0_isUnder 4 (0, 0) [.ref (ad 10 r), .ref (ad 10 o)] M (qr (some (.int (bz (alike ms r o (nN ms 25 o))))) M) := by
  have e2 := I.ln ho
  have hl2 := R.ls 6 o (by decide) ho
  refine rb_Ct.of (by decide) (Nat.le_of_ble_eq_true rfl) rfl ?_
  exact sgX0_isUnder_0 (rb_isR_ref _) (rb_isR_ref _) ⟨_, rfl, _, ⟨_, R.role ho, rfl⟩, rb_isR_ref _, _, rfl, uIo (J4_size hl2) (rb_dpk (by decide)) zr hl2.ob (uI (X0_isAlike R I (n := nN ms 25 o) hr ho (by omega)) (rb_dpk (by decide)) zr ⟨bz_nar, zf, rfl, rfl⟩)⟩
theorem X0_under (R : Rep g ms ad h ms0 M) (I : Inv B ms) {a b : Int32} : rb_Ct g yX0_under wX0_under 5 (0, 0) [.ref (ad 0 0), .int a, .int b] M (qr (some (.int (F_under ms a b))) M) := by
  obtain ⟨sg, hm⟩ := R.main
  have hrn := I.rn
  refine rb_Ct.of (by decide) (Nat.le_of_ble_eq_true rfl) rfl ?_
  refine sgX0_under_0 (uIo (X0_isRole R I.R) (rb_dpk (by decide)) zr R.ob0 ⟨fun h1 => ⟨zf, ?_, rfl⟩, fun h1 => uIo (X0_isRole R I.R) (rb_dpk (by decide)) zr R.ob0 ⟨fun h2 => ?_, fun h2 => ⟨zf, ?_, rfl⟩⟩⟩) <;> rw [pIn0] at *
  · rw [F_under, if_pos (Or.inl h1)]
  · have h1 := Decidable.not_not.mp h1
    have h2 := Decidable.not_not.mp h2
    rw [F_under, if_neg (by rintro (q | q); exact q h1; exact q h2)]
    obtain ⟨r, hr, rfl⟩ := (isRo_iff I.R).mp h1
    obtain ⟨o, ho, rfl⟩ := (isRo_iff I.R).mp h2
    have hL := R.ls 1 0 (by decide) rfl
    rw [nv_nI (by omega), nv_nI (by omega)]
    refine ⟨_, ⟨_, hm, rfl⟩, rb_isR_ref _, _, rfl, uRo (J4_get hL hr) (rb_dpk (by decide)) zr hL.ob ⟨_, rfl, 27, R.obR hr, cc_27, _, ⟨_, hm, rfl⟩, rb_isR_ref _, _, rfl, uRo (J4_get hL ho) (rb_dpk (by decide)) zr hL.ob ⟨_, rfl, 27, R.obR ho, cc_27, uI (X0_isUnder R I hr ho) (rb_dpk (by decide)) zr ⟨fun h3 => ⟨zf, ?_, rfl⟩, fun h3 => ⟨zf, ?_, rfl⟩⟩⟩⟩⟩
    · rw [h3]
    · rw [bz_t (bz_1.mp h3)]
  · rw [F_under, if_pos (Or.inr h2)]
end C2
