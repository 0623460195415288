set_option maxRecDepth 100000
section C13
variable {g : rb_G} {ms : mm_S} {ad : aD} {h : Nat} {ms0 : mm_S} {M : rb_H} {B : Nat}
theorem n9_ne {n : Nat} (h : n < 2 ^ 31) : nI n ≠ -9 := fun q => by
  have := nI_pos (n := n) h
  rw [q] at this
  exact this (by decide)
theorem X0_mix4 {κ : rb_K} {s p : Nat} {x0 x : Int64} (R : Rep g ms ad h ms0 M) (I : Inv B ms) (hs : stX ms s) (hp : p < nN ms 0 0) (hf : rb_fin κ (0, 0)) (hP : κ.2.2.1 (.returned (some (.long (dgF (fun k => (ms.1 45 (2 * s + k)).toInt64) (nN ms 3 p) x)))) M) :
    ∀ d j, j + d = nN ms 3 p → rb_Bd κ mX0_digest_2 (0, 0) M 118 [some (.long x0), none, some (.ref (ad 14 s)), some (.ref (ad 4 p)), some (.long (dgF (fun k => (ms.1 45 (2 * s + k)).toInt64) j x)), none, some (.int (nI j)), none] [] := by
  have e := (I.pt hp).2.2.1.n (by decide)
  have hon := I.on
  obtain ⟨c, hc, f, rfl, hfr⟩ := R.1 18 s hs
  obtain ⟨q1, q2, -⟩ := I.st hs
  intro d
  induction d with
  | zero =>
    intro j hj
    obtain rfl : j = nN ms 3 p := by omega
    refine sgX0_digest_2_118 (rb_isR_ref _) (rb_isR_ref _) ⟨_, rfl, _, ⟨_, R.part hp, rfl⟩, ?_⟩
    rw [e.1]
    exact ⟨fun _ => ⟨hf, hP⟩, fun q => absurd q (nI_nlt (Nat.le_refl _) (by omega))⟩
  | succ d ih =>
    intro j hj
    refine sgX0_digest_2_118 (rb_isR_ref _) (rb_isR_ref _) ⟨_, rfl, _, ⟨_, R.part hp, rfl⟩, fun q => absurd q (by rw [e.1]; exact nI_ge (by omega) (by omega)), fun _ => ?_⟩
    have hv : vp_in (nI j) 2 := vp_in_nI (by omega) (by decide)
    have ej : (nI j).toNatClampNeg = j := nI_clamp (by omega)
    have hfj := hfr j (by omega)
    have hho := (I.2.2.2.2.2.1.2.2 (s / 24) (s % 24) j q1 q2 (by omega)).2
    rw [show 24 * (s / 24) + s % 24 = s by omega] at hho
    rcases hho with h9 | ⟨z, hz, ez⟩
    · have hn : f j = none := by rw [hfj, hoRf, if_pos h9]
      refine ⟨_, rfl, _, ⟨_, R.state hs, rfl⟩, rb_isR_ref _, _, rfl, 6, 2, f, .null, hc, ⟨by decide, by decide⟩, hv, by rw [ej, hn]; rfl, fun _ => ?_, fun q h1 => (by cases h1)⟩
      rw [nI_1, ← h9]
      exact ih (j + 1) (by omega)
    · have hnz : nN ms 45 (2 * s + j) = z := by rw [nN, ez, nI_clamp (by omega)]
      have hn : f j = some (ad 13 z) := by rw [hfj, hoRf, if_neg (by rw [ez]; exact n9_ne (by omega)), hnz]
      refine ⟨_, rfl, _, ⟨_, R.state hs, rfl⟩, rb_isR_ref _, _, rfl, 6, 2, f, .ref (ad 13 z), hc, ⟨by decide, by decide⟩, hv, by rw [ej, hn]; rfl, fun h1 => (by cases h1), fun q h1 => ⟨_, ⟨_, R.state hs, rfl⟩, rb_isR_ref _, _, rfl, 6, 2, f, .ref (ad 13 z), hc, ⟨by decide, by decide⟩, hv, by rw [ej, hn]; rfl, _, rfl, _, ⟨_, R.thing hz, rfl⟩, ?_⟩⟩
      rw [nI_1, ← ez]
      exact ih (j + 1) (by omega)
theorem rwV_of {y : Nat} (hc : iN (ms.1 43 y) 12) : (if ms.1 43 y = -9 then (-1 : Int32) else ms.1 43 y).toInt64 = rwV ms y := by
  rw [rwV]
  rcases hc with q | q
  · rw [if_pos q, q, if_pos (by decide)]
  · have e := q.n (by decide)
    rw [if_neg (by rw [e.1]; exact n9_ne (by omega)), if_neg (by rw [e.1]; exact nI_pos (by omega))]
theorem X0_mix3 {κ : rb_K} {s p k : Nat} {x0 x : Int64} (R : Rep g ms ad h ms0 M) (I : Inv B ms) (hs : stX ms s) (hp : p < nN ms 0 0) (hsp : stP ms s = p) (hk : k < nN ms 2 p)
    (hP : rb_Bd κ mX0_digest_2 (0, 0) M 40 [some (.long x0), none, some (.ref (ad 14 s)), some (.ref (ad 4 p)), some (.long (dgF (fun j => ms.2 44 (12 * (2 * s + k) + j)) (nN ms 43 (2 * s + k)) x)), none, some (.int (nI (k + 1))), none] []) :
    ∀ d j, j + d = nN ms 43 (2 * s + k) → rb_Bd κ mX0_digest_2 (0, 0) M 69 [some (.long x0), none, some (.ref (ad 14 s)), some (.ref (ad 4 p)), some (.long (dgF (fun j => ms.2 44 (12 * (2 * s + k) + j)) j x)), none, some (.int (nI k)), some (.int (nI j))] [] := by
  have e := (I.pt hp).2.1.n (by decide)
  obtain ⟨c, hc, f, rfl, hfr⟩ := R.1 17 s hs
  obtain ⟨c2, hc2, f2, rfl, hfr2⟩ := R.1 16 s hs
  rw [hsp] at hc2 hfr2
  obtain ⟨q1, q2, -⟩ := I.st hs
  have hr := I.rw q1 q2 (show k < 2 by omega)
  rw [show 24 * (s / 24) + s % 24 = s by omega] at hr
  have hv : vp_in (nI k) 2 := vp_in_nI (by omega) (by decide)
  have ek : (nI k).toNatClampNeg = k := nI_clamp (by omega)
  have hfk := hfr k (by omega)
  have hle : nN ms 43 (2 * s + k) ≤ 12 := by
    rcases hr with q | q
    · rw [nN, q]; decide
    · exact (q.n (by decide)).2
  intro d
  induction d with
  | zero =>
    intro j hj
    obtain rfl : j = nN ms 43 (2 * s + k) := by omega
    refine sgX0_digest_2_69 (rb_isR_ref _) (rb_isR_ref _) ⟨_, rfl, _, ⟨_, R.state hs, rfl⟩, rb_isR_ref _, _, rfl, 2, f, _, hc, hv, rfl, ?_⟩
    rw [ek, hfk, nI_1]
    refine ⟨fun _ => rb_weak (by simp [rb_wk]) hP, fun q => ?_⟩
    exfalso
    rcases hr with r | r
    · rw [if_pos r] at q
      exact absurd (Int32.lt_trans q (by decide)) (nI_pos (by omega))
    · have er := r.n (by decide)
      rw [if_neg (by rw [er.1]; exact n9_ne (by omega)), er.1] at q
      exact absurd q (nI_nlt (Nat.le_refl _) (by omega))
  | succ d ih =>
    intro j hj
    have hB : iB (ms.1 43 (2 * s + k)) 12 := by
      rcases hr with q | q
      · exfalso
        have : nN ms 43 (2 * s + k) = 0 := by rw [nN, q]; decide
        omega
      · exact q
    have er := hB.n (by decide)
    have hne : ms.1 43 (2 * s + k) ≠ -9 := by rw [er.1]; exact n9_ne (by omega)
    refine sgX0_digest_2_69 (rb_isR_ref _) (rb_isR_ref _) ⟨_, rfl, _, ⟨_, R.state hs, rfl⟩, rb_isR_ref _, _, rfl, 2, f, _, hc, hv, rfl, ?_⟩
    rw [ek, hfk, if_neg hne]
    refine ⟨fun q => absurd q (by rw [er.1]; exact nI_ge (by omega) (by omega)), fun _ => ⟨_, ⟨_, R.state hs, rfl⟩, rb_isR_ref _, _, rfl, _, f2, _, hc2, ?_, rfl, ?_⟩⟩
    · rw [ix12]; exact vp_in_nI (by omega) (by omega)
    · rw [ix12, nI_clamp (by omega), hfr2 k j hk (by omega) hne, nI_1]
      exact ih (j + 1) (by omega)
theorem X0_mix2 {κ : rb_K} {s p : Nat} {x0 x : Int64} (R : Rep g ms ad h ms0 M) (I : Inv B ms) (hs : stX ms s) (hp : p < nN ms 0 0) (hsp : stP ms s = p)
    (hP : rb_Bd κ mX0_digest_2 (0, 0) M 118 [some (.long x0), none, some (.ref (ad 14 s)), some (.ref (ad 4 p)), some (.long (rwF ms s (nN ms 2 p) x)), none, some (.int 0), none] []) :
    ∀ d j, j + d = nN ms 2 p → rb_Bd κ mX0_digest_2 (0, 0) M 40 [some (.long x0), none, some (.ref (ad 14 s)), some (.ref (ad 4 p)), some (.long (rwF ms s j x)), none, some (.int (nI j)), none] [] := by
  have e := (I.pt hp).2.1.n (by decide)
  obtain ⟨c, hc, f, rfl, hfr⟩ := R.1 17 s hs
  obtain ⟨q1, q2, -⟩ := I.st hs
  intro d
  induction d with
  | zero =>
    intro j hj
    obtain rfl : j = nN ms 2 p := by omega
    refine sgX0_digest_2_40 (rb_isR_ref _) (rb_isR_ref _) ⟨_, rfl, _, ⟨_, R.part hp, rfl⟩, ?_⟩
    rw [e.1]
    exact ⟨fun _ => hP, fun q => absurd q (nI_nlt (Nat.le_refl _) (by omega))⟩
  | succ d ih =>
    intro j hj
    refine sgX0_digest_2_40 (rb_isR_ref _) (rb_isR_ref _) ⟨_, rfl, _, ⟨_, R.part hp, rfl⟩, fun q => absurd q (by rw [e.1]; exact nI_ge (by omega) (by omega)), fun _ => ⟨_, rfl, _, ⟨_, R.state hs, rfl⟩, rb_isR_ref _, _, rfl, 2, f, _, hc, vp_in_nI (by omega) (by decide), rfl, ?_⟩⟩
    have hr := I.rw q1 q2 (show j < 2 by omega)
    rw [show 24 * (s / 24) + s % 24 = s by omega] at hr
    rw [nI_clamp (by omega), hfr j (by omega), rwV_of hr]
    exact X0_mix3 (x := 31 * rwF ms s j x + rwV ms (2 * s + j)) R I hs hp hsp (by omega) (ih (j + 1) (by omega)) (nN ms 43 (2 * s + j)) 0 (by omega)
theorem X0_mix1 {κ : rb_K} {s p : Nat} {x0 x : Int64} (R : Rep g ms ad h ms0 M) (I : Inv B ms) (hs : stX ms s) (hp : p < nN ms 0 0) (hsp : stP ms s = p)
    (hP : rb_Bd κ mX0_digest_2 (0, 0) M 40 [some (.long x0), none, some (.ref (ad 14 s)), some (.ref (ad 4 p)), some (.long (dgF (fun k => ms.2 42 (4 * s + k)) (nN ms 1 p) x)), none, some (.int 0), none] []) :
    ∀ d j, j + d = nN ms 1 p → rb_Bd κ mX0_digest_2 (0, 0) M 6 [some (.long x0), none, some (.ref (ad 14 s)), some (.ref (ad 4 p)), some (.long (dgF (fun k => ms.2 42 (4 * s + k)) j x)), none, some (.int (nI j)), none] [] := by
  have e := (I.pt hp).1.n (by decide)
  obtain ⟨c, hc, f, rfl, hfr⟩ := R.1 15 s hs
  rw [hsp] at hc hfr
  intro d
  induction d with
  | zero =>
    intro j hj
    obtain rfl : j = nN ms 1 p := by omega
    refine sgX0_digest_2_6 (rb_isR_ref _) (rb_isR_ref _) ⟨_, rfl, _, ⟨_, R.part hp, rfl⟩, ?_⟩
    rw [e.1]
    exact ⟨fun _ => hP, fun q => absurd q (nI_nlt (Nat.le_refl _) (by omega))⟩
  | succ d ih =>
    intro j hj
    refine sgX0_digest_2_6 (rb_isR_ref _) (rb_isR_ref _) ⟨_, rfl, _, ⟨_, R.part hp, rfl⟩, fun q => absurd q (by rw [e.1]; exact nI_ge (by omega) (by omega)), fun _ => ⟨_, rfl, _, ⟨_, R.state hs, rfl⟩, rb_isR_ref _, _, rfl, _, f, _, hc, vp_in_nI (by omega) (by omega), rfl, ?_⟩⟩
    rw [nI_clamp (by omega), hfr j (by omega), nI_1]
    exact ih (j + 1) (by omega)
theorem X0_digest_2 (R : Rep g ms ad h ms0 M) (I : Inv B ms) {s p : Nat} {x : Int64} (hs : stX ms s) (hp : p < nN ms 0 0) (hsp : stP ms s = p) : rb_Ct g yX0_digest_2 wX0_digest_2 0 (0, 0) [.long x, .ref (ad 14 s), .ref (ad 4 p)] M (qr (some (.long (mixF ms s p x))) M) := by
  refine rb_Ct.of (by decide) (Nat.le_of_ble_eq_true rfl) rfl ?_
  refine sgX0_digest_2_0 (rb_isR_ref _) (rb_isR_ref _) ?_
  refine X0_mix1 (x := x) R I hs hp hsp ?_ (nN ms 1 p) 0 (by omega)
  refine X0_mix2 (x := dgF (fun k => ms.2 42 (4 * s + k)) (nN ms 1 p) x) R I hs hp hsp ?_ (nN ms 2 p) 0 (by omega)
  refine X0_mix4 (x := rwF ms s (nN ms 2 p) (dgF (fun k => ms.2 42 (4 * s + k)) (nN ms 1 p) x)) R I hs hp zf ?_ (nN ms 3 p) 0 (by omega)
  exact ⟨rfl, rfl⟩
theorem X0_dg6 {κ : rb_K} {x : Int64} (R : Rep g ms ad h ms0 M) (hf : rb_fin κ (0, 0)) (hP : κ.2.2.1 (.returned (some (.long (dgF (ms.2 46) 8 x)))) M) : ∀ d j, j + d = 8 → rb_Bd κ mX0_digest (0, 0) M 232 [some (.ref (ad 0 0)), some (.long (dgF (ms.2 46) j x)), none, some (.int (nI j)), none, none] [] := by
  obtain ⟨sg, hm⟩ := R.main
  obtain ⟨c, hc, f, rfl, hfr⟩ := R.1 59 0 rfl
  intro d
  induction d with
  | zero =>
    intro j hj
    obtain rfl : j = 8 := by omega
    exact sgX0_digest_232 ⟨fun _ => ⟨hf, hP⟩, fun q => absurd q (by decide)⟩
  | succ d ih =>
    intro j hj
    refine sgX0_digest_232 ⟨fun q => absurd q (nI_ge (b := 8) (by omega) (by decide)), fun _ => ⟨_, ⟨_, hm, rfl⟩, rb_isR_ref _, _, rfl, 8, f, _, hc, vp_in_nI (by omega) (by decide), rfl, ?_⟩⟩
    rw [nI_1, nI_clamp (by omega), hfr j (by omega)]
    exact ih (j + 1) (by omega)
theorem X0_dg5 {κ : rb_K} {o : Nat} {x : Int64} (hκ : κ.1 = g) (R : Rep g ms ad h ms0 M) (I : Inv B ms) (hd : rb_dp κ 2) (hd0 : rb_dp κ 0) (hz : rb_rom κ (0, 0)) (ho : o < nN ms 40 0)
    (hP : rb_Bd κ mX0_digest (0, 0) M 128 [some (.ref (ad 0 0)), some (.long (plF ms o (nN ms 25 (nN ms 41 o)) x)), none, some (.int (nI (o + 1))), none, none] []) :
    ∀ d j, j + d = nN ms 25 (nN ms 41 o) → rb_Bd κ mX0_digest (0, 0) M 171 [some (.ref (ad 0 0)), some (.long (plF ms o j x)), none, some (.int (nI o)), some (.ref (ad 13 o)), some (.int (nI j))] [] := by
  subst hκ
  have hpn := I.pn
  have hon := I.on
  have er := I.ro ho
  have hl := I.ln er.2
  have hS := R.ls 9 o (by decide) ho
  have hL := R.ls 6 (nN ms 41 o) (by decide) er.2
  intro d
  induction d with
  | zero =>
    intro j hj
    obtain rfl : j = nN ms 25 (nN ms 41 o) := by omega
    refine sgX0_digest_171 (rb_isR_ref _) ⟨_, rfl, _, ⟨_, R.thing ho, rfl⟩, rb_isR_ref _, _, rfl, uIo (J4_size hS) hd0 hz hS.ob ⟨fun _ => ?_, fun q => absurd q (nI_nlt (Nat.le_refl _) (by omega))⟩⟩
    rw [nI_1]
    exact rb_weak (by simp [rb_wk]) hP
  | succ d ih =>
    intro j hj
    have hj2 : j < nN ms 25 (nN ms 41 o) := by omega
    obtain ⟨p, hp, ep⟩ := (I.role er.2).2.1 j hj2
    have ep2 : nN ms 26 (24 * nN ms 41 o + j) = p := by rw [nN, ep, nI_clamp (by omega)]
    have hG := J4_get hL hj2
    rw [lineE hp hpn.2 ep ad] at hG
    have hs : stX ms (24 * o + j) := Or.inl (by
      rw [show (24 * o + j) / 24 = o by omega, show (24 * o + j) % 24 = j by omega]
      exact ⟨ho, hj2⟩)
    have hsp : stP ms (24 * o + j) = p := by
      rw [stP, if_neg (by omega), show (24 * o + j) / 24 = o by omega, show (24 * o + j) % 24 = j by omega, ep2]
    refine sgX0_digest_171 (rb_isR_ref _) ⟨_, rfl, _, ⟨_, R.thing ho, rfl⟩, rb_isR_ref _, _, rfl, uIo (J4_size hS) hd0 hz hS.ob ⟨fun q => absurd q (nI_ge (by show j < nN ms 25 (nN ms 41 o); omega) (by show nN ms 25 (nN ms 41 o) < _; omega)), fun _ => ?_⟩⟩
    refine ⟨_, ⟨_, R.thing ho, rfl⟩, rb_isR_ref _, _, rfl, uRo (J4_get hS hj2) hd hz hS.ob ⟨_, rfl, 28, ⟨_, R.state hs⟩, cc_28, _, ⟨_, R.thing ho, rfl⟩, rb_isR_ref _, _, rfl, _, ⟨_, R.role er.2, rfl⟩, rb_isR_ref _, _, rfl, uRo hG hd hz hL.ob ⟨_, rfl, 5, R.obP hp, cc_5, uL (X0_digest_2 R I hs hp hsp) hd0 hz ?_⟩⟩⟩
    rw [nI_1]
    have := ih (j + 1) (by omega)
    simp only [plF, ep2] at this
    exact this
theorem X0_dg4 {κ : rb_K} {x : Int64} (hκ : κ.1 = g) (R : Rep g ms ad h ms0 M) (I : Inv B ms) (hd : rb_dp κ 2) (hd0 : rb_dp κ 0) (hz : rb_rom κ (0, 0))
    (hP : rb_Bd κ mX0_digest (0, 0) M 232 [some (.ref (ad 0 0)), some (.long (obF ms (nN ms 40 0) x)), none, some (.int 0), none, none] []) :
    ∀ d j, j + d = nN ms 40 0 → rb_Bd κ mX0_digest (0, 0) M 128 [some (.ref (ad 0 0)), some (.long (obF ms j x)), none, some (.int (nI j)), none, none] [] := by
  have hon := I.on
  obtain ⟨sg, hm⟩ := R.main
  have hT := R.ls 2 0 (by decide) rfl
  subst hκ
  intro d
  induction d with
  | zero =>
    intro j hj
    obtain rfl : j = nN ms 40 0 := by omega
    exact sgX0_digest_128 ⟨_, ⟨_, hm, rfl⟩, rb_isR_ref _, _, rfl, uIo (J4_size hT) hd0 hz hT.ob ⟨fun _ => hP, fun q => absurd q (nI_nlt (Nat.le_refl _) (by omega))⟩⟩
  | succ d ih =>
    intro j hj
    have hj2 : j < nN ms 40 0 := by omega
    refine sgX0_digest_128 ⟨_, ⟨_, hm, rfl⟩, rb_isR_ref _, _, rfl, uIo (J4_size hT) hd0 hz hT.ob ⟨fun q => absurd q (nI_ge (by show j < nN ms 40 0; omega) (by show nN ms 40 0 < _; omega)), fun _ => ⟨_, ⟨_, hm, rfl⟩, rb_isR_ref _, _, rfl, uRo (J4_get hT hj2) hd hz hT.ob ⟨_, rfl, 29, ⟨_, R.thing hj2⟩, cc_29, _, ⟨_, R.thing hj2, rfl⟩, rb_isR_ref _, _, rfl, _, ⟨_, R.role (I.ro hj2).2, rfl⟩, ?_⟩⟩⟩⟩
    show rb_Bd κ mX0_digest (0, 0) M 171 [some (.ref (ad 0 0)), some (.long (31 * obF ms j x + (nI (nN ms 41 j)).toInt64)), none, some (.int (nI j)), some (.ref (ad 13 j)), some (.int 0)] []
    rw [← (I.ro hj2).1]
    exact X0_dg5 (x := 31 * obF ms j x + (ms.1 41 j).toInt64) rfl R I hd hd0 hz hj2 (ih (j + 1) (by omega)) (nN ms 25 (nN ms 41 j)) 0 (by omega)
theorem X0_dg3 {κ : rb_K} {r : Nat} {x : Int64} (hκ : κ.1 = g) (R : Rep g ms ad h ms0 M) (I : Inv B ms) (hd : rb_dp κ 4) (hd0 : rb_dp κ 0) (hz : rb_rom κ (0, 0)) (hr : r < nN ms 24 0)
    (hP : rb_Bd κ mX0_digest (0, 0) M 6 [some (.ref (ad 0 0)), some (.long (dgF (fun i => (ms.1 32 (24 * stepF ms r (i + 1) + i)).toInt64) (nN ms 25 r) x)), none, some (.int (nI (r + 1))), none, none] []) :
    ∀ d j, j + d = nN ms 25 r → rb_Bd κ mX0_digest (0, 0) M 79 [some (.ref (ad 0 0)), some (.long (dgF (fun i => (ms.1 32 (24 * stepF ms r (i + 1) + i)).toInt64) j x)), none, some (.int (nI r)), some (.ref (ad 10 r)), some (.int (nI j))] [] := by
  have hrn := I.rn
  have hl := I.ln hr
  have hL := R.ls 6 r (by decide) hr
  subst hκ
  intro d
  induction d with
  | zero =>
    intro j hj
    obtain rfl : j = nN ms 25 r := by omega
    refine sgX0_digest_79 (rb_isR_ref _) ⟨_, rfl, _, ⟨_, R.role hr, rfl⟩, rb_isR_ref _, _, rfl, uIo (J4_size hL) hd0 hz hL.ob ⟨fun _ => ?_, fun q => absurd q (nI_nlt (Nat.le_refl _) (by omega))⟩⟩
    rw [nI_1]
    exact rb_weak (by simp [rb_wk]) hP
  | succ d ih =>
    intro j hj
    have hj2 : j < nN ms 25 r := by omega
    have hs := stepF_spec (ms := ms) (r := r) (n := j + 1) hj2
    have hsr : stepF ms r (j + 1) < nN ms 24 0 := by have := hs.1; omega
    obtain ⟨c, hc, f, rfl, hf⟩ := R.1 12 (stepF ms r (j + 1)) hsr
    refine sgX0_digest_79 (rb_isR_ref _) ⟨_, rfl, _, ⟨_, R.role hr, rfl⟩, rb_isR_ref _, _, rfl, uIo (J4_size hL) hd0 hz hL.ob ⟨fun q => absurd q (nI_ge (by show j < nN ms 25 r; omega) (by show nN ms 25 r < _; omega)), fun _ => uRo (X0_stepOf R I hr hj2) hd hz R.ob0 ⟨_, rfl, _, ⟨_, R.role hsr, rfl⟩, rb_isR_ref _, _, rfl, 24, f, _, hc, vp_in_nI (by omega) (by decide), rfl, ?_⟩⟩⟩
    rw [nI_clamp (by omega), hf j (by have := hs.2.1.2.1; omega), nI_1]
    exact ih (j + 1) (by omega)
theorem X0_dg2 {κ : rb_K} {r : Nat} {x : Int64} (hκ : κ.1 = g) (R : Rep g ms ad h ms0 M) (I : Inv B ms) (hd : rb_dp κ 2) (hd0 : rb_dp κ 0) (hz : rb_rom κ (0, 0)) (hr : r < nN ms 24 0)
    (hP : rb_Bd κ mX0_digest (0, 0) M 79 [some (.ref (ad 0 0)), some (.long (dgF (fun i => (ms.1 26 (24 * r + i)).toInt64) (nN ms 25 r) x)), none, some (.int (nI r)), some (.ref (ad 10 r)), some (.int 0)] []) :
    ∀ d j, j + d = nN ms 25 r → rb_Bd κ mX0_digest (0, 0) M 33 [some (.ref (ad 0 0)), some (.long (dgF (fun i => (ms.1 26 (24 * r + i)).toInt64) j x)), none, some (.int (nI r)), some (.ref (ad 10 r)), some (.int (nI j))] [] := by
  have hpn := I.pn
  have hl := I.ln hr
  have hL := R.ls 6 r (by decide) hr
  subst hκ
  intro d
  induction d with
  | zero =>
    intro j hj
    obtain rfl : j = nN ms 25 r := by omega
    exact sgX0_digest_33 (rb_isR_ref _) ⟨_, rfl, _, ⟨_, R.role hr, rfl⟩, rb_isR_ref _, _, rfl, uIo (J4_size hL) hd0 hz hL.ob ⟨fun _ => hP, fun q => absurd q (nI_nlt (Nat.le_refl _) (by omega))⟩⟩
  | succ d ih =>
    intro j hj
    have hj2 : j < nN ms 25 r := by omega
    obtain ⟨p, hp, ep⟩ := (I.role hr).2.1 j hj2
    have hG := J4_get hL hj2
    rw [lineE hp hpn.2 ep ad] at hG
    refine sgX0_digest_33 (rb_isR_ref _) ⟨_, rfl, _, ⟨_, R.role hr, rfl⟩, rb_isR_ref _, _, rfl, uIo (J4_size hL) hd0 hz hL.ob ⟨fun q => absurd q (nI_ge (by show j < nN ms 25 r; omega) (by show nN ms 25 r < _; omega)), fun _ => ⟨_, ⟨_, R.role hr, rfl⟩, rb_isR_ref _, _, rfl, uRo hG hd hz hL.ob ⟨_, rfl, 5, R.obP hp, cc_5, _, ⟨_, R.part hp, rfl⟩, ?_⟩⟩⟩⟩
    rw [← ep, nI_1]
    exact ih (j + 1) (by omega)
theorem X0_dg1 {κ : rb_K} (hκ : κ.1 = g) (R : Rep g ms ad h ms0 M) (I : Inv B ms) (hd4 : rb_dp κ 4) (hd : rb_dp κ 2) (hd0 : rb_dp κ 0) (hz : rb_rom κ (0, 0))
    (hP : rb_Bd κ mX0_digest (0, 0) M 128 [some (.ref (ad 0 0)), some (.long (rlF ms (nN ms 24 0))), none, some (.int 0), none, none] []) :
    ∀ d j, j + d = nN ms 24 0 → rb_Bd κ mX0_digest (0, 0) M 6 [some (.ref (ad 0 0)), some (.long (rlF ms j)), none, some (.int (nI j)), none, none] [] := by
  have hrn := I.rn
  obtain ⟨sg, hm⟩ := R.main
  have hL := R.ls 1 0 (by decide) rfl
  subst hκ
  intro d
  induction d with
  | zero =>
    intro j hj
    obtain rfl : j = nN ms 24 0 := by omega
    exact sgX0_digest_6 ⟨_, ⟨_, hm, rfl⟩, rb_isR_ref _, _, rfl, uIo (J4_size hL) hd0 hz hL.ob ⟨fun _ => hP, fun q => absurd q (nI_nlt (Nat.le_refl _) (by omega))⟩⟩
  | succ d ih =>
    intro j hj
    have hj2 : j < nN ms 24 0 := by omega
    refine sgX0_digest_6 ⟨_, ⟨_, hm, rfl⟩, rb_isR_ref _, _, rfl, uIo (J4_size hL) hd0 hz hL.ob ⟨fun q => absurd q (nI_ge (by show j < nN ms 24 0; omega) (by show nN ms 24 0 < _; omega)), fun _ => ⟨_, ⟨_, hm, rfl⟩, rb_isR_ref _, _, rfl, uRo (J4_get hL hj2) hd hz hL.ob ⟨_, rfl, 27, R.obR hj2, cc_27, ?_⟩⟩⟩⟩
    refine X0_dg2 (x := rlF ms j) rfl R I hd hd0 hz hj2 ?_ (nN ms 25 j) 0 (by omega)
    exact X0_dg3 (x := dgF (fun i => (ms.1 26 (24 * j + i)).toInt64) (nN ms 25 j) (rlF ms j)) rfl R I hd4 hd0 hz hj2 (ih (j + 1) (by omega)) (nN ms 25 j) 0 (by omega)
theorem X0_digest (R : Rep g ms ad h ms0 M) (I : Inv B ms) : rb_Ct g yX0_digest wX0_digest 5 (0, 0) [.ref (ad 0 0)] M (qr (some (.long (F_digest ms))) M) := by
  obtain ⟨X, hX⟩ : ∃ X, X = rlF ms (nN ms 24 0) := ⟨_, rfl⟩
  obtain ⟨Y, hY⟩ : ∃ Y, Y = obF ms (nN ms 40 0) X := ⟨_, rfl⟩
  obtain ⟨Z, hZ⟩ : ∃ Z, Z = F_digest ms := ⟨_, rfl⟩
  rw [← hZ]
  have hZ2 : Z = dgF (ms.2 46) 8 Y := by rw [hZ, F_digest, ← hX, ← hY]
  refine rb_Ct.of (by decide) (Nat.le_of_ble_eq_true rfl) rfl ?_
  refine sgX0_digest_0 ?_
  have k6 := X0_dg6 (κ := (g, rb_rm 5 (0, 0), qr (some (.long Z)) M, 0, 0)) (x := Y) R zf ⟨by rw [hZ2], rfl⟩ 8 0 (by omega)
  have k4 := X0_dg4 (κ := (g, rb_rm 5 (0, 0), qr (some (.long Z)) M, 0, 0)) (x := X) rfl R I (rb_dpk (by decide)) (rb_dpk (by decide)) zr (by rw [← hY]; exact k6) (nN ms 40 0) 0 (by omega)
  have k1 := X0_dg1 (κ := (g, rb_rm 5 (0, 0), qr (some (.long Z)) M, 0, 0)) rfl R I (rb_dpk (by decide)) (rb_dpk (by decide)) (rb_dpk (by decide)) zr (by rw [← hX]; exact k4) (nN ms 24 0) 0 (by omega)
  exact k1
end C13
