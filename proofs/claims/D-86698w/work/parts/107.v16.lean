set_option maxRecDepth 100000
/-! weaving, the class's side: a new role; its chains -/
theorem rb_Ct.wf {g : rb_G} {y : MethodName} {w : Cond} {d : Nat} {n : Nat × Nat} {as : List Value} {M : rb_H} {Post : Outcome → rb_H → Prop} (h : rb_Ct g y w d n as M Post) : rb_Ct g y w d n as M (fun o M' => Post o M' ∧ rb_Wf g M') := by
  intro hg p e ha hc hk s m args below hf happ hP hK
  obtain ⟨n, o, h1, h2, h3, ⟨M', q1, q2⟩, h4⟩ := h hg p e ha hc hk s m args below hf happ hP hK
  exact ⟨n, o, h1, h2, h3, ⟨M', ⟨q1, q2.wf hg⟩, q2⟩, h4⟩
theorem rb_Ct.imp {g : rb_G} {y : MethodName} {w : Cond} {d : Nat} {n : Nat × Nat} {as : List Value} {M : rb_H} {P Q : Outcome → rb_H → Prop} (h : rb_Ct g y w d n as M P) (hq : ∀ o M', P o M' → Q o M') : rb_Ct g y w d n as M Q := by
  intro hg p e ha hc hk s m args below hf happ hP hK
  obtain ⟨n, o, h1, h2, h3, ⟨M', q1, q2⟩, h4⟩ := h hg p e ha hc hk s m args below hf happ hP hK
  exact ⟨n, o, h1, h2, h3, ⟨M', hq _ _ q1, q2⟩, h4⟩
section V16
variable {g : rb_G} {ms ms0 : mm_S} {ad : aD} {h : Nat} {B : Nat} {κ : rb_K} {M : rb_H} {fI fB : Nat → Int32} {b0 R : Nat} {fa : Nat → Option Nat} {l : List Nat}
theorem X27_init {a0 : Nat} {x : Int32} (h0 : M.2 a0 = some (rb_O 27 [.int 0, .null, .null, .null, .null])) : rb_Ct g yX27_init wX27_init 4 (4, 34) [.ref a0, .int x] M (fun o M' => o = .returned none ∧ M'.2 a0 = some (rb_O 27 [.int x, .ref M.1, .ref (M.1 + 1), .ref (M.1 + 2), .ref (M.1 + 3)]) ∧ M'.2 M.1 = some (rb_O 7 [.int 0, .ref (rb_dc g), .int 0]) ∧ M'.2 (M.1 + 1) = some (rb_O 7 [.int 0, .ref (rb_dc g), .int 0]) ∧ M'.2 (M.1 + 2) = some (rb_R 4 4 (fun _ => none)) ∧ M'.2 (M.1 + 3) = some (rb_I 24 (fun _ => 0)) ∧ ∀ b, b ≠ a0 → b < M.1 → M'.2 b = M.2 b) := by
  refine rb_Ct.of (by decide) (Nat.le_of_ble_eq_true rfl) rfl ?_
  refine rb_know fun hw => ?_
  have hlt := (hw.2.2 _ _ h0).2
  have e0 : ∀ {X : rb_H} {e : rb_E} {fs : List Value}, a0 < X.1 → X.2 a0 = some (rb_O 27 fs) → (rb_nw X e).2 a0 = some (rb_O 27 fs) := fun hl hX => by rw [rb_nw_ne (Nat.ne_of_lt hl)]; exact hX
  refine sgX27_init_0 ⟨rb_dpk (by decide), ⟨nb rfl, nb rfl⟩, 7, _, _, _, J4_init rb_nw_eq, rb_dpk (by decide), ⟨nb rfl, nb rfl⟩, ⟨_, rb_nw_eq⟩, ?_⟩
  rintro _ _ ⟨rfl, rfl⟩
  rw [rb_up_nw]
  refine ⟨rfl, _, e0 hlt h0, nl rfl, ⟨nb rfl, nb rfl⟩, 7, _, _, _, J4_init rb_nw_eq, rb_dpk (by decide), ⟨nb rfl, nb rfl⟩, ⟨_, rb_nw_eq⟩, ?_⟩
  rintro _ _ ⟨rfl, rfl⟩
  have hne : a0 ≠ M.1 + 1 := by omega
  refine ⟨rfl, _, (rb_up_ne hne).trans (e0 (show a0 < M.1 + 1 by omega) rb_up_eq), nl rfl, 4, rfl, by decide, ⟨nb rfl, nb rfl⟩, _, e0 (show a0 < M.1 + 1 + 1 by omega) rb_up_eq, nl rfl, 24, rfl, by decide, ⟨nb rfl, nb rfl⟩, _, e0 (show a0 < M.1 + 1 + 1 + 1 by omega) rb_up_eq, nl rfl, _, rb_up_eq, nl rfl, ⟨nb rfl, nb rfl⟩, rfl, rb_up_eq, ?_, ?_, ?_, ?_, ?_⟩
  · simp [rb_up, rb_nw, va_up, show ¬ M.1 = a0 by omega, show ¬ M.1 = M.1 + 1 + 1 + 1 by omega, show ¬ M.1 = M.1 + 1 + 1 by omega]
  · simp [rb_up, rb_nw, va_up, show ¬ M.1 + 1 = a0 by omega]
  · simp [rb_up, rb_nw, va_up, show ¬ M.1 + 2 = a0 by omega]
  · simp [rb_up, rb_nw, va_up, show ¬ M.1 + 3 = a0 by omega]
  · intro b hb hb2
    simp [rb_up, rb_nw, va_up, hb, show ¬ b = M.1 by omega, show ¬ b = M.1 + 1 by omega, show ¬ b = M.1 + 1 + 1 by omega, show ¬ b = M.1 + 1 + 1 + 1 by omega, show ¬ b = M.1 + 2 by omega, show ¬ b = M.1 + 3 by omega]
theorem bRf_no {b : Nat} (e : ms.1 10 b = -9) : va_rf (bRf ms ad b) = .null := by unfold bRf; rw [if_pos e]; rfl
theorem bRf_yes {b : Nat} (e : ¬ ms.1 10 b = -9) : va_rf (bRf ms ad b) = .ref (ad 8 b) := by unfold bRf; rw [if_neg e]; rfl
theorem Rep.gv (R : Rep g ms ad h ms0 M) {p m : Nat} (hp : p < nN ms 0 0) (hm : m < 12) : ∃ f, M.2 (ad 5 p) = some (rb_R 4 12 f) ∧ va_rf (f (nI m).toNatClampNeg) = va_rf (bRf ms ad (25 * p + m)) := by
  obtain ⟨c, h1, f, rfl, h2⟩ := R.1 5 p hp
  exact ⟨f, h1, by rw [nI_clamp (by omega), h2 m hm]⟩
theorem Rep.gd (R : Rep g ms ad h ms0 M) {p m : Nat} (hp : p < nN ms 0 0) (hm : m < 12) : ∃ f, M.2 (ad 6 p) = some (rb_R 4 12 f) ∧ va_rf (f (nI m).toNatClampNeg) = va_rf (bRf ms ad (25 * p + 12 + m)) := by
  obtain ⟨c, h1, f, rfl, h2⟩ := R.1 6 p hp
  exact ⟨f, h1, by rw [nI_clamp (by omega), h2 m hm]⟩
/-- the guard in the chain -/
def gdP (ms : mm_S) (m p : Nat) : List Nat := if ms.1 10 (25 * p + 12 + m) = -9 then [] else [25 * p + 12 + m]
theorem chP_n {m p : Nat} (e : ms.1 10 (25 * p + m) = -9 ∨ exc ms p m) : chP ms m p = gdP ms m p := by
  unfold chP gdP
  rw [show 12 * 0 + m = m by omega, show 25 * p + (12 * 1 + m) = 25 * p + 12 + m by omega, if_neg (fun q => e.elim q.1 q.2)]
  by_cases k : ms.1 10 (25 * p + 12 + m) = -9
  · simp [k]
  · simp [k]
theorem chP_y {m p : Nat} (e : ¬ ms.1 10 (25 * p + m) = -9) (e2 : ¬ exc ms p m) : chP ms m p = [25 * p + m] ++ gdP ms m p := by
  unfold chP gdP
  rw [show 12 * 0 + m = m by omega, show 25 * p + (12 * 1 + m) = 25 * p + 12 + m by omega, if_pos ⟨e, e2⟩]
  by_cases k : ms.1 10 (25 * p + 12 + m) = -9
  · simp [k]
  · simp [k]
theorem chP_ok {m p b : Nat} (hp : p < 24) (hm : m < 12) (hb : b ∈ chP ms m p) : b < 600 ∧ ms.1 10 b ≠ -9 ∧ b % 25 ≠ 24 := by
  have hg : ∀ b, b ∈ gdP ms m p → b < 600 ∧ ms.1 10 b ≠ -9 ∧ b % 25 ≠ 24 := by
    intro b hb
    unfold gdP at hb
    by_cases k : ms.1 10 (25 * p + 12 + m) = -9
    · rw [if_pos k] at hb; cases hb
    · rw [if_neg k, List.mem_singleton] at hb
      subst hb
      exact ⟨by omega, k, by omega⟩
  by_cases e : ms.1 10 (25 * p + m) = -9 ∨ exc ms p m
  · rw [chP_n e] at hb; exact hg b hb
  · rw [chP_y (fun q => e (Or.inl q)) (fun q => e (Or.inr q)), List.mem_append, List.mem_singleton] at hb
    rcases hb with rfl | hb
    · exact ⟨by omega, fun q => e (Or.inl q), by omega⟩
    · exact hg b hb
theorem chL_ok {m b : Nat} (hm : m < 12) : ∀ l : List Nat, (∀ p, p ∈ l → p < 24) → b ∈ chL ms m l → b < 600 ∧ ms.1 10 b ≠ -9 ∧ b % 25 ≠ 24 := by
  intro l
  induction l with
  | nil => intro _ hb; cases hb
  | cons p l ih =>
    intro hl hb
    unfold chL at hb
    rcases List.mem_append.mp hb with q | q
    · exact chP_ok (hl p (List.mem_cons_self ..)) hm q
    · exact ih (fun p hp => hl p (List.mem_cons_of_mem _ hp)) q
theorem chL_chOk {m : Nat} (hm : m < 12) (hl : l.length ≤ 24) (hp : ∀ p, p ∈ l → p < 24) : chOk ms (chL ms m l) := ⟨by have := chL_len ms m l; omega, fun b hb => chL_ok hm l hp hb⟩
/-- the chains so far: the chain of m is cur -/
noncomputable def chA (ms : mm_S) (l : List Nat) (m : Nat) (cur : List Nat) (k : Nat) : List Nat := if k = m then cur else chL ms k l
theorem chA_s {m : Nat} {cur : List Nat} : chA ms l m cur m = cur := if_pos rfl
theorem chA_n {m k : Nat} {cur : List Nat} (hk : k ≠ m) : chA ms l m cur k = chL ms k l := if_neg hk
theorem chA_f {m : Nat} : chA ms l m (chL ms m l) = fun k => chL ms k l := by
  funext k
  by_cases e : k = m
  · rw [e, chA_s]
  · rw [chA_n e]
theorem Rep.obB (R : Rep g ms ad h ms0 M) {b : Nat} (hb : b < 600) (h2 : ms.1 10 b ≠ -9) : obE M (ad 8 b) := ⟨6, rfl, _, R.body hb h2⟩
theorem Rep.obPe (R : Rep g ms ad h ms0 M) {p : Nat} (hp : p < nN ms 0 0) : obE M (ad 4 p) := ⟨5, rfl, _, R.part hp⟩

theorem X0_lc19 (hκ : κ.1 = g) (I : Inv B ms) {X : Nat × Nat} (hX : rb_rom κ X) {m q q2 : Nat} (hm : m < 12) (hl : l.length ≤ 24) (hlt : ∀ p, p ∈ l → p < nN ms 0 0) (hd : rb_dp κ 6)
    (K : ∀ M na c, NS g ms ad h ms0 M fI fB b0 R na l (m + 1) (fun k => chL ms k l) fa (m + 3) → na 0 = q → c.1 ≤ X.1 → c.2 ≤ X.2 → rb_Bd κ mX0_layChains c M 2 [some (.ref (ad 0 0)), some (.ref q), some (.int (nI (m + 1))), none, none, none] []) :
    ∀ rest pre, l = pre ++ rest → ∀ cur M na (c : Nat × Nat), NS g ms ad h ms0 M fI fB b0 R na l m (chA ms l m cur) fa (m + 3) → cur ++ chL ms m rest = chL ms m l → na 0 = q → na (7 + 2 * m) = q2 → c.1 + 2 * rest.length + 1 ≤ X.1 → c.2 + 160 * rest.length + 80 ≤ X.2 → rb_Bd κ mX0_layChains c M 19 [some (.ref (ad 0 0)), some (.ref q), some (.int (nI m)), some (.ref q2), some (.int (nI pre.length)), none] [] := by
  subst hκ
  have hP0 := I.pn
  have hlt24 : ∀ p, p ∈ l → p < 24 := fun p hp => by have := hlt p hp; omega
  obtain ⟨hX1, hX2⟩ := hX
  have hE : iB (ms.1 18 0) 6 := I.2.2.2.1.2.1
  intro rest
  induction rest with
  | nil =>
    intro pre hpre cur M na c N hcur n0 n2 hc1 hc2
    simp only [List.length_nil] at hc1 hc2
    refine rb_know fun hw => ?_
    rw [List.append_nil] at hpre
    subst hpre
    have hcur : cur = chL ms m l := by
      rw [← hcur]
      exact (List.append_nil _).symm
    subst hcur
    rw [chA_f] at N
    have hq := N.2.1.1
    rw [n0] at hq
    have hln := N.line (by omega)
    have hchs := N.chs (by omega)
    have hch := N.ch (k := m) (by omega)
    rw [n2] at hch
    refine sgX0_layChains_19 (rb_isR_ref _) (rb_isR_ref _) ⟨_, rfl, _, ⟨_, hq, rfl⟩, rb_isR_ref _, _, rfl, uIo (J4_size hln) (rb_dp_le hd (by decide)) ⟨by show c.1 + 0 ≤ _; omega, by show c.2 + 0 ≤ _; omega⟩ hln.ob ⟨fun _ => ⟨_, ⟨_, hq, rfl⟩, rb_isR_ref _, _, rfl, _, _, _, sJ4_add (y := q2) hchs (fun i hi => ⟨7, rfl, (N.ch (k := i) (by omega)).ob⟩) ⟨7, rfl, hch.ob⟩ (by omega), rb_dp_le hd (by decide), ⟨by show c.1 + 1 ≤ _; omega, by show c.2 + 80 ≤ _; omega⟩, hchs.ob, ?_⟩, fun z => absurd z (nI_nlt (Nat.le_refl _) (by omega))⟩⟩
    rintro _ M8 ⟨rfl, hA⟩
    refine ⟨_, rfl, ?_⟩
    rw [nI_1]
    obtain ⟨na8, N8, e8⟩ := N.addChs (by omega) hw (by rw [n2]; exact hA)
    exact rb_weak (by simp [rb_wk]) (K M8 na8 (c.1 + 1, c.2 + 80) N8 (by rw [e8 _ (by omega)]; exact n0) (by show c.1 + 1 ≤ _; omega) (by show c.2 + 80 ≤ _; omega))
  | cons p rest ih =>
    intro pre hpre cur M na c N hcur n0 n2 hc1 hc2
    simp only [List.length_cons] at hc1 hc2
    refine rb_know fun hw => ?_
    have hpl : p ∈ l := by rw [hpre]; simp
    have hp := hlt p hpl
    have hj : pre.length < l.length := by rw [hpre]; simp
    have hgj : l.getD pre.length 0 = p := by rw [hpre]; simp
    have ihs : ∀ cur M na (c : Nat × Nat), NS κ.1 ms ad h ms0 M fI fB b0 R na l m (chA ms l m cur) fa (m + 3) → cur ++ chL ms m rest = chL ms m l → na 0 = q → na (7 + 2 * m) = q2 → c.1 + 2 * rest.length + 1 ≤ X.1 → c.2 + 160 * rest.length + 80 ≤ X.2 → rb_Bd κ mX0_layChains c M 19 [some (.ref (ad 0 0)), some (.ref q), some (.int (nI m)), some (.ref q2), some (.int (nI (pre.length + 1))), none] [] := by
      intro cur M na c N e1 e2 e3 e4 e5
      have := ih (pre ++ [p]) (by rw [hpre, List.append_assoc]; rfl) cur M na c N e1 e2 e3 e4 e5
      rw [List.length_append] at this
      exact this
    have hcur : cur ++ (chP ms m p ++ chL ms m rest) = chL ms m l := hcur
    have hq := N.2.1.1
    rw [n0] at hq
    have hln := N.line (by omega)
    have hG := J4_get hln hj
    rw [hgj] at hG
    have hpart := N.1.1.part hp
    refine sgX0_layChains_19 (rb_isR_ref _) (rb_isR_ref _) ⟨_, rfl, _, ⟨_, hq, rfl⟩, rb_isR_ref _, _, rfl, uIo (J4_size hln) (rb_dp_le hd (by decide)) ⟨by show c.1 + 0 ≤ _; omega, by show c.2 + 0 ≤ _; omega⟩ hln.ob ⟨fun z => absurd z (nI_ge hj (by omega)), fun _ => ⟨_, ⟨_, hq, rfl⟩, rb_isR_ref _, _, rfl, uRo hG (rb_dp_le hd (by decide)) ⟨by show c.1 + 0 ≤ _; omega, by show c.2 + 0 ≤ _; omega⟩ hln.ob ⟨_, rfl, 5, ⟨_, hpart⟩, cc_5, _, ⟨_, hpart, rfl⟩, rb_isR_ref _, _, rfl, ?_⟩⟩⟩⟩
    obtain ⟨f5, k5, e5⟩ := N.1.1.gv hp hm
    by_cases hv : ms.1 10 (25 * p + m) = -9
    · refine ⟨4, 12, f5, .null, k5, ⟨nb rfl, nb rfl⟩, vp_in_nI hm (by decide), e5.trans (bRf_no hv), fun _ => ?_, fun q' e => by cases e⟩
      have hcP := chP_n (ms := ms) (m := m) (p := p) (Or.inl hv)

      by_cases hg : ms.1 10 (25 * p + 12 + m) = -9
      · refine ⟨_, ⟨_, N.1.1.part hp, rfl⟩, rb_isR_ref _, _, rfl, 4, 12, _, .null, (N.1.1.gd hp hm).choose_spec.1, ⟨nb rfl, nb rfl⟩, vp_in_nI hm (by decide), (N.1.1.gd hp hm).choose_spec.2.trans (bRf_no hg), fun _ => ?_, fun q' e => by cases e⟩
        rw [nI_1]
        refine rb_weak (by simp [rb_wk]) (ihs (cur) M na c N ?_ n0 n2 (by show c.1 + 2 * rest.length + 1 ≤ _; omega) (by show c.2 + 160 * rest.length + 80 ≤ _; omega))
        rw [← hcur, hcP]
        simp [gdP, hg]
      · have hch := N.ch (k := m) (by omega)
        rw [chA_s, n2] at hch
        have hlen : (cur).length ≤ 47 := by
          have e := congrArg List.length hcur
          have hcl := chL_len ms m l
          rw [hcP] at e
          simp [gdP, hg] at e
          first | omega | (simp; omega)
        have hel : ∀ i, i < (cur).length → obE M (ad 8 ((cur).getD i 0)) := by
          intro i hi
          have hmem : ((cur).getD i 0) ∈ chL ms m l := by
            rw [← hcur, hcP]
            have hz := getD_mem (cur) i hi
            generalize (cur).getD i 0 = z at hz ⊢
            simp only [List.mem_append, List.mem_singleton] at hz ⊢
            first | exact Or.inl hz | (rcases hz with hz | hz; exact Or.inl hz; exact Or.inr (Or.inl (Or.inl hz)))
          have := chL_ok hm l hlt24 hmem
          exact N.1.1.obB this.1 this.2.1
        refine ⟨_, ⟨_, N.1.1.part hp, rfl⟩, rb_isR_ref _, _, rfl, 4, 12, _, .ref (ad 8 (25 * p + 12 + m)), (N.1.1.gd hp hm).choose_spec.1, ⟨nb rfl, nb rfl⟩, vp_in_nI hm (by decide), (N.1.1.gd hp hm).choose_spec.2.trans (bRf_yes hg), fun e => (by cases e), fun q' e => ⟨_, ⟨_, N.1.1.part hp, rfl⟩, rb_isR_ref _, _, rfl, 4, 12, _, .ref (ad 8 (25 * p + 12 + m)), (N.1.1.gd hp hm).choose_spec.1, ⟨nb rfl, nb rfl⟩, vp_in_nI hm (by decide), (N.1.1.gd hp hm).choose_spec.2.trans (bRf_yes hg), _, rfl, _, _, _, sJ4_add hch hel (N.1.1.obB (by omega) hg) (by omega), rb_dp_le hd (by decide), ⟨by show c.1 + 1 ≤ _; omega, by show c.2 + 80 ≤ _; omega⟩, hch.ob, ?_⟩⟩
        rintro _ M8 ⟨rfl, hA⟩
        refine ⟨_, rfl, ?_⟩
        rw [nI_1]
        obtain ⟨na8, N8, e8⟩ := N.addChain (k := m) (C' := chA ms l m ((cur) ++ [25 * p + 12 + m])) (b := 25 * p + 12 + m) (by omega) hw (by rw [chA_s, n2]; exact hA) (by rw [chA_s, chA_s]) (fun i hi => by rw [chA_n hi, chA_n hi])
        refine rb_weak (by simp [rb_wk]) (ihs ((cur) ++ [25 * p + 12 + m]) M8 na8 (c.1 + 1, c.2 + 80) N8 ?_ (by rw [e8 _ (by omega)]; exact n0) (by rw [e8 _ (by omega)]; exact n2) (by show c.1 + 1 + 2 * rest.length + 1 ≤ _; omega) (by show c.2 + 80 + 160 * rest.length + 80 ≤ _; omega))
        rw [← hcur, hcP]
        simp [gdP, hg]
    · refine ⟨4, 12, f5, .ref (ad 8 (25 * p + m)), k5, ⟨nb rfl, nb rfl⟩, vp_in_nI hm (by decide), e5.trans (bRf_yes hv), fun e => (by cases e), fun q' e => ⟨_, ⟨_, hpart, rfl⟩, uIo (X0_isExcluded N.1.1 hE) (rb_dp_le hd (by decide)) ⟨by show c.1 + 0 ≤ _; omega, by show c.2 + 0 ≤ _; omega⟩ N.1.1.ob0 ⟨fun hx => ?_, fun hx => ?_⟩⟩⟩
      · have hcP := chP_n (ms := ms) (m := m) (p := p) (Or.inr (bz_1.mp hx))
        by_cases hg : ms.1 10 (25 * p + 12 + m) = -9
        · refine ⟨_, ⟨_, N.1.1.part hp, rfl⟩, rb_isR_ref _, _, rfl, 4, 12, _, .null, (N.1.1.gd hp hm).choose_spec.1, ⟨nb rfl, nb rfl⟩, vp_in_nI hm (by decide), (N.1.1.gd hp hm).choose_spec.2.trans (bRf_no hg), fun _ => ?_, fun q' e => by cases e⟩
          rw [nI_1]
          refine rb_weak (by simp [rb_wk]) (ihs (cur) M na c N ?_ n0 n2 (by show c.1 + 2 * rest.length + 1 ≤ _; omega) (by show c.2 + 160 * rest.length + 80 ≤ _; omega))
          rw [← hcur, hcP]
          simp [gdP, hg]
        · have hch := N.ch (k := m) (by omega)
          rw [chA_s, n2] at hch
          have hlen : (cur).length ≤ 47 := by
            have e := congrArg List.length hcur
            have hcl := chL_len ms m l
            rw [hcP] at e
            simp [gdP, hg] at e
            first | omega | (simp; omega)
          have hel : ∀ i, i < (cur).length → obE M (ad 8 ((cur).getD i 0)) := by
            intro i hi
            have hmem : ((cur).getD i 0) ∈ chL ms m l := by
              rw [← hcur, hcP]
              have hz := getD_mem (cur) i hi
              generalize (cur).getD i 0 = z at hz ⊢
              simp only [List.mem_append, List.mem_singleton] at hz ⊢
              first | exact Or.inl hz | (rcases hz with hz | hz; exact Or.inl hz; exact Or.inr (Or.inl (Or.inl hz)))
            have := chL_ok hm l hlt24 hmem
            exact N.1.1.obB this.1 this.2.1
          refine ⟨_, ⟨_, N.1.1.part hp, rfl⟩, rb_isR_ref _, _, rfl, 4, 12, _, .ref (ad 8 (25 * p + 12 + m)), (N.1.1.gd hp hm).choose_spec.1, ⟨nb rfl, nb rfl⟩, vp_in_nI hm (by decide), (N.1.1.gd hp hm).choose_spec.2.trans (bRf_yes hg), fun e => (by cases e), fun q' e => ⟨_, ⟨_, N.1.1.part hp, rfl⟩, rb_isR_ref _, _, rfl, 4, 12, _, .ref (ad 8 (25 * p + 12 + m)), (N.1.1.gd hp hm).choose_spec.1, ⟨nb rfl, nb rfl⟩, vp_in_nI hm (by decide), (N.1.1.gd hp hm).choose_spec.2.trans (bRf_yes hg), _, rfl, _, _, _, sJ4_add hch hel (N.1.1.obB (by omega) hg) (by omega), rb_dp_le hd (by decide), ⟨by show c.1 + 1 ≤ _; omega, by show c.2 + 80 ≤ _; omega⟩, hch.ob, ?_⟩⟩
          rintro _ M8 ⟨rfl, hA⟩
          refine ⟨_, rfl, ?_⟩
          rw [nI_1]
          obtain ⟨na8, N8, e8⟩ := N.addChain (k := m) (C' := chA ms l m ((cur) ++ [25 * p + 12 + m])) (b := 25 * p + 12 + m) (by omega) hw (by rw [chA_s, n2]; exact hA) (by rw [chA_s, chA_s]) (fun i hi => by rw [chA_n hi, chA_n hi])
          refine rb_weak (by simp [rb_wk]) (ihs ((cur) ++ [25 * p + 12 + m]) M8 na8 (c.1 + 1, c.2 + 80) N8 ?_ (by rw [e8 _ (by omega)]; exact n0) (by rw [e8 _ (by omega)]; exact n2) (by show c.1 + 1 + 2 * rest.length + 1 ≤ _; omega) (by show c.2 + 80 + 160 * rest.length + 80 ≤ _; omega))
          rw [← hcur, hcP]
          simp [gdP, hg]
      · have hcP := chP_y (ms := ms) (m := m) (p := p) hv (bz_0.mp hx)
        have hch := N.ch (k := m) (by omega)
        rw [chA_s, n2] at hch
        have hlen : cur.length ≤ 47 := by
          have e := congrArg List.length hcur
          have hcl := chL_len ms m l
          rw [hcP] at e
          simp at e
          omega
        have hel : ∀ i, i < cur.length → obE M (ad 8 (cur.getD i 0)) := by
          intro i hi
          have hmem : (cur.getD i 0) ∈ chL ms m l := by
            rw [← hcur]
            exact List.mem_append_left _ (getD_mem cur i hi)
          have := chL_ok hm l hlt24 hmem
          exact N.1.1.obB this.1 this.2.1
        refine ⟨_, ⟨_, hpart, rfl⟩, rb_isR_ref _, _, rfl, 4, 12, f5, .ref (ad 8 (25 * p + m)), k5, ⟨nb rfl, nb rfl⟩, vp_in_nI hm (by decide), e5.trans (bRf_yes hv), _, rfl, _, _, _, (sJ4_add hch hel (N.1.1.obB (by omega) hv) (by omega)).wf, rb_dp_le hd (by decide), ⟨by show c.1 + 1 ≤ _; omega, by show c.2 + 80 ≤ _; omega⟩, hch.ob, ?_⟩
        rintro _ M7 ⟨⟨rfl, hA7⟩, hw7⟩
        obtain ⟨na7, N7, e7⟩ := N.addChain (k := m) (C' := chA ms l m (cur ++ [25 * p + m])) (b := 25 * p + m) (by omega) hw (by rw [chA_s, n2]; exact hA7) (by rw [chA_s, chA_s]) (fun i hi => by rw [chA_n hi, chA_n hi])
        have n07 : na7 0 = q := by rw [e7 _ (by omega)]; exact n0
        have n27 : na7 (7 + 2 * m) = q2 := by rw [e7 _ (by omega)]; exact n2
        refine ⟨_, rfl, ?_⟩
        by_cases hg : ms.1 10 (25 * p + 12 + m) = -9
        · refine ⟨_, ⟨_, N7.1.1.part hp, rfl⟩, rb_isR_ref _, _, rfl, 4, 12, _, .null, (N7.1.1.gd hp hm).choose_spec.1, ⟨nb rfl, nb rfl⟩, vp_in_nI hm (by decide), (N7.1.1.gd hp hm).choose_spec.2.trans (bRf_no hg), fun _ => ?_, fun q' e => by cases e⟩
          rw [nI_1]
          refine rb_weak (by simp [rb_wk]) (ihs (cur ++ [25 * p + m]) M7 na7 (c.1 + 1, c.2 + 80) N7 ?_ n07 n27 (by show c.1 + 1 + 2 * rest.length + 1 ≤ _; omega) (by show c.2 + 80 + 160 * rest.length + 80 ≤ _; omega))
          rw [← hcur, hcP]
          simp [gdP, hg]
        · have hch := N7.ch (k := m) (by omega)
          rw [chA_s, n27] at hch
          have hlen : (cur ++ [25 * p + m]).length ≤ 47 := by
            have e := congrArg List.length hcur
            have hcl := chL_len ms m l
            rw [hcP] at e
            simp [gdP, hg] at e
            first | omega | (simp; omega)
          have hel : ∀ i, i < (cur ++ [25 * p + m]).length → obE M7 (ad 8 ((cur ++ [25 * p + m]).getD i 0)) := by
            intro i hi
            have hmem : ((cur ++ [25 * p + m]).getD i 0) ∈ chL ms m l := by
              rw [← hcur, hcP]
              have hz := getD_mem (cur ++ [25 * p + m]) i hi
              generalize (cur ++ [25 * p + m]).getD i 0 = z at hz ⊢
              simp only [List.mem_append, List.mem_singleton] at hz ⊢
              first | exact Or.inl hz | (rcases hz with hz | hz; exact Or.inl hz; exact Or.inr (Or.inl (Or.inl hz)))
            have := chL_ok hm l hlt24 hmem
            exact N7.1.1.obB this.1 this.2.1
          refine ⟨_, ⟨_, N7.1.1.part hp, rfl⟩, rb_isR_ref _, _, rfl, 4, 12, _, .ref (ad 8 (25 * p + 12 + m)), (N7.1.1.gd hp hm).choose_spec.1, ⟨nb rfl, nb rfl⟩, vp_in_nI hm (by decide), (N7.1.1.gd hp hm).choose_spec.2.trans (bRf_yes hg), fun e => (by cases e), fun q' e => ⟨_, ⟨_, N7.1.1.part hp, rfl⟩, rb_isR_ref _, _, rfl, 4, 12, _, .ref (ad 8 (25 * p + 12 + m)), (N7.1.1.gd hp hm).choose_spec.1, ⟨nb rfl, nb rfl⟩, vp_in_nI hm (by decide), (N7.1.1.gd hp hm).choose_spec.2.trans (bRf_yes hg), _, _, _, sJ4_add hch hel (N7.1.1.obB (by omega) hg) (by omega), rb_dp_le hd (by decide), ⟨by show c.1 + 1 + 1 ≤ _; omega, by show c.2 + 80 + 80 ≤ _; omega⟩, hch.ob, ?_⟩⟩
          rintro _ M8 ⟨rfl, hA⟩
          refine ⟨_, rfl, ?_⟩
          rw [nI_1]
          obtain ⟨na8, N8, e8⟩ := N7.addChain (k := m) (C' := chA ms l m ((cur ++ [25 * p + m]) ++ [25 * p + 12 + m])) (b := 25 * p + 12 + m) (by omega) hw7 (by rw [chA_s, n27]; exact hA) (by rw [chA_s, chA_s]) (fun i hi => by rw [chA_n hi, chA_n hi])
          refine rb_weak (by simp [rb_wk]) (ihs ((cur ++ [25 * p + m]) ++ [25 * p + 12 + m]) M8 na8 (c.1 + 1 + 1, c.2 + 80 + 80) N8 ?_ (by rw [e8 _ (by omega)]; exact n07) (by rw [e8 _ (by omega)]; exact n27) (by show c.1 + 1 + 1 + 2 * rest.length + 1 ≤ _; omega) (by show c.2 + 80 + 80 + 160 * rest.length + 80 ≤ _; omega))
          rw [← hcur, hcP]
          simp [gdP, hg]
theorem X0_lc2 (hκ : κ.1 = g) (I : Inv B ms) {X : Nat × Nat} (hX : rb_rom κ X) (hF : rb_fin κ X) {q : Nat} (hl : l.length ≤ 24) (hlt : ∀ p, p ∈ l → p < nN ms 0 0) (hd : rb_dp κ 6)
    (K : ∀ M na, NS g ms ad h ms0 M fI fB b0 R na l 12 (fun k => chL ms k l) fa 14 → na 0 = q → κ.2.2.1 (.returned none) M) :
    ∀ d m, m + d = 12 → ∀ M na (c : Nat × Nat), NS g ms ad h ms0 M fI fB b0 R na l m (fun k => chL ms k l) fa (m + 2) → na 0 = q → c.1 + 50 * d ≤ X.1 → c.2 + 3923 * d ≤ X.2 → rb_Bd κ mX0_layChains c M 2 [some (.ref (ad 0 0)), some (.ref q), some (.int (nI m)), none, none, none] [] := by
  subst hκ
  intro d
  induction d with
  | zero =>
    intro m hm M na c N n0 hc1 hc2
    obtain rfl : m = 12 := by omega
    exact sgX0_layChains_2 (rb_isR_ref _) ⟨fun _ => ⟨⟨Nat.le_trans (by omega) hF.1, Nat.le_trans (by omega) hF.2⟩, K M na N n0⟩, fun z => absurd z (by decide)⟩
  | succ d ih =>
    intro m hm M na c N n0 hc1 hc2
    refine rb_know fun hw => ?_
    obtain ⟨na', N', e1, e2⟩ := N.newCh (C' := chA ms l m []) hw chA_s (fun i hi => chA_n (by omega))
    have hX1 := hX.1
    have hX2 := hX.2
    refine sgX0_layChains_2 (rb_isR_ref _) ⟨fun z => absurd z (nI_ge (b := 12) (by omega) (by decide)), fun _ => ⟨⟨by show c.1 + 1 ≤ _; omega, by show c.2 + 3 ≤ _; omega⟩, 7, _, _, _, J4_init rb_nw_eq, rb_dp_le hd (by decide), ⟨by show c.1 + 1 + 0 ≤ _; omega, by show c.2 + 3 + 0 ≤ _; omega⟩, ⟨_, rb_nw_eq⟩, ?_⟩⟩
    rintro _ _ ⟨rfl, rfl⟩
    refine ⟨rfl, ?_⟩
    refine X0_lc19 (fI := fI) (fB := fB) (b0 := b0) (R := R) (fa := fa) (h := h) (ms0 := ms0) (q2 := M.1) rfl I (X := (c.1 + 50, c.2 + 3923)) ⟨by show c.1 + 50 ≤ _; omega, by show c.2 + 3923 ≤ _; omega⟩ (by omega) hl hlt hd (fun M8 na8 c8 N8 n8 h1 h2 => ?_) l [] rfl [] _ na' (c.1 + 1, c.2 + 3) N' rfl (by rw [e2 0 (by omega)]; exact n0) e1 (by show c.1 + 1 + 2 * l.length + 1 ≤ c.1 + 50; omega) (by show c.2 + 3 + 160 * l.length + 80 ≤ c.2 + 3923; omega)
    refine ih (m + 1) (by omega) M8 na8 c8 N8 n8 ?_ ?_
    · have h1 : c8.1 ≤ c.1 + 50 := h1
      omega
    · have h2 : c8.2 ≤ c.2 + 3923 := h2
      omega
theorem X0_layChains (I : Inv B ms) {na : Nat → Nat} (hl : l.length ≤ 24) (hlt : ∀ p, p ∈ l → p < nN ms 0 0) (N : NS g ms ad h ms0 M fI fB b0 R na l 0 (fun k => chL ms k l) fa 2) : rb_Ct g yX0_layChains wX0_layChains 7 (600, 47076) [.ref (ad 0 0), .ref (na 0)] M (fun o M' => o = .returned none ∧ ∃ na', NS g ms ad h ms0 M' fI fB b0 R na' l 12 (fun k => chL ms k l) fa 14 ∧ na' 0 = na 0) := by
  refine rb_Ct.of (by decide) (Nat.le_of_ble_eq_true rfl) rfl ?_
  refine sgX0_layChains_0 (rb_isR_ref _) ?_
  exact X0_lc2 (κ := (g, rb_rm 7 (600, 47076), (fun o M' => o = .returned none ∧ ∃ na', NS g ms ad h ms0 M' fI fB b0 R na' l 12 (fun k => chL ms k l) fa 14 ∧ na' 0 = na 0), (600, 47076))) (X := (600, 47076)) (fI := fI) (fB := fB) (b0 := b0) (R := R) (fa := fa) (h := h) (ms0 := ms0) rfl I ⟨nb rfl, nb rfl⟩ ⟨nb rfl, nb rfl⟩ hl hlt (rb_dpk (by decide)) (fun M8 na8 N8 n8 => ⟨rfl, na8, N8, n8⟩) 12 0 rfl M na (0, 0) N rfl (by decide) (by decide)
end V16
