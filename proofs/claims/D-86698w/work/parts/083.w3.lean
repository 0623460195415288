set_option maxRecDepth 100000
/-! weaving: the line and the ring, as laws -/
noncomputable def cnt (L : Nat → Prop) : Nat → Nat
  | 0 => 0
  | n + 1 => cnt L n + (@ite _ (L n) (Classical.propDecidable _) 1 0)
theorem cnt_le (L : Nat → Prop) : ∀ n, cnt L n ≤ n := by
  intro n
  induction n with
  | zero => exact Nat.le_refl _
  | succ n ih =>
    unfold cnt
    split <;> omega
theorem cnt_ext {L K : Nat → Prop} : ∀ n, (∀ q, q < n → (L q ↔ K q)) → cnt L n = cnt K n := by
  intro n
  induction n with
  | zero => intro _; rfl
  | succ n ih =>
    intro hq
    unfold cnt
    rw [ih (fun q h => hq q (by omega))]
    by_cases e : L n
    · rw [if_pos e, if_pos ((hq n (by omega)).mp e)]
    · rw [if_neg e, if_neg (fun k => e ((hq n (by omega)).mpr k))]
theorem cnt_rm {L : Nat → Prop} {p : Nat} (hL : L p) : ∀ n, p < n → cnt (fun q => L q ∧ q ≠ p) n + 1 = cnt L n := by
  intro n
  induction n with
  | zero => intro h; omega
  | succ n ih =>
    intro hp
    unfold cnt
    by_cases e : p = n
    · subst e
      rw [if_pos hL, if_neg (fun k => k.2 rfl), cnt_ext p (fun q hq => ⟨fun k => k.1, fun k => ⟨k, by omega⟩⟩)]
    · have h1 := ih (by omega)
      by_cases e2 : L n
      · rw [if_pos e2, if_pos ⟨e2, fun k => e k.symm⟩]; omega
      · rw [if_neg e2, if_neg (fun k => e2 k.1)]; omega
theorem cnt_inj {f : Nat → Nat} {n : Nat} : ∀ j, (∀ a b, a < b → b < j → f a ≠ f b) → (∀ a, a < j → f a < n) → cnt (fun q => ∀ a, a < j → f a ≠ q) n + j ≤ n := by
  intro j
  induction j with
  | zero => intro _ _; have := cnt_le (fun q => ∀ a, a < 0 → f a ≠ q) n; omega
  | succ j ih =>
    intro h1 h2
    have h3 := ih (fun a b x y => h1 a b x (by omega)) (fun a x => h2 a (by omega))
    have h4 := cnt_rm (L := fun q => ∀ a, a < j → f a ≠ q) (p := f j) (fun a x => h1 a j x (by omega)) n (h2 j (by omega))
    have h5 : cnt (fun q => ∀ a, a < j + 1 → f a ≠ q) n = cnt (fun q => (∀ a, a < j → f a ≠ q) ∧ q ≠ f j) n := by
      refine cnt_ext n fun q _ => ⟨fun k => ⟨fun a x => k a (by omega), fun e => k j (by omega) e.symm⟩, fun k a x => ?_⟩
      by_cases e : a = j
      · rw [e]; exact fun z => k.2 z.symm
      · exact k.1 a (by omega)
    omega
theorem inj_le {f : Nat → Nat} {n j : Nat} (h1 : ∀ a b, a < b → b < j → f a ≠ f b) (h2 : ∀ a, a < j → f a < n) : j ≤ n := by
  have := cnt_inj j h1 h2
  omega
theorem leastN {P : Nat → Prop} : ∀ n, P n → ∃ m, m ≤ n ∧ P m ∧ ∀ k, k < m → ¬ P k := by
  intro n
  induction n using Nat.strongRecOn with
  | _ n ih =>
    intro h
    by_cases e : ∃ k, k < n ∧ P k
    · obtain ⟨k, h1, h2⟩ := e
      obtain ⟨m, h3, h4, h5⟩ := ih k h1 h2
      exact ⟨m, by omega, h4, h5⟩
    · exact ⟨n, Nat.le_refl _, h, fun k hk q => e ⟨k, hk, q⟩⟩
theorem isL_congr {Q Q' : Nat → Prop} {n : Nat} {x : Int32} (h : ∀ p, p < n → (Q p ↔ Q' p)) (hx : isL Q n x) : isL Q' n x := by
  rcases hx with ⟨h1, h2⟩ | ⟨p, h1, h2, h3, h4⟩
  · exact Or.inl ⟨h1, fun p hp q => h2 p hp ((h p hp).mpr q)⟩
  · exact Or.inr ⟨p, h1, (h p h1).mp h2, fun q hq k => h3 q hq ((h q (by omega)).mpr k), h4⟩
theorem Ah_congr {ms : mm_S} {I J : Nat → Prop} (h : ∀ x, x < nN ms 0 0 → (I x ↔ J x)) (p q : Nat) : Ah ms I p q ↔ Ah ms J p q := by
  unfold Ah
  constructor
  · rintro (r | ⟨x, h1, h2, h3⟩ | r)
    · exact Or.inl r
    · exact Or.inr (Or.inl ⟨x, h1, (h x h1).mp h2, h3⟩)
    · exact Or.inr (Or.inr r)
  · rintro (r | ⟨x, h1, h2, h3⟩ | r)
    · exact Or.inl r
    · exact Or.inr (Or.inl ⟨x, h1, (h x h1).mpr h2, h3⟩)
    · exact Or.inr (Or.inr r)
/-- what stands ahead of p among those that are left -/
def la (ms : mm_S) (I L : Nat → Prop) (p : Nat) (q : Nat) : Prop := L q ∧ q ≠ p ∧ Ah ms I q p
/-- p may come next -/
def nx (ms : mm_S) (I L : Nat → Prop) (p : Nat) : Prop := L p ∧ ∀ q, q < nN ms 0 0 → ¬ la ms I L p q
/-- the line -/
def Ln (ms : mm_S) (I : Nat → Prop) : List Nat → (Nat → Prop) → (Nat → Prop) → Prop
  | [], L, L' => (∀ p, p < nN ms 0 0 → ¬ nx ms I L p) ∧ L' = L
  | p :: l, L, L' => p < nN ms 0 0 ∧ nx ms I L p ∧ (∀ q, q < p → ¬ nx ms I L q) ∧ Ln ms I l (fun q => L q ∧ q ≠ p) L'
theorem Ln_ex {ms : mm_S} {I : Nat → Prop} : ∀ c (L : Nat → Prop), cnt L (nN ms 0 0) ≤ c → ∃ l L', Ln ms I l L L' := by
  intro c
  induction c with
  | zero =>
    intro L h
    refine ⟨[], L, fun p hp q => ?_, rfl⟩
    have := cnt_rm q.1 _ hp
    omega
  | succ c ih =>
    intro L h
    by_cases e : ∃ p, p < nN ms 0 0 ∧ nx ms I L p
    · obtain ⟨p, h1, h2⟩ := e
      obtain ⟨m, h3, h4, h5⟩ := leastN (P := nx ms I L) p h2
      have := cnt_rm h4.1 (nN ms 0 0) (by omega)
      obtain ⟨l, L', h6⟩ := ih (fun q => L q ∧ q ≠ m) (by omega)
      exact ⟨m :: l, L', by omega, h4, h5, h6⟩
    · exact ⟨[], L, fun p hp q => e ⟨p, hp, q⟩, rfl⟩
theorem Ln.out {ms : mm_S} {I : Nat → Prop} : ∀ (l : List Nat) (L L' : Nat → Prop), Ln ms I l L L' → (∀ p, p ∈ l → p < nN ms 0 0 ∧ L p) ∧ l.Nodup ∧ (∀ q, L' q ↔ L q ∧ q ∉ l) ∧ (∀ p, p < nN ms 0 0 → ¬ nx ms I L' p) ∧ l.length + cnt L' (nN ms 0 0) = cnt L (nN ms 0 0) := by
  intro l
  induction l with
  | nil =>
    rintro L L' ⟨h1, rfl⟩
    refine ⟨fun p hp => (List.not_mem_nil hp).elim, List.nodup_nil, fun q => ⟨fun k => ⟨k, List.not_mem_nil⟩, fun k => k.1⟩, h1, ?_⟩
    rw [List.length_nil, Nat.zero_add]
  | cons p l ih =>
    rintro L L' ⟨h1, h2, h3, h4⟩
    obtain ⟨k1, k2, k3, k4, k5⟩ := ih _ _ h4
    refine ⟨fun q hq => ?_, List.nodup_cons.mpr ⟨fun q => (k1 p q).2.2 rfl, k2⟩, fun q => ?_, k4, ?_⟩
    · rcases List.mem_cons.mp hq with r | r
      · rw [r]; exact ⟨h1, h2.1⟩
      · exact ⟨(k1 q r).1, (k1 q r).2.1⟩
    · rw [k3 q, List.mem_cons]
      exact ⟨fun r => ⟨r.1.1, fun z => z.elim r.1.2 r.2⟩, fun r => ⟨⟨r.1, fun z => r.2 (Or.inl z)⟩, fun z => r.2 (Or.inr z)⟩⟩
    · have := cnt_rm h2.1 (nN ms 0 0) h1
      rw [List.length_cons]
      omega
/-- a way back along those that stand ahead, from f 0, n steps, till it comes to f t again -/
def Rg (ms : mm_S) (I L : Nat → Prop) (f : Nat → Nat) (n t : Nat) : Prop := t < n ∧ n ≤ 24 ∧ (∀ i, i < n → f i < nN ms 0 0 ∧ L (f i)) ∧ (∀ i j, i < j → j < n → f i ≠ f j) ∧ (∀ i, i < n → isL (la ms I L (f i)) (nN ms 0 0) (nI (f (i + 1)))) ∧ f n = f t
theorem Rg_ex {ms : mm_S} {I L : Nat → Prop} {p : Nat} (hn : nN ms 0 0 ≤ 24) (hp : p < nN ms 0 0) (hL : L p) (hs : ∀ p, p < nN ms 0 0 → ¬ nx ms I L p) : ∃ f n t, f 0 = p ∧ Rg ms I L f n t := by
  have st : ∀ q, ∃ q', q < nN ms 0 0 ∧ L q → (q' < nN ms 0 0 ∧ L q') ∧ isL (la ms I L q) (nN ms 0 0) (nI q') := by
    intro q
    by_cases e : q < nN ms 0 0 ∧ L q
    · obtain ⟨x, hx⟩ := isL_ex (la ms I L q) (nN ms 0 0)
      rcases hx with ⟨-, h2⟩ | ⟨r, h1, h2, h3, rfl⟩
      · exact absurd ⟨e.2, h2⟩ (hs q e.1)
      · exact ⟨r, fun _ => ⟨⟨h1, h2.1⟩, Or.inr ⟨r, h1, h2, h3, rfl⟩⟩⟩
    · exact ⟨0, fun k => absurd k e⟩
  let s : Nat → Nat := fun q => Classical.choose (st q)
  have hs' : ∀ q, q < nN ms 0 0 ∧ L q → (s q < nN ms 0 0 ∧ L (s q)) ∧ isL (la ms I L q) (nN ms 0 0) (nI (s q)) := fun q => Classical.choose_spec (st q)
  let f : Nat → Nat := fun i => Nat.rec p (fun _ r => s r) i
  have f0 : f 0 = p := rfl
  have fs : ∀ i, f (i + 1) = s (f i) := fun _ => rfl
  have fL : ∀ i, f i < nN ms 0 0 ∧ L (f i) := by
    intro i
    induction i with
    | zero => exact ⟨hp, hL⟩
    | succ i ih => rw [fs]; exact (hs' _ ih).1
  have hex : ∃ j, ∃ i, i < j ∧ f i = f j := by
    by_cases e : ∃ j, ∃ i, i < j ∧ f i = f j
    · exact e
    · have := inj_le (f := f) (n := nN ms 0 0) (j := nN ms 0 0 + 1) (fun a b h1 _ h3 => e ⟨b, a, h1, h3⟩) (fun a _ => (fL a).1)
      omega
  obtain ⟨j, hj⟩ := hex
  obtain ⟨n, -, ⟨t, h1, h2⟩, h3⟩ := leastN (P := fun j => ∃ i, i < j ∧ f i = f j) j hj
  have hd : ∀ i j, i < j → j < n → f i ≠ f j := fun i j k1 k2 k3 => h3 j k2 ⟨i, k1, k3⟩
  refine ⟨f, n, t, f0, h1, ?_, fun i _ => fL i, hd, fun i _ => by rw [fs]; exact (hs' _ (fL i)).2, h2.symm⟩
  have := inj_le (f := f) (n := nN ms 0 0) (j := n) hd (fun a _ => (fL a).1)
  omega
