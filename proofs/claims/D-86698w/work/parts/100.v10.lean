set_option maxRecDepth 100000
/-! weaving, the class's side: findRing (2) -/
section V10
variable {g : rb_G} {ms ms0 : mm_S} {ad : aD} {h : Nat} {B : Nat} {κ : rb_K} {fI fB : Nat → Int32} {N1 : Nat} {f : Nat → Nat} {n t : Nat}
theorem X0_ring69 {a1 : Int32} (hκ : κ.1 = g) (hn : n ≤ 24) (ht : t < n) (hf : rb_fin κ (0, 0)) (K : ∀ M r, WS g (rgS ms r (n - t)) ad h ms0 M fI fB → M.1 = N1 → (∀ i, i < n - t → r i = nI (f (t + i))) → κ.2.2.1 (.returned none) M) :
    ∀ d c, t + c + d = n → ∀ M r, WS g (rgS ms r n) ad h ms0 M fI fB → M.1 = N1 → (∀ i, i < c → r i = nI (f (t + i))) → (∀ i, c ≤ i → i < n → r i = nI (f i)) → rb_Bd κ mX0_findRing (0, 0) M 69 [some (.ref (ad 0 0)), some (.int a1), some (.int (nI t)), some (.int (nI (t + c)))] [] := by
  subst hκ
  intro d
  induction d with
  | zero =>
    intro c hc M r W hM h1 h2
    obtain ⟨sg, hm⟩ := W.1.main
    obtain ⟨c8, h68, f8, rfl, e68⟩ := W.1.1 68 0 rfl
    have en : (rgS ms r n).1 34 0 = nI n := rfl
    have nn : nN (rgS ms r n) 34 0 = n := rgS_n (by omega)
    refine sgX0_findRing_69 ⟨_, ⟨_, hm, rfl⟩, fun _ => ⟨_, ⟨_, hm, rfl⟩, _, hm, nl rfl, hf, ?_⟩, fun q => absurd q (by rw [en]; exact nI_nlt (by omega) (by omega))⟩
    have hs : sameX [33, 34] (rgS ms r n) (rgS ms r (n - t)) := rgS_rg
    have W2 := W.ringN (sg := sg) hs h68 (fun j hj => by rw [rgS_n (by omega)] at hj; exact e68 j (by rw [nn]; omega))
    rw [mn_ring hs] at W2
    have e : (rgS ms r n).1 34 0 - nI t = (rgS ms r (n - t)).1 34 0 := by
      show nI n - nI t = nI (n - t)
      rw [pk_sub (by omega)]
    rw [e]
    exact K _ r W2 hM (fun i hi => h1 i (by omega))
  | succ d ih =>
    intro c hc M r W hM h1 h2
    obtain ⟨sg, hm⟩ := W.1.main
    obtain ⟨c8, h68, f8, rfl, e68⟩ := W.1.1 68 0 rfl
    have en : (rgS ms r n).1 34 0 = nI n := rfl
    have nn : nN (rgS ms r n) 34 0 = n := rgS_n (by omega)
    have e8 : ∀ j, j < n → f8 j = r j := fun j hj => e68 j (by rw [nn]; exact hj)
    have es : nI (t + c) - nI t = nI c := by rw [pk_sub (by omega)]; congr 1; omega
    refine sgX0_findRing_69 ⟨_, ⟨_, hm, rfl⟩, fun q => absurd q (by rw [en]; exact nI_ge (by omega) (by omega)), fun _ => ⟨_, ⟨_, hm, rfl⟩, rb_isR_ref _, _, ⟨_, hm, rfl⟩, rb_isR_ref _, _, rfl, 24, f8, nI (f (t + c)), h68, vp_in_nI (by omega) (by decide), by rw [nI_clamp (by omega), e8 _ (by omega)]; exact h2 _ (by omega) (by omega), _, rfl, 24, f8, h68, ?_⟩⟩
    rw [es, nI_clamp (by omega), nI_1]
    refine ⟨vp_in_nI (by omega) (by decide), ?_⟩
    have W2 := W.ringA (ms' := rgS ms (va_up r c (nI (f (t + c)))) n) (f := va_up f8 c (nI (f (t + c)))) ⟨rfl, fun k hk => by
      have h1 : k ≠ 33 := fun e => hk (by rw [e]; decide)
      show (if k = 33 then _ else _) = (if k = 33 then _ else _)
      rw [if_neg h1, if_neg h1]⟩ (fun j hj => by
      rw [rgS_n (by omega)] at hj
      show va_up f8 c _ j = va_up r c _ j
      by_cases e : j = c
      · rw [e, va_up_self, va_up_self]
      · simp only [va_up, if_neg e]; exact e8 j hj)
    rw [show t + c + 1 = t + (c + 1) by omega]
    refine ih (c + 1) (by omega) _ _ W2 hM (fun i hi => ?_) (fun i i1 i2 => ?_)
    · by_cases e : i = c
      · rw [e, va_up_self]
      · simp only [va_up, if_neg e]; exact h1 i (by omega)
    · simp only [va_up, if_neg (show ¬ i = c by omega)]
      exact h2 i (by omega) i2
end V10
