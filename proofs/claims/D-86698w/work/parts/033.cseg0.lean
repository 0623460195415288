set_option maxRecDepth 100000
theorem sgX0_init_0 {κ : rb_K} {n : Nat × Nat} {M : rb_H} {a0 : Nat} (K : (rb_dp κ 0 ∧ (rb_rom κ (n.1 + 1, n.2 + 10) ∧ (∃ (ci6 : Nat) (d1 : Nat) (n2 : Nat × Nat) (Q3 : Outcome → rb_H → Prop), rb_Ct κ.1 yX1_init wX1_init d1 n2 [.ref M.1] (rb_nw M (rb_O 1 [.null, .null, .null, .null, .null, .int 0, .int 0, .long 0, .null, .int 0])) Q3 ∧ rb_dp κ d1 ∧ rb_rom κ (n.1 + 1 + n2.1, n.2 + 10 + n2.2) ∧ rb_ob (rb_nw M (rb_O 1 [.null, .null, .null, .null, .null, .int 0, .int 0, .long 0, .null, .int 0])) M.1 ci6 ∧ ∀ (o : Outcome) (M5 : rb_H), Q3 o M5 → (o = .returned none ∧ (∃ fs7, M5.2 a0 = some (rb_O 0 fs7) ∧ 0 < fs7.length ∧ (rb_rom κ (n.1 + 1 + n2.1 + 1, n.2 + 10 + n2.2 + 7) ∧ (∃ (ci13 : Nat) (d8 : Nat) (n9 : Nat × Nat) (Q10 : Outcome → rb_H → Prop), rb_Ct κ.1 yX2_init wX2_init d8 n9 [.ref M5.1] (rb_nw (rb_up M5 a0 (rb_O 0 (fs7.set 0 (.ref M.1)))) (rb_O 2 [.null, .null, .null, .null, .null, .int 0, .int 0])) Q10 ∧ rb_dp κ d8 ∧ rb_rom κ (n.1 + 1 + n2.1 + 1 + n9.1, n.2 + 10 + n2.2 + 7 + n9.2) ∧ rb_ob (rb_nw (rb_up M5 a0 (rb_O 0 (fs7.set 0 (.ref M.1)))) (rb_O 2 [.null, .null, .null, .null, .null, .int 0, .int 0])) M5.1 ci13 ∧ ∀ (o : Outcome) (M12 : rb_H), Q10 o M12 → (o = .returned none ∧ (∃ fs14, M12.2 a0 = some (rb_O 0 fs14) ∧ 1 < fs14.length ∧ (rb_rom κ (n.1 + 1 + n2.1 + 1 + n9.1 + 1, n.2 + 10 + n2.2 + 7 + n9.2 + 3) ∧ (∃ (ci20 : Nat) (d15 : Nat) (n16 : Nat × Nat) (Q17 : Outcome → rb_H → Prop), rb_Ct κ.1 yJ4_init wJ4_init d15 n16 [.ref M12.1] (rb_nw (rb_up M12 a0 (rb_O 0 (fs14.set 1 (.ref M5.1)))) (rb_O 7 [.int 0, .null, .int 0])) Q17 ∧ rb_dp κ d15 ∧ rb_rom κ (n.1 + 1 + n2.1 + 1 + n9.1 + 1 + n16.1, n.2 + 10 + n2.2 + 7 + n9.2 + 3 + n16.2) ∧ rb_ob (rb_nw (rb_up M12 a0 (rb_O 0 (fs14.set 1 (.ref M5.1)))) (rb_O 7 [.int 0, .null, .int 0])) M12.1 ci20 ∧ ∀ (o : Outcome) (M19 : rb_H), Q17 o M19 → (o = .returned none ∧ (∃ fs21, M19.2 a0 = some (rb_O 0 fs21) ∧ 2 < fs21.length ∧ (∃ N22, (30 : Int32) = nI N22 ∧ N22 ≤ 67108864 ∧ rb_rom κ (n.1 + 1 + n2.1 + 1 + n9.1 + 1 + n16.1 + 1, n.2 + 10 + n2.2 + 7 + n9.2 + 3 + n16.2 + N22) ∧ (∃ fs23, (rb_nw (rb_up M19 a0 (rb_O 0 (fs21.set 2 (.ref M12.1)))) (rb_I N22 (fun _ => 0))).2 a0 = some (rb_O 0 fs23) ∧ 3 < fs23.length ∧ (∃ N24, (30 : Int32) = nI N24 ∧ N24 ≤ 67108864 ∧ rb_rom κ (n.1 + 1 + n2.1 + 1 + n9.1 + 1 + n16.1 + 1 + 1, n.2 + 10 + n2.2 + 7 + n9.2 + 3 + n16.2 + N22 + N24) ∧ (∃ fs25, (rb_nw (rb_up (rb_nw (rb_up M19 a0 (rb_O 0 (fs21.set 2 (.ref M12.1)))) (rb_I N22 (fun _ => 0))) a0 (rb_O 0 (fs23.set 3 (.ref M19.1)))) (rb_I N24 (fun _ => 0))).2 a0 = some (rb_O 0 fs25) ∧ 4 < fs25.length ∧ (rb_rom κ (n.1 + 1 + n2.1 + 1 + n9.1 + 1 + n16.1 + 1 + 1 + 1, n.2 + 10 + n2.2 + 7 + n9.2 + 3 + n16.2 + N22 + N24 + 3) ∧ (∃ (ci31 : Nat) (d26 : Nat) (n27 : Nat × Nat) (Q28 : Outcome → rb_H → Prop), rb_Ct κ.1 yJ4_init wJ4_init d26 n27 [.ref (M19.1 + 2)] (rb_nw (rb_up (rb_nw (rb_up (rb_nw (rb_up M19 a0 (rb_O 0 (fs21.set 2 (.ref M12.1)))) (rb_I N22 (fun _ => 0))) a0 (rb_O 0 (fs23.set 3 (.ref M19.1)))) (rb_I N24 (fun _ => 0))) a0 (rb_O 0 (fs25.set 4 (.ref (M19.1 + 1))))) (rb_O 7 [.int 0, .null, .int 0])) Q28 ∧ rb_dp κ d26 ∧ rb_rom κ (n.1 + 1 + n2.1 + 1 + n9.1 + 1 + n16.1 + 1 + 1 + 1 + n27.1, n.2 + 10 + n2.2 + 7 + n9.2 + 3 + n16.2 + N22 + N24 + 3 + n27.2) ∧ rb_ob (rb_nw (rb_up (rb_nw (rb_up (rb_nw (rb_up M19 a0 (rb_O 0 (fs21.set 2 (.ref M12.1)))) (rb_I N22 (fun _ => 0))) a0 (rb_O 0 (fs23.set 3 (.ref M19.1)))) (rb_I N24 (fun _ => 0))) a0 (rb_O 0 (fs25.set 4 (.ref (M19.1 + 1))))) (rb_O 7 [.int 0, .null, .int 0])) (M19.1 + 2) ci31 ∧ ∀ (o : Outcome) (M30 : rb_H), Q28 o M30 → (o = .returned none ∧ (∃ fs32, M30.2 a0 = some (rb_O 0 fs32) ∧ 7 < fs32.length ∧ (rb_rom κ (n.1 + 1 + n2.1 + 1 + n9.1 + 1 + n16.1 + 1 + 1 + 1 + n27.1 + 1, n.2 + 10 + n2.2 + 7 + n9.2 + 3 + n16.2 + N22 + N24 + 3 + n27.2 + 3) ∧ (∃ (ci38 : Nat) (d33 : Nat) (n34 : Nat × Nat) (Q35 : Outcome → rb_H → Prop), rb_Ct κ.1 yJ4_init wJ4_init d33 n34 [.ref M30.1] (rb_nw (rb_up M30 a0 (rb_O 0 (fs32.set 7 (.ref (M19.1 + 2))))) (rb_O 7 [.int 0, .null, .int 0])) Q35 ∧ rb_dp κ d33 ∧ rb_rom κ (n.1 + 1 + n2.1 + 1 + n9.1 + 1 + n16.1 + 1 + 1 + 1 + n27.1 + 1 + n34.1, n.2 + 10 + n2.2 + 7 + n9.2 + 3 + n16.2 + N22 + N24 + 3 + n27.2 + 3 + n34.2) ∧ rb_ob (rb_nw (rb_up M30 a0 (rb_O 0 (fs32.set 7 (.ref (M19.1 + 2))))) (rb_O 7 [.int 0, .null, .int 0])) M30.1 ci38 ∧ ∀ (o : Outcome) (M37 : rb_H), Q35 o M37 → (o = .returned none ∧ (∃ fs39, M37.2 a0 = some (rb_O 0 fs39) ∧ 8 < fs39.length ∧ (∃ N40, (8 : Int32) = nI N40 ∧ N40 ≤ 67108864 ∧ rb_rom κ (n.1 + 1 + n2.1 + 1 + n9.1 + 1 + n16.1 + 1 + 1 + 1 + n27.1 + 1 + n34.1 + 1, n.2 + 10 + n2.2 + 7 + n9.2 + 3 + n16.2 + N22 + N24 + 3 + n27.2 + 3 + n34.2 + N40) ∧ (∃ fs41, (rb_nw (rb_up M37 a0 (rb_O 0 (fs39.set 8 (.ref M30.1)))) (rb_L N40 (fun _ => 0))).2 a0 = some (rb_O 0 fs41) ∧ 9 < fs41.length ∧ (rb_rom κ (n.1 + 1 + n2.1 + 1 + n9.1 + 1 + n16.1 + 1 + 1 + 1 + n27.1 + 1 + n34.1 + 1 + 1, n.2 + 10 + n2.2 + 7 + n9.2 + 3 + n16.2 + N22 + N24 + 3 + n27.2 + 3 + n34.2 + N40 + 3) ∧ (∃ (ci47 : Nat) (d42 : Nat) (n43 : Nat × Nat) (Q44 : Outcome → rb_H → Prop), rb_Ct κ.1 yJ4_init wJ4_init d42 n43 [.ref (M37.1 + 1)] (rb_nw (rb_up (rb_nw (rb_up M37 a0 (rb_O 0 (fs39.set 8 (.ref M30.1)))) (rb_L N40 (fun _ => 0))) a0 (rb_O 0 (fs41.set 9 (.ref M37.1)))) (rb_O 7 [.int 0, .null, .int 0])) Q44 ∧ rb_dp κ d42 ∧ rb_rom κ (n.1 + 1 + n2.1 + 1 + n9.1 + 1 + n16.1 + 1 + 1 + 1 + n27.1 + 1 + n34.1 + 1 + 1 + n43.1, n.2 + 10 + n2.2 + 7 + n9.2 + 3 + n16.2 + N22 + N24 + 3 + n27.2 + 3 + n34.2 + N40 + 3 + n43.2) ∧ rb_ob (rb_nw (rb_up (rb_nw (rb_up M37 a0 (rb_O 0 (fs39.set 8 (.ref M30.1)))) (rb_L N40 (fun _ => 0))) a0 (rb_O 0 (fs41.set 9 (.ref M37.1)))) (rb_O 7 [.int 0, .null, .int 0])) (M37.1 + 1) ci47 ∧ ∀ (o : Outcome) (M46 : rb_H), Q44 o M46 → (o = .returned none ∧ (∃ fs48, M46.2 a0 = some (rb_O 0 fs48) ∧ 10 < fs48.length ∧ (∃ N49, (6 : Int32) = nI N49 ∧ N49 ≤ 67108864 ∧ rb_rom κ (n.1 + 1 + n2.1 + 1 + n9.1 + 1 + n16.1 + 1 + 1 + 1 + n27.1 + 1 + n34.1 + 1 + 1 + n43.1 + 1, n.2 + 10 + n2.2 + 7 + n9.2 + 3 + n16.2 + N22 + N24 + 3 + n27.2 + 3 + n34.2 + N40 + 3 + n43.2 + N49) ∧ (∃ fs50, (rb_nw (rb_up M46 a0 (rb_O 0 (fs48.set 10 (.ref (M37.1 + 1))))) (rb_I N49 (fun _ => 0))).2 a0 = some (rb_O 0 fs50) ∧ 11 < fs50.length ∧ (∃ N51, (6 : Int32) = nI N51 ∧ N51 ≤ 67108864 ∧ rb_rom κ (n.1 + 1 + n2.1 + 1 + n9.1 + 1 + n16.1 + 1 + 1 + 1 + n27.1 + 1 + n34.1 + 1 + 1 + n43.1 + 1 + 1, n.2 + 10 + n2.2 + 7 + n9.2 + 3 + n16.2 + N22 + N24 + 3 + n27.2 + 3 + n34.2 + N40 + 3 + n43.2 + N49 + N51) ∧ (∃ fs52, (rb_nw (rb_up (rb_nw (rb_up M46 a0 (rb_O 0 (fs48.set 10 (.ref (M37.1 + 1))))) (rb_I N49 (fun _ => 0))) a0 (rb_O 0 (fs50.set 11 (.ref M46.1)))) (rb_I N51 (fun _ => 0))).2 a0 = some (rb_O 0 fs52) ∧ 12 < fs52.length ∧ (∃ N53, (4 : Int32) = nI N53 ∧ N53 ≤ 67108864 ∧ rb_rom κ (n.1 + 1 + n2.1 + 1 + n9.1 + 1 + n16.1 + 1 + 1 + 1 + n27.1 + 1 + n34.1 + 1 + 1 + n43.1 + 1 + 1 + 1, n.2 + 10 + n2.2 + 7 + n9.2 + 3 + n16.2 + N22 + N24 + 3 + n27.2 + 3 + n34.2 + N40 + 3 + n43.2 + N49 + N51 + N53) ∧ (∃ fs54, (rb_nw (rb_up (rb_nw (rb_up (rb_nw (rb_up M46 a0 (rb_O 0 (fs48.set 10 (.ref (M37.1 + 1))))) (rb_I N49 (fun _ => 0))) a0 (rb_O 0 (fs50.set 11 (.ref M46.1)))) (rb_I N51 (fun _ => 0))) a0 (rb_O 0 (fs52.set 12 (.ref (M46.1 + 1))))) (rb_I N53 (fun _ => 0))).2 a0 = some (rb_O 0 fs54) ∧ 14 < fs54.length ∧ (∃ N55, (4 : Int32) = nI N55 ∧ N55 ≤ 67108864 ∧ rb_rom κ (n.1 + 1 + n2.1 + 1 + n9.1 + 1 + n16.1 + 1 + 1 + 1 + n27.1 + 1 + n34.1 + 1 + 1 + n43.1 + 1 + 1 + 1 + 1, n.2 + 10 + n2.2 + 7 + n9.2 + 3 + n16.2 + N22 + N24 + 3 + n27.2 + 3 + n34.2 + N40 + 3 + n43.2 + N49 + N51 + N53 + N55) ∧ (∃ fs56, (rb_nw (rb_up (rb_nw (rb_up (rb_nw (rb_up (rb_nw (rb_up M46 a0 (rb_O 0 (fs48.set 10 (.ref (M37.1 + 1))))) (rb_I N49 (fun _ => 0))) a0 (rb_O 0 (fs50.set 11 (.ref M46.1)))) (rb_I N51 (fun _ => 0))) a0 (rb_O 0 (fs52.set 12 (.ref (M46.1 + 1))))) (rb_I N53 (fun _ => 0))) a0 (rb_O 0 (fs54.set 14 (.ref (M46.1 + 2))))) (rb_I N55 (fun _ => 0))).2 a0 = some (rb_O 0 fs56) ∧ 15 < fs56.length ∧ (∃ N57, (24 : Int32) = nI N57 ∧ N57 ≤ 67108864 ∧ rb_rom κ (n.1 + 1 + n2.1 + 1 + n9.1 + 1 + n16.1 + 1 + 1 + 1 + n27.1 + 1 + n34.1 + 1 + 1 + n43.1 + 1 + 1 + 1 + 1 + 1, n.2 + 10 + n2.2 + 7 + n9.2 + 3 + n16.2 + N22 + N24 + 3 + n27.2 + 3 + n34.2 + N40 + 3 + n43.2 + N49 + N51 + N53 + N55 + N57) ∧ (∃ fs58, (rb_nw (rb_up (rb_nw (rb_up (rb_nw (rb_up (rb_nw (rb_up (rb_nw (rb_up M46 a0 (rb_O 0 (fs48.set 10 (.ref (M37.1 + 1))))) (rb_I N49 (fun _ => 0))) a0 (rb_O 0 (fs50.set 11 (.ref M46.1)))) (rb_I N51 (fun _ => 0))) a0 (rb_O 0 (fs52.set 12 (.ref (M46.1 + 1))))) (rb_I N53 (fun _ => 0))) a0 (rb_O 0 (fs54.set 14 (.ref (M46.1 + 2))))) (rb_I N55 (fun _ => 0))) a0 (rb_O 0 (fs56.set 15 (.ref (M46.1 + 3))))) (rb_Z N57 (fun _ => 0))).2 a0 = some (rb_O 0 fs58) ∧ 16 < fs58.length ∧ (∃ N59, (24 : Int32) = nI N59 ∧ N59 ≤ 67108864 ∧ rb_rom κ (n.1 + 1 + n2.1 + 1 + n9.1 + 1 + n16.1 + 1 + 1 + 1 + n27.1 + 1 + n34.1 + 1 + 1 + n43.1 + 1 + 1 + 1 + 1 + 1 + 1, n.2 + 10 + n2.2 + 7 + n9.2 + 3 + n16.2 + N22 + N24 + 3 + n27.2 + 3 + n34.2 + N40 + 3 + n43.2 + N49 + N51 + N53 + N55 + N57 + N59) ∧ (∃ fs60, (rb_nw (rb_up (rb_nw (rb_up (rb_nw (rb_up (rb_nw (rb_up (rb_nw (rb_up (rb_nw (rb_up M46 a0 (rb_O 0 (fs48.set 10 (.ref (M37.1 + 1))))) (rb_I N49 (fun _ => 0))) a0 (rb_O 0 (fs50.set 11 (.ref M46.1)))) (rb_I N51 (fun _ => 0))) a0 (rb_O 0 (fs52.set 12 (.ref (M46.1 + 1))))) (rb_I N53 (fun _ => 0))) a0 (rb_O 0 (fs54.set 14 (.ref (M46.1 + 2))))) (rb_I N55 (fun _ => 0))) a0 (rb_O 0 (fs56.set 15 (.ref (M46.1 + 3))))) (rb_Z N57 (fun _ => 0))) a0 (rb_O 0 (fs58.set 16 (.ref (M46.1 + 4))))) (rb_I N59 (fun _ => 0))).2 a0 = some (rb_O 0 fs60) ∧ 17 < fs60.length ∧ (∃ N61, (24 : Int32) = nI N61 ∧ N61 ≤ 67108864 ∧ rb_rom κ (n.1 + 1 + n2.1 + 1 + n9.1 + 1 + n16.1 + 1 + 1 + 1 + n27.1 + 1 + n34.1 + 1 + 1 + n43.1 + 1 + 1 + 1 + 1 + 1 + 1 + 1, n.2 + 10 + n2.2 + 7 + n9.2 + 3 + n16.2 + N22 + N24 + 3 + n27.2 + 3 + n34.2 + N40 + 3 + n43.2 + N49 + N51 + N53 + N55 + N57 + N59 + N61) ∧ (∃ fs62, (rb_nw (rb_up (rb_nw (rb_up (rb_nw (rb_up (rb_nw (rb_up (rb_nw (rb_up (rb_nw (rb_up (rb_nw (rb_up M46 a0 (rb_O 0 (fs48.set 10 (.ref (M37.1 + 1))))) (rb_I N49 (fun _ => 0))) a0 (rb_O 0 (fs50.set 11 (.ref M46.1)))) (rb_I N51 (fun _ => 0))) a0 (rb_O 0 (fs52.set 12 (.ref (M46.1 + 1))))) (rb_I N53 (fun _ => 0))) a0 (rb_O 0 (fs54.set 14 (.ref (M46.1 + 2))))) (rb_I N55 (fun _ => 0))) a0 (rb_O 0 (fs56.set 15 (.ref (M46.1 + 3))))) (rb_Z N57 (fun _ => 0))) a0 (rb_O 0 (fs58.set 16 (.ref (M46.1 + 4))))) (rb_I N59 (fun _ => 0))) a0 (rb_O 0 (fs60.set 17 (.ref (M46.1 + 5))))) (rb_I N61 (fun _ => 0))).2 a0 = some (rb_O 0 fs62) ∧ 18 < fs62.length ∧ (∃ fs63, (rb_up (rb_nw (rb_up (rb_nw (rb_up (rb_nw (rb_up (rb_nw (rb_up (rb_nw (rb_up (rb_nw (rb_up (rb_nw (rb_up M46 a0 (rb_O 0 (fs48.set 10 (.ref (M37.1 + 1))))) (rb_I N49 (fun _ => 0))) a0 (rb_O 0 (fs50.set 11 (.ref M46.1)))) (rb_I N51 (fun _ => 0))) a0 (rb_O 0 (fs52.set 12 (.ref (M46.1 + 1))))) (rb_I N53 (fun _ => 0))) a0 (rb_O 0 (fs54.set 14 (.ref (M46.1 + 2))))) (rb_I N55 (fun _ => 0))) a0 (rb_O 0 (fs56.set 15 (.ref (M46.1 + 3))))) (rb_Z N57 (fun _ => 0))) a0 (rb_O 0 (fs58.set 16 (.ref (M46.1 + 4))))) (rb_I N59 (fun _ => 0))) a0 (rb_O 0 (fs60.set 17 (.ref (M46.1 + 5))))) (rb_I N61 (fun _ => 0))) a0 (rb_O 0 (fs62.set 18 (.ref (M46.1 + 6))))).2 a0 = some (rb_O 0 fs63) ∧ 20 < fs63.length ∧ (∃ fs64, (rb_up (rb_up (rb_nw (rb_up (rb_nw (rb_up (rb_nw (rb_up (rb_nw (rb_up (rb_nw (rb_up (rb_nw (rb_up (rb_nw (rb_up M46 a0 (rb_O 0 (fs48.set 10 (.ref (M37.1 + 1))))) (rb_I N49 (fun _ => 0))) a0 (rb_O 0 (fs50.set 11 (.ref M46.1)))) (rb_I N51 (fun _ => 0))) a0 (rb_O 0 (fs52.set 12 (.ref (M46.1 + 1))))) (rb_I N53 (fun _ => 0))) a0 (rb_O 0 (fs54.set 14 (.ref (M46.1 + 2))))) (rb_I N55 (fun _ => 0))) a0 (rb_O 0 (fs56.set 15 (.ref (M46.1 + 3))))) (rb_Z N57 (fun _ => 0))) a0 (rb_O 0 (fs58.set 16 (.ref (M46.1 + 4))))) (rb_I N59 (fun _ => 0))) a0 (rb_O 0 (fs60.set 17 (.ref (M46.1 + 5))))) (rb_I N61 (fun _ => 0))) a0 (rb_O 0 (fs62.set 18 (.ref (M46.1 + 6))))) a0 (rb_O 0 (fs63.set 20 (.int (-9 : Int32))))).2 a0 = some (rb_O 0 fs64) ∧ 21 < fs64.length ∧ (∃ N65, (41 : Int32) = nI N65 ∧ N65 ≤ 67108864 ∧ rb_rom κ (n.1 + 1 + n2.1 + 1 + n9.1 + 1 + n16.1 + 1 + 1 + 1 + n27.1 + 1 + n34.1 + 1 + 1 + n43.1 + 1 + 1 + 1 + 1 + 1 + 1 + 1 + 1, n.2 + 10 + n2.2 + 7 + n9.2 + 3 + n16.2 + N22 + N24 + 3 + n27.2 + 3 + n34.2 + N40 + 3 + n43.2 + N49 + N51 + N53 + N55 + N57 + N59 + N61 + N65) ∧ (∃ fs66, (rb_nw (rb_up (rb_up (rb_up (rb_nw (rb_up (rb_nw (rb_up (rb_nw (rb_up (rb_nw (rb_up (rb_nw (rb_up (rb_nw (rb_up (rb_nw (rb_up M46 a0 (rb_O 0 (fs48.set 10 (.ref (M37.1 + 1))))) (rb_I N49 (fun _ => 0))) a0 (rb_O 0 (fs50.set 11 (.ref M46.1)))) (rb_I N51 (fun _ => 0))) a0 (rb_O 0 (fs52.set 12 (.ref (M46.1 + 1))))) (rb_I N53 (fun _ => 0))) a0 (rb_O 0 (fs54.set 14 (.ref (M46.1 + 2))))) (rb_I N55 (fun _ => 0))) a0 (rb_O 0 (fs56.set 15 (.ref (M46.1 + 3))))) (rb_Z N57 (fun _ => 0))) a0 (rb_O 0 (fs58.set 16 (.ref (M46.1 + 4))))) (rb_I N59 (fun _ => 0))) a0 (rb_O 0 (fs60.set 17 (.ref (M46.1 + 5))))) (rb_I N61 (fun _ => 0))) a0 (rb_O 0 (fs62.set 18 (.ref (M46.1 + 6))))) a0 (rb_O 0 (fs63.set 20 (.int (-9 : Int32))))) a0 (rb_O 0 (fs64.set 21 (.int (-9 : Int32))))) (rb_R 5 N65 (fun _ => none))).2 a0 = some (rb_O 0 fs66) ∧ 22 < fs66.length ∧ (∃ N67, (60 : Int32) = nI N67 ∧ N67 ≤ 67108864 ∧ rb_rom κ (n.1 + 1 + n2.1 + 1 + n9.1 + 1 + n16.1 + 1 + 1 + 1 + n27.1 + 1 + n34.1 + 1 + 1 + n43.1 + 1 + 1 + 1 + 1 + 1 + 1 + 1 + 1 + 1, n.2 + 10 + n2.2 + 7 + n9.2 + 3 + n16.2 + N22 + N24 + 3 + n27.2 + 3 + n34.2 + N40 + 3 + n43.2 + N49 + N51 + N53 + N55 + N57 + N59 + N61 + N65 + N67) ∧ (∃ fs68, (rb_nw (rb_up (rb_nw (rb_up (rb_up (rb_up (rb_nw (rb_up (rb_nw (rb_up (rb_nw (rb_up (rb_nw (rb_up (rb_nw (rb_up (rb_nw (rb_up (rb_nw (rb_up M46 a0 (rb_O 0 (fs48.set 10 (.ref (M37.1 + 1))))) (rb_I N49 (fun _ => 0))) a0 (rb_O 0 (fs50.set 11 (.ref M46.1)))) (rb_I N51 (fun _ => 0))) a0 (rb_O 0 (fs52.set 12 (.ref (M46.1 + 1))))) (rb_I N53 (fun _ => 0))) a0 (rb_O 0 (fs54.set 14 (.ref (M46.1 + 2))))) (rb_I N55 (fun _ => 0))) a0 (rb_O 0 (fs56.set 15 (.ref (M46.1 + 3))))) (rb_Z N57 (fun _ => 0))) a0 (rb_O 0 (fs58.set 16 (.ref (M46.1 + 4))))) (rb_I N59 (fun _ => 0))) a0 (rb_O 0 (fs60.set 17 (.ref (M46.1 + 5))))) (rb_I N61 (fun _ => 0))) a0 (rb_O 0 (fs62.set 18 (.ref (M46.1 + 6))))) a0 (rb_O 0 (fs63.set 20 (.int (-9 : Int32))))) a0 (rb_O 0 (fs64.set 21 (.int (-9 : Int32))))) (rb_R 5 N65 (fun _ => none))) a0 (rb_O 0 (fs66.set 22 (.ref (M46.1 + 7))))) (rb_R 4 N67 (fun _ => none))).2 a0 = some (rb_O 0 fs68) ∧ 24 < fs68.length ∧ (∃ N69, (60 : Int32) = nI N69 ∧ N69 ≤ 67108864 ∧ rb_rom κ (n.1 + 1 + n2.1 + 1 + n9.1 + 1 + n16.1 + 1 + 1 + 1 + n27.1 + 1 + n34.1 + 1 + 1 + n43.1 + 1 + 1 + 1 + 1 + 1 + 1 + 1 + 1 + 1 + 1, n.2 + 10 + n2.2 + 7 + n9.2 + 3 + n16.2 + N22 + N24 + 3 + n27.2 + 3 + n34.2 + N40 + 3 + n43.2 + N49 + N51 + N53 + N55 + N57 + N59 + N61 + N65 + N67 + N69) ∧ (∃ fs70, (rb_nw (rb_up (rb_nw (rb_up (rb_nw (rb_up (rb_up (rb_up (rb_nw (rb_up (rb_nw (rb_up (rb_nw (rb_up (rb_nw (rb_up (rb_nw (rb_up (rb_nw (rb_up (rb_nw (rb_up M46 a0 (rb_O 0 (fs48.set 10 (.ref (M37.1 + 1))))) (rb_I N49 (fun _ => 0))) a0 (rb_O 0 (fs50.set 11 (.ref M46.1)))) (rb_I N51 (fun _ => 0))) a0 (rb_O 0 (fs52.set 12 (.ref (M46.1 + 1))))) (rb_I N53 (fun _ => 0))) a0 (rb_O 0 (fs54.set 14 (.ref (M46.1 + 2))))) (rb_I N55 (fun _ => 0))) a0 (rb_O 0 (fs56.set 15 (.ref (M46.1 + 3))))) (rb_Z N57 (fun _ => 0))) a0 (rb_O 0 (fs58.set 16 (.ref (M46.1 + 4))))) (rb_I N59 (fun _ => 0))) a0 (rb_O 0 (fs60.set 17 (.ref (M46.1 + 5))))) (rb_I N61 (fun _ => 0))) a0 (rb_O 0 (fs62.set 18 (.ref (M46.1 + 6))))) a0 (rb_O 0 (fs63.set 20 (.int (-9 : Int32))))) a0 (rb_O 0 (fs64.set 21 (.int (-9 : Int32))))) (rb_R 5 N65 (fun _ => none))) a0 (rb_O 0 (fs66.set 22 (.ref (M46.1 + 7))))) (rb_R 4 N67 (fun _ => none))) a0 (rb_O 0 (fs68.set 24 (.ref (M46.1 + 8))))) (rb_I N69 (fun _ => 0))).2 a0 = some (rb_O 0 fs70) ∧ 25 < fs70.length ∧ (∃ fs71, (rb_up (rb_nw (rb_up (rb_nw (rb_up (rb_nw (rb_up (rb_up (rb_up (rb_nw (rb_up (rb_nw (rb_up (rb_nw (rb_up (rb_nw (rb_up (rb_nw (rb_up (rb_nw (rb_up (rb_nw (rb_up M46 a0 (rb_O 0 (fs48.set 10 (.ref (M37.1 + 1))))) (rb_I N49 (fun _ => 0))) a0 (rb_O 0 (fs50.set 11 (.ref M46.1)))) (rb_I N51 (fun _ => 0))) a0 (rb_O 0 (fs52.set 12 (.ref (M46.1 + 1))))) (rb_I N53 (fun _ => 0))) a0 (rb_O 0 (fs54.set 14 (.ref (M46.1 + 2))))) (rb_I N55 (fun _ => 0))) a0 (rb_O 0 (fs56.set 15 (.ref (M46.1 + 3))))) (rb_Z N57 (fun _ => 0))) a0 (rb_O 0 (fs58.set 16 (.ref (M46.1 + 4))))) (rb_I N59 (fun _ => 0))) a0 (rb_O 0 (fs60.set 17 (.ref (M46.1 + 5))))) (rb_I N61 (fun _ => 0))) a0 (rb_O 0 (fs62.set 18 (.ref (M46.1 + 6))))) a0 (rb_O 0 (fs63.set 20 (.int (-9 : Int32))))) a0 (rb_O 0 (fs64.set 21 (.int (-9 : Int32))))) (rb_R 5 N65 (fun _ => none))) a0 (rb_O 0 (fs66.set 22 (.ref (M46.1 + 7))))) (rb_R 4 N67 (fun _ => none))) a0 (rb_O 0 (fs68.set 24 (.ref (M46.1 + 8))))) (rb_I N69 (fun _ => 0))) a0 (rb_O 0 (fs70.set 25 (.ref (M46.1 + 9))))).2 a0 = some (rb_O 0 fs71) ∧ 27 < fs71.length ∧ (∃ fs72, (rb_up (rb_up (rb_nw (rb_up (rb_nw (rb_up (rb_nw (rb_up (rb_up (rb_up (rb_nw (rb_up (rb_nw (rb_up (rb_nw (rb_up (rb_nw (rb_up (rb_nw (rb_up (rb_nw (rb_up (rb_nw (rb_up M46 a0 (rb_O 0 (fs48.set 10 (.ref (M37.1 + 1))))) (rb_I N49 (fun _ => 0))) a0 (rb_O 0 (fs50.set 11 (.ref M46.1)))) (rb_I N51 (fun _ => 0))) a0 (rb_O 0 (fs52.set 12 (.ref (M46.1 + 1))))) (rb_I N53 (fun _ => 0))) a0 (rb_O 0 (fs54.set 14 (.ref (M46.1 + 2))))) (rb_I N55 (fun _ => 0))) a0 (rb_O 0 (fs56.set 15 (.ref (M46.1 + 3))))) (rb_Z N57 (fun _ => 0))) a0 (rb_O 0 (fs58.set 16 (.ref (M46.1 + 4))))) (rb_I N59 (fun _ => 0))) a0 (rb_O 0 (fs60.set 17 (.ref (M46.1 + 5))))) (rb_I N61 (fun _ => 0))) a0 (rb_O 0 (fs62.set 18 (.ref (M46.1 + 6))))) a0 (rb_O 0 (fs63.set 20 (.int (-9 : Int32))))) a0 (rb_O 0 (fs64.set 21 (.int (-9 : Int32))))) (rb_R 5 N65 (fun _ => none))) a0 (rb_O 0 (fs66.set 22 (.ref (M46.1 + 7))))) (rb_R 4 N67 (fun _ => none))) a0 (rb_O 0 (fs68.set 24 (.ref (M46.1 + 8))))) (rb_I N69 (fun _ => 0))) a0 (rb_O 0 (fs70.set 25 (.ref (M46.1 + 9))))) a0 (rb_O 0 (fs71.set 27 (.int (-9 : Int32))))).2 a0 = some (rb_O 0 fs72) ∧ 28 < fs72.length ∧ (∃ fs73, (rb_up (rb_up (rb_up (rb_nw (rb_up (rb_nw (rb_up (rb_nw (rb_up (rb_up (rb_up (rb_nw (rb_up (rb_nw (rb_up (rb_nw (rb_up (rb_nw (rb_up (rb_nw (rb_up (rb_nw (rb_up (rb_nw (rb_up M46 a0 (rb_O 0 (fs48.set 10 (.ref (M37.1 + 1))))) (rb_I N49 (fun _ => 0))) a0 (rb_O 0 (fs50.set 11 (.ref M46.1)))) (rb_I N51 (fun _ => 0))) a0 (rb_O 0 (fs52.set 12 (.ref (M46.1 + 1))))) (rb_I N53 (fun _ => 0))) a0 (rb_O 0 (fs54.set 14 (.ref (M46.1 + 2))))) (rb_I N55 (fun _ => 0))) a0 (rb_O 0 (fs56.set 15 (.ref (M46.1 + 3))))) (rb_Z N57 (fun _ => 0))) a0 (rb_O 0 (fs58.set 16 (.ref (M46.1 + 4))))) (rb_I N59 (fun _ => 0))) a0 (rb_O 0 (fs60.set 17 (.ref (M46.1 + 5))))) (rb_I N61 (fun _ => 0))) a0 (rb_O 0 (fs62.set 18 (.ref (M46.1 + 6))))) a0 (rb_O 0 (fs63.set 20 (.int (-9 : Int32))))) a0 (rb_O 0 (fs64.set 21 (.int (-9 : Int32))))) (rb_R 5 N65 (fun _ => none))) a0 (rb_O 0 (fs66.set 22 (.ref (M46.1 + 7))))) (rb_R 4 N67 (fun _ => none))) a0 (rb_O 0 (fs68.set 24 (.ref (M46.1 + 8))))) (rb_I N69 (fun _ => 0))) a0 (rb_O 0 (fs70.set 25 (.ref (M46.1 + 9))))) a0 (rb_O 0 (fs71.set 27 (.int (-9 : Int32))))) a0 (rb_O 0 (fs72.set 28 (.int (-9 : Int32))))).2 a0 = some (rb_O 0 fs73) ∧ 29 < fs73.length ∧ (∃ N74, (100 : Int32) = nI N74 ∧ N74 ≤ 67108864 ∧ rb_rom κ (n.1 + 1 + n2.1 + 1 + n9.1 + 1 + n16.1 + 1 + 1 + 1 + n27.1 + 1 + n34.1 + 1 + 1 + n43.1 + 1 + 1 + 1 + 1 + 1 + 1 + 1 + 1 + 1 + 1 + 1, n.2 + 10 + n2.2 + 7 + n9.2 + 3 + n16.2 + N22 + N24 + 3 + n27.2 + 3 + n34.2 + N40 + 3 + n43.2 + N49 + N51 + N53 + N55 + N57 + N59 + N61 + N65 + N67 + N69 + N74) ∧ (∃ fs75, (rb_nw (rb_up (rb_up (rb_up (rb_up (rb_nw (rb_up (rb_nw (rb_up (rb_nw (rb_up (rb_up (rb_up (rb_nw (rb_up (rb_nw (rb_up (rb_nw (rb_up (rb_nw (rb_up (rb_nw (rb_up (rb_nw (rb_up (rb_nw (rb_up M46 a0 (rb_O 0 (fs48.set 10 (.ref (M37.1 + 1))))) (rb_I N49 (fun _ => 0))) a0 (rb_O 0 (fs50.set 11 (.ref M46.1)))) (rb_I N51 (fun _ => 0))) a0 (rb_O 0 (fs52.set 12 (.ref (M46.1 + 1))))) (rb_I N53 (fun _ => 0))) a0 (rb_O 0 (fs54.set 14 (.ref (M46.1 + 2))))) (rb_I N55 (fun _ => 0))) a0 (rb_O 0 (fs56.set 15 (.ref (M46.1 + 3))))) (rb_Z N57 (fun _ => 0))) a0 (rb_O 0 (fs58.set 16 (.ref (M46.1 + 4))))) (rb_I N59 (fun _ => 0))) a0 (rb_O 0 (fs60.set 17 (.ref (M46.1 + 5))))) (rb_I N61 (fun _ => 0))) a0 (rb_O 0 (fs62.set 18 (.ref (M46.1 + 6))))) a0 (rb_O 0 (fs63.set 20 (.int (-9 : Int32))))) a0 (rb_O 0 (fs64.set 21 (.int (-9 : Int32))))) (rb_R 5 N65 (fun _ => none))) a0 (rb_O 0 (fs66.set 22 (.ref (M46.1 + 7))))) (rb_R 4 N67 (fun _ => none))) a0 (rb_O 0 (fs68.set 24 (.ref (M46.1 + 8))))) (rb_I N69 (fun _ => 0))) a0 (rb_O 0 (fs70.set 25 (.ref (M46.1 + 9))))) a0 (rb_O 0 (fs71.set 27 (.int (-9 : Int32))))) a0 (rb_O 0 (fs72.set 28 (.int (-9 : Int32))))) a0 (rb_O 0 (fs73.set 29 (.int (-9 : Int32))))) (rb_L N74 (fun _ => 0))).2 a0 = some (rb_O 0 fs75) ∧ 34 < fs75.length ∧ rb_Bd κ mX0_init (n.1 + 1 + n2.1 + 1 + n9.1 + 1 + n16.1 + 1 + 1 + 1 + n27.1 + 1 + n34.1 + 1 + 1 + n43.1 + 1 + 1 + 1 + 1 + 1 + 1 + 1 + 1 + 1 + 1 + 1, n.2 + 10 + n2.2 + 7 + n9.2 + 3 + n16.2 + N22 + N24 + 3 + n27.2 + 3 + n34.2 + N40 + 3 + n43.2 + N49 + N51 + N53 + N55 + N57 + N59 + N61 + N65 + N67 + N69 + N74) (rb_up (rb_nw (rb_up (rb_up (rb_up (rb_up (rb_nw (rb_up (rb_nw (rb_up (rb_nw (rb_up (rb_up (rb_up (rb_nw (rb_up (rb_nw (rb_up (rb_nw (rb_up (rb_nw (rb_up (rb_nw (rb_up (rb_nw (rb_up (rb_nw (rb_up M46 a0 (rb_O 0 (fs48.set 10 (.ref (M37.1 + 1))))) (rb_I N49 (fun _ => 0))) a0 (rb_O 0 (fs50.set 11 (.ref M46.1)))) (rb_I N51 (fun _ => 0))) a0 (rb_O 0 (fs52.set 12 (.ref (M46.1 + 1))))) (rb_I N53 (fun _ => 0))) a0 (rb_O 0 (fs54.set 14 (.ref (M46.1 + 2))))) (rb_I N55 (fun _ => 0))) a0 (rb_O 0 (fs56.set 15 (.ref (M46.1 + 3))))) (rb_Z N57 (fun _ => 0))) a0 (rb_O 0 (fs58.set 16 (.ref (M46.1 + 4))))) (rb_I N59 (fun _ => 0))) a0 (rb_O 0 (fs60.set 17 (.ref (M46.1 + 5))))) (rb_I N61 (fun _ => 0))) a0 (rb_O 0 (fs62.set 18 (.ref (M46.1 + 6))))) a0 (rb_O 0 (fs63.set 20 (.int (-9 : Int32))))) a0 (rb_O 0 (fs64.set 21 (.int (-9 : Int32))))) (rb_R 5 N65 (fun _ => none))) a0 (rb_O 0 (fs66.set 22 (.ref (M46.1 + 7))))) (rb_R 4 N67 (fun _ => none))) a0 (rb_O 0 (fs68.set 24 (.ref (M46.1 + 8))))) (rb_I N69 (fun _ => 0))) a0 (rb_O 0 (fs70.set 25 (.ref (M46.1 + 9))))) a0 (rb_O 0 (fs71.set 27 (.int (-9 : Int32))))) a0 (rb_O 0 (fs72.set 28 (.int (-9 : Int32))))) a0 (rb_O 0 (fs73.set 29 (.int (-9 : Int32))))) (rb_L N74 (fun _ => 0))) a0 (rb_O 0 (fs75.set 34 (.ref (M46.1 + 10))))) 214 [some (.ref a0), some (.int (0 : Int32))] []))))))))))))))))))))))))))))))))))))))))))))))))))))))))))) : rb_Bd κ mX0_init n M 0 [some (.ref a0), none] [] := by
  refine rb_aload_n 0 rfl rfl (rb_isR_ref _) dX0_init_0 ?_
  refine rb_objInit q122 q123 q124 (K).1.1 (Nat.le_trans (Nat.le_of_ble_eq_true rfl) (K).1.2) dX0_init_1 ?_
  refine rb_aload_n 0 rfl rfl (rb_isR_ref _) dX0_init_4 ?_
  refine rb_new nw_X0_8 (fs := [.null, .null, .null, .null, .null, .int 0, .int 0, .long 0, .null, .int 0]) rfl ((K).2).1.1 ((K).2).1.2 dX0_init_5 ?_
  show rb_Bd κ mX0_init (n.1 + 1, n.2 + 10) (rb_nw M (rb_O 1 [.null, .null, .null, .null, .null, .int 0, .int 0, .long 0, .null, .int 0])) 8 [some (.ref a0), none] [.ref M.1, .ref a0]
  refine rb_dup rfl dX0_init_8 ?_
  obtain ⟨ci6, d1, n2, Q3, h1v4, hdv4, hnv4, hov4, Kv4⟩ := ((K).2).2
  refine rb_call (st_X0_120 ci6) (rest := [.ref M.1, .ref a0]) h1v4 rfl rfl (rc_rc rfl hov4) (Nat.le_of_ble_eq_true rfl) hdv4.1 hdv4.2 hnv4.1 hnv4.2 dX0_init_9 (fun o M5 hpv4 => ?_)
  obtain ⟨eo, KKv4⟩ := Kv4 o M5 hpv4
  subst eo
  show rb_Bd κ mX0_init (n.1 + 1 + n2.1, n.2 + 10 + n2.2) M5 12 [some (.ref a0), none] [.ref M.1, .ref a0]
  obtain ⟨fs7, hMfs7, hlfs7, Kfs7⟩ := KKv4
  refine rb_put fl_X0_1_0 (fun q hq => by cases hq; exact Or.inr ⟨rfl, rfl⟩) (rb_nfR (rb_isR_ref _) _).1 (rb_nfR (rb_isR_ref _) _).2 hMfs7 hlfs7 dX0_init_12 ?_
  refine rb_aload_n 0 rfl rfl (rb_isR_ref _) dX0_init_15 ?_
  refine rb_new nw_X0_41 (fs := [.null, .null, .null, .null, .null, .int 0, .int 0]) rfl (Kfs7).1.1 (Kfs7).1.2 dX0_init_16 ?_
  show rb_Bd κ mX0_init (n.1 + 1 + n2.1 + 1, n.2 + 10 + n2.2 + 7) (rb_nw (rb_up M5 a0 (rb_O 0 (fs7.set 0 (.ref M.1)))) (rb_O 2 [.null, .null, .null, .null, .null, .int 0, .int 0])) 19 [some (.ref a0), none] [.ref M5.1, .ref a0]
  refine rb_dup rfl dX0_init_19 ?_
  obtain ⟨ci13, d8, n9, Q10, h1v11, hdv11, hnv11, hov11, Kv11⟩ := (Kfs7).2
  refine rb_call (st_X0_121 ci13) (rest := [.ref M5.1, .ref a0]) h1v11 rfl rfl (rc_rc rfl hov11) (Nat.le_of_ble_eq_true rfl) hdv11.1 hdv11.2 hnv11.1 hnv11.2 dX0_init_20 (fun o M12 hpv11 => ?_)
  obtain ⟨eo, KKv11⟩ := Kv11 o M12 hpv11
  subst eo
  show rb_Bd κ mX0_init (n.1 + 1 + n2.1 + 1 + n9.1, n.2 + 10 + n2.2 + 7 + n9.2) M12 23 [some (.ref a0), none] [.ref M5.1, .ref a0]
  obtain ⟨fs14, hMfs14, hlfs14, Kfs14⟩ := KKv11
  refine rb_put fl_X0_36_0 (fun q hq => by cases hq; exact Or.inr ⟨rfl, rfl⟩) (rb_nfR (rb_isR_ref _) _).1 (rb_nfR (rb_isR_ref _) _).2 hMfs14 hlfs14 dX0_init_23 ?_
  refine rb_aload_n 0 rfl rfl (rb_isR_ref _) dX0_init_26 ?_
  refine rb_new nw_X0_122 (fs := [.int 0, .null, .int 0]) rfl (Kfs14).1.1 (Kfs14).1.2 dX0_init_27 ?_
  show rb_Bd κ mX0_init (n.1 + 1 + n2.1 + 1 + n9.1 + 1, n.2 + 10 + n2.2 + 7 + n9.2 + 3) (rb_nw (rb_up M12 a0 (rb_O 0 (fs14.set 1 (.ref M5.1)))) (rb_O 7 [.int 0, .null, .int 0])) 30 [some (.ref a0), none] [.ref M12.1, .ref a0]
  refine rb_dup rfl dX0_init_30 ?_
  obtain ⟨ci20, d15, n16, Q17, h1v18, hdv18, hnv18, hov18, Kv18⟩ := (Kfs14).2
  refine rb_call (st_X0_124 ci20) (rest := [.ref M12.1, .ref a0]) h1v18 rfl rfl (rc_rc rfl hov18) (Nat.le_of_ble_eq_true rfl) hdv18.1 hdv18.2 hnv18.1 hnv18.2 dX0_init_31 (fun o M19 hpv18 => ?_)
  obtain ⟨eo, KKv18⟩ := Kv18 o M19 hpv18
  subst eo
  show rb_Bd κ mX0_init (n.1 + 1 + n2.1 + 1 + n9.1 + 1 + n16.1, n.2 + 10 + n2.2 + 7 + n9.2 + 3 + n16.2) M19 34 [some (.ref a0), none] [.ref M12.1, .ref a0]
  obtain ⟨fs21, hMfs21, hlfs21, Kfs21⟩ := KKv18
  refine rb_put fl_X0_125_0 (fun q hq => by cases hq; exact Or.inr ⟨rfl, rfl⟩) (rb_nfR (rb_isR_ref _) _).1 (rb_nfR (rb_isR_ref _) _).2 hMfs21 hlfs21 dX0_init_34 ?_
  refine rb_aload_n 0 rfl rfl (rb_isR_ref _) dX0_init_37 ?_
  refine rb_bipush (v := (30 : Int32)) (by decide) dX0_init_38 ?_
  obtain ⟨N22, hxN22, hNN22, hrN22, KN22⟩ := Kfs21
  refine rb_newa (atype := .int) (t := 0) (N := N22) (e0 := rb_I N22 (fun _ => 0)) (Or.inl rfl) q289 hxN22 hNN22 rfl hrN22.1 hrN22.2 dX0_init_40 ?_
  show rb_Bd κ mX0_init (n.1 + 1 + n2.1 + 1 + n9.1 + 1 + n16.1 + 1, n.2 + 10 + n2.2 + 7 + n9.2 + 3 + n16.2 + N22) (rb_nw (rb_up M19 a0 (rb_O 0 (fs21.set 2 (.ref M12.1)))) (rb_I N22 (fun _ => 0))) 42 [some (.ref a0), none] [.ref M19.1, .ref a0]
  obtain ⟨fs23, hMfs23, hlfs23, Kfs23⟩ := KN22
  refine rb_put fl_X0_129_0 (fun q hq => by cases hq; exact Or.inr ⟨rfl, rfl⟩) (rb_nfA (rb_isR_ref _) _).1 (rb_nfA (rb_isR_ref _) _).2 hMfs23 hlfs23 dX0_init_42 ?_
  refine rb_aload_n 0 rfl rfl (rb_isR_ref _) dX0_init_45 ?_
  refine rb_bipush (v := (30 : Int32)) (by decide) dX0_init_46 ?_
  obtain ⟨N24, hxN24, hNN24, hrN24, KN24⟩ := Kfs23
  refine rb_newa (atype := .int) (t := 0) (N := N24) (e0 := rb_I N24 (fun _ => 0)) (Or.inl rfl) q289 hxN24 hNN24 rfl hrN24.1 hrN24.2 dX0_init_48 ?_
  show rb_Bd κ mX0_init (n.1 + 1 + n2.1 + 1 + n9.1 + 1 + n16.1 + 1 + 1, n.2 + 10 + n2.2 + 7 + n9.2 + 3 + n16.2 + N22 + N24) (rb_nw (rb_up (rb_nw (rb_up M19 a0 (rb_O 0 (fs21.set 2 (.ref M12.1)))) (rb_I N22 (fun _ => 0))) a0 (rb_O 0 (fs23.set 3 (.ref M19.1)))) (rb_I N24 (fun _ => 0))) 50 [some (.ref a0), none] [.ref (M19.1 + 1), .ref a0]
  obtain ⟨fs25, hMfs25, hlfs25, Kfs25⟩ := KN24
  refine rb_put fl_X0_133_0 (fun q hq => by cases hq; exact Or.inr ⟨rfl, rfl⟩) (rb_nfA (rb_isR_ref _) _).1 (rb_nfA (rb_isR_ref _) _).2 hMfs25 hlfs25 dX0_init_50 ?_
  refine rb_aload_n 0 rfl rfl (rb_isR_ref _) dX0_init_53 ?_
  refine rb_new nw_X0_122 (fs := [.int 0, .null, .int 0]) rfl (Kfs25).1.1 (Kfs25).1.2 dX0_init_54 ?_
  show rb_Bd κ mX0_init (n.1 + 1 + n2.1 + 1 + n9.1 + 1 + n16.1 + 1 + 1 + 1, n.2 + 10 + n2.2 + 7 + n9.2 + 3 + n16.2 + N22 + N24 + 3) (rb_nw (rb_up (rb_nw (rb_up (rb_nw (rb_up M19 a0 (rb_O 0 (fs21.set 2 (.ref M12.1)))) (rb_I N22 (fun _ => 0))) a0 (rb_O 0 (fs23.set 3 (.ref M19.1)))) (rb_I N24 (fun _ => 0))) a0 (rb_O 0 (fs25.set 4 (.ref (M19.1 + 1))))) (rb_O 7 [.int 0, .null, .int 0])) 57 [some (.ref a0), none] [.ref (M19.1 + 2), .ref a0]
  refine rb_dup rfl dX0_init_57 ?_
  obtain ⟨ci31, d26, n27, Q28, h1v29, hdv29, hnv29, hov29, Kv29⟩ := (Kfs25).2
  refine rb_call (st_X0_124 ci31) (rest := [.ref (M19.1 + 2), .ref a0]) h1v29 rfl rfl (rc_rc rfl hov29) (Nat.le_of_ble_eq_true rfl) hdv29.1 hdv29.2 hnv29.1 hnv29.2 dX0_init_58 (fun o M30 hpv29 => ?_)
  obtain ⟨eo, KKv29⟩ := Kv29 o M30 hpv29
  subst eo
  show rb_Bd κ mX0_init (n.1 + 1 + n2.1 + 1 + n9.1 + 1 + n16.1 + 1 + 1 + 1 + n27.1, n.2 + 10 + n2.2 + 7 + n9.2 + 3 + n16.2 + N22 + N24 + 3 + n27.2) M30 61 [some (.ref a0), none] [.ref (M19.1 + 2), .ref a0]
  obtain ⟨fs32, hMfs32, hlfs32, Kfs32⟩ := KKv29
  refine rb_put fl_X0_136_0 (fun q hq => by cases hq; exact Or.inr ⟨rfl, rfl⟩) (rb_nfR (rb_isR_ref _) _).1 (rb_nfR (rb_isR_ref _) _).2 hMfs32 hlfs32 dX0_init_61 ?_
  refine rb_aload_n 0 rfl rfl (rb_isR_ref _) dX0_init_64 ?_
  refine rb_new nw_X0_122 (fs := [.int 0, .null, .int 0]) rfl (Kfs32).1.1 (Kfs32).1.2 dX0_init_65 ?_
  show rb_Bd κ mX0_init (n.1 + 1 + n2.1 + 1 + n9.1 + 1 + n16.1 + 1 + 1 + 1 + n27.1 + 1, n.2 + 10 + n2.2 + 7 + n9.2 + 3 + n16.2 + N22 + N24 + 3 + n27.2 + 3) (rb_nw (rb_up M30 a0 (rb_O 0 (fs32.set 7 (.ref (M19.1 + 2))))) (rb_O 7 [.int 0, .null, .int 0])) 68 [some (.ref a0), none] [.ref M30.1, .ref a0]
  refine rb_dup rfl dX0_init_68 ?_
  obtain ⟨ci38, d33, n34, Q35, h1v36, hdv36, hnv36, hov36, Kv36⟩ := (Kfs32).2
  refine rb_call (st_X0_124 ci38) (rest := [.ref M30.1, .ref a0]) h1v36 rfl rfl (rc_rc rfl hov36) (Nat.le_of_ble_eq_true rfl) hdv36.1 hdv36.2 hnv36.1 hnv36.2 dX0_init_69 (fun o M37 hpv36 => ?_)
  obtain ⟨eo, KKv36⟩ := Kv36 o M37 hpv36
  subst eo
  show rb_Bd κ mX0_init (n.1 + 1 + n2.1 + 1 + n9.1 + 1 + n16.1 + 1 + 1 + 1 + n27.1 + 1 + n34.1, n.2 + 10 + n2.2 + 7 + n9.2 + 3 + n16.2 + N22 + N24 + 3 + n27.2 + 3 + n34.2) M37 72 [some (.ref a0), none] [.ref M30.1, .ref a0]
  obtain ⟨fs39, hMfs39, hlfs39, Kfs39⟩ := KKv36
  refine rb_put fl_X0_139_0 (fun q hq => by cases hq; exact Or.inr ⟨rfl, rfl⟩) (rb_nfR (rb_isR_ref _) _).1 (rb_nfR (rb_isR_ref _) _).2 hMfs39 hlfs39 dX0_init_72 ?_
  refine rb_aload_n 0 rfl rfl (rb_isR_ref _) dX0_init_75 ?_
  refine rb_bipush (v := (8 : Int32)) (by decide) dX0_init_76 ?_
  obtain ⟨N40, hxN40, hNN40, hrN40, KN40⟩ := Kfs39
  refine rb_newa (atype := .long) (t := 1) (N := N40) (e0 := rb_L N40 (fun _ => 0)) (Or.inr (Or.inl rfl)) q290 hxN40 hNN40 rfl hrN40.1 hrN40.2 dX0_init_78 ?_
  show rb_Bd κ mX0_init (n.1 + 1 + n2.1 + 1 + n9.1 + 1 + n16.1 + 1 + 1 + 1 + n27.1 + 1 + n34.1 + 1, n.2 + 10 + n2.2 + 7 + n9.2 + 3 + n16.2 + N22 + N24 + 3 + n27.2 + 3 + n34.2 + N40) (rb_nw (rb_up M37 a0 (rb_O 0 (fs39.set 8 (.ref M30.1)))) (rb_L N40 (fun _ => 0))) 80 [some (.ref a0), none] [.ref M37.1, .ref a0]
  obtain ⟨fs41, hMfs41, hlfs41, Kfs41⟩ := KN40
  refine rb_put fl_X0_142_0 (fun q hq => by cases hq; exact Or.inr ⟨rfl, rfl⟩) (rb_nfA (rb_isR_ref _) _).1 (rb_nfA (rb_isR_ref _) _).2 hMfs41 hlfs41 dX0_init_80 ?_
  refine rb_aload_n 0 rfl rfl (rb_isR_ref _) dX0_init_83 ?_
  refine rb_new nw_X0_122 (fs := [.int 0, .null, .int 0]) rfl (Kfs41).1.1 (Kfs41).1.2 dX0_init_84 ?_
  show rb_Bd κ mX0_init (n.1 + 1 + n2.1 + 1 + n9.1 + 1 + n16.1 + 1 + 1 + 1 + n27.1 + 1 + n34.1 + 1 + 1, n.2 + 10 + n2.2 + 7 + n9.2 + 3 + n16.2 + N22 + N24 + 3 + n27.2 + 3 + n34.2 + N40 + 3) (rb_nw (rb_up (rb_nw (rb_up M37 a0 (rb_O 0 (fs39.set 8 (.ref M30.1)))) (rb_L N40 (fun _ => 0))) a0 (rb_O 0 (fs41.set 9 (.ref M37.1)))) (rb_O 7 [.int 0, .null, .int 0])) 87 [some (.ref a0), none] [.ref (M37.1 + 1), .ref a0]
  refine rb_dup rfl dX0_init_87 ?_
  obtain ⟨ci47, d42, n43, Q44, h1v45, hdv45, hnv45, hov45, Kv45⟩ := (Kfs41).2
  refine rb_call (st_X0_124 ci47) (rest := [.ref (M37.1 + 1), .ref a0]) h1v45 rfl rfl (rc_rc rfl hov45) (Nat.le_of_ble_eq_true rfl) hdv45.1 hdv45.2 hnv45.1 hnv45.2 dX0_init_88 (fun o M46 hpv45 => ?_)
  obtain ⟨eo, KKv45⟩ := Kv45 o M46 hpv45
  subst eo
  show rb_Bd κ mX0_init (n.1 + 1 + n2.1 + 1 + n9.1 + 1 + n16.1 + 1 + 1 + 1 + n27.1 + 1 + n34.1 + 1 + 1 + n43.1, n.2 + 10 + n2.2 + 7 + n9.2 + 3 + n16.2 + N22 + N24 + 3 + n27.2 + 3 + n34.2 + N40 + 3 + n43.2) M46 91 [some (.ref a0), none] [.ref (M37.1 + 1), .ref a0]
  obtain ⟨fs48, hMfs48, hlfs48, Kfs48⟩ := KKv45
  refine rb_put fl_X0_146_0 (fun q hq => by cases hq; exact Or.inr ⟨rfl, rfl⟩) (rb_nfR (rb_isR_ref _) _).1 (rb_nfR (rb_isR_ref _) _).2 hMfs48 hlfs48 dX0_init_91 ?_
  refine rb_aload_n 0 rfl rfl (rb_isR_ref _) dX0_init_94 ?_
  refine rb_bipush (v := (6 : Int32)) (by decide) dX0_init_95 ?_
  obtain ⟨N49, hxN49, hNN49, hrN49, KN49⟩ := Kfs48
  refine rb_newa (atype := .int) (t := 0) (N := N49) (e0 := rb_I N49 (fun _ => 0)) (Or.inl rfl) q289 hxN49 hNN49 rfl hrN49.1 hrN49.2 dX0_init_97 ?_
  show rb_Bd κ mX0_init (n.1 + 1 + n2.1 + 1 + n9.1 + 1 + n16.1 + 1 + 1 + 1 + n27.1 + 1 + n34.1 + 1 + 1 + n43.1 + 1, n.2 + 10 + n2.2 + 7 + n9.2 + 3 + n16.2 + N22 + N24 + 3 + n27.2 + 3 + n34.2 + N40 + 3 + n43.2 + N49) (rb_nw (rb_up M46 a0 (rb_O 0 (fs48.set 10 (.ref (M37.1 + 1))))) (rb_I N49 (fun _ => 0))) 99 [some (.ref a0), none] [.ref M46.1, .ref a0]
  obtain ⟨fs50, hMfs50, hlfs50, Kfs50⟩ := KN49
  refine rb_put fl_X0_149_0 (fun q hq => by cases hq; exact Or.inr ⟨rfl, rfl⟩) (rb_nfA (rb_isR_ref _) _).1 (rb_nfA (rb_isR_ref _) _).2 hMfs50 hlfs50 dX0_init_99 ?_
  refine rb_aload_n 0 rfl rfl (rb_isR_ref _) dX0_init_102 ?_
  refine rb_bipush (v := (6 : Int32)) (by decide) dX0_init_103 ?_
  obtain ⟨N51, hxN51, hNN51, hrN51, KN51⟩ := Kfs50
  refine rb_newa (atype := .int) (t := 0) (N := N51) (e0 := rb_I N51 (fun _ => 0)) (Or.inl rfl) q289 hxN51 hNN51 rfl hrN51.1 hrN51.2 dX0_init_105 ?_
  show rb_Bd κ mX0_init (n.1 + 1 + n2.1 + 1 + n9.1 + 1 + n16.1 + 1 + 1 + 1 + n27.1 + 1 + n34.1 + 1 + 1 + n43.1 + 1 + 1, n.2 + 10 + n2.2 + 7 + n9.2 + 3 + n16.2 + N22 + N24 + 3 + n27.2 + 3 + n34.2 + N40 + 3 + n43.2 + N49 + N51) (rb_nw (rb_up (rb_nw (rb_up M46 a0 (rb_O 0 (fs48.set 10 (.ref (M37.1 + 1))))) (rb_I N49 (fun _ => 0))) a0 (rb_O 0 (fs50.set 11 (.ref M46.1)))) (rb_I N51 (fun _ => 0))) 107 [some (.ref a0), none] [.ref (M46.1 + 1), .ref a0]
  obtain ⟨fs52, hMfs52, hlfs52, Kfs52⟩ := KN51
  refine rb_put fl_X0_152_0 (fun q hq => by cases hq; exact Or.inr ⟨rfl, rfl⟩) (rb_nfA (rb_isR_ref _) _).1 (rb_nfA (rb_isR_ref _) _).2 hMfs52 hlfs52 dX0_init_107 ?_
  refine rb_aload_n 0 rfl rfl (rb_isR_ref _) dX0_init_110 ?_
  refine rb_iconst (v := (4 : Int32)) (by decide) dX0_init_111 ?_
  obtain ⟨N53, hxN53, hNN53, hrN53, KN53⟩ := Kfs52
  refine rb_newa (atype := .int) (t := 0) (N := N53) (e0 := rb_I N53 (fun _ => 0)) (Or.inl rfl) q289 hxN53 hNN53 rfl hrN53.1 hrN53.2 dX0_init_112 ?_
  show rb_Bd κ mX0_init (n.1 + 1 + n2.1 + 1 + n9.1 + 1 + n16.1 + 1 + 1 + 1 + n27.1 + 1 + n34.1 + 1 + 1 + n43.1 + 1 + 1 + 1, n.2 + 10 + n2.2 + 7 + n9.2 + 3 + n16.2 + N22 + N24 + 3 + n27.2 + 3 + n34.2 + N40 + 3 + n43.2 + N49 + N51 + N53) (rb_nw (rb_up (rb_nw (rb_up (rb_nw (rb_up M46 a0 (rb_O 0 (fs48.set 10 (.ref (M37.1 + 1))))) (rb_I N49 (fun _ => 0))) a0 (rb_O 0 (fs50.set 11 (.ref M46.1)))) (rb_I N51 (fun _ => 0))) a0 (rb_O 0 (fs52.set 12 (.ref (M46.1 + 1))))) (rb_I N53 (fun _ => 0))) 114 [some (.ref a0), none] [.ref (M46.1 + 2), .ref a0]
  obtain ⟨fs54, hMfs54, hlfs54, Kfs54⟩ := KN53
  refine rb_put fl_X0_155_0 (fun q hq => by cases hq; exact Or.inr ⟨rfl, rfl⟩) (rb_nfA (rb_isR_ref _) _).1 (rb_nfA (rb_isR_ref _) _).2 hMfs54 hlfs54 dX0_init_114 ?_
  refine rb_aload_n 0 rfl rfl (rb_isR_ref _) dX0_init_117 ?_
  refine rb_iconst (v := (4 : Int32)) (by decide) dX0_init_118 ?_
  obtain ⟨N55, hxN55, hNN55, hrN55, KN55⟩ := Kfs54
  refine rb_newa (atype := .int) (t := 0) (N := N55) (e0 := rb_I N55 (fun _ => 0)) (Or.inl rfl) q289 hxN55 hNN55 rfl hrN55.1 hrN55.2 dX0_init_119 ?_
  show rb_Bd κ mX0_init (n.1 + 1 + n2.1 + 1 + n9.1 + 1 + n16.1 + 1 + 1 + 1 + n27.1 + 1 + n34.1 + 1 + 1 + n43.1 + 1 + 1 + 1 + 1, n.2 + 10 + n2.2 + 7 + n9.2 + 3 + n16.2 + N22 + N24 + 3 + n27.2 + 3 + n34.2 + N40 + 3 + n43.2 + N49 + N51 + N53 + N55) (rb_nw (rb_up (rb_nw (rb_up (rb_nw (rb_up (rb_nw (rb_up M46 a0 (rb_O 0 (fs48.set 10 (.ref (M37.1 + 1))))) (rb_I N49 (fun _ => 0))) a0 (rb_O 0 (fs50.set 11 (.ref M46.1)))) (rb_I N51 (fun _ => 0))) a0 (rb_O 0 (fs52.set 12 (.ref (M46.1 + 1))))) (rb_I N53 (fun _ => 0))) a0 (rb_O 0 (fs54.set 14 (.ref (M46.1 + 2))))) (rb_I N55 (fun _ => 0))) 121 [some (.ref a0), none] [.ref (M46.1 + 3), .ref a0]
  obtain ⟨fs56, hMfs56, hlfs56, Kfs56⟩ := KN55
  refine rb_put fl_X0_158_0 (fun q hq => by cases hq; exact Or.inr ⟨rfl, rfl⟩) (rb_nfA (rb_isR_ref _) _).1 (rb_nfA (rb_isR_ref _) _).2 hMfs56 hlfs56 dX0_init_121 ?_
  refine rb_aload_n 0 rfl rfl (rb_isR_ref _) dX0_init_124 ?_
  refine rb_bipush (v := (24 : Int32)) (by decide) dX0_init_125 ?_
  obtain ⟨N57, hxN57, hNN57, hrN57, KN57⟩ := Kfs56
  refine rb_newa (atype := .boolean) (t := 2) (N := N57) (e0 := rb_Z N57 (fun _ => 0)) (Or.inr (Or.inr rfl)) q291 hxN57 hNN57 rfl hrN57.1 hrN57.2 dX0_init_127 ?_
  show rb_Bd κ mX0_init (n.1 + 1 + n2.1 + 1 + n9.1 + 1 + n16.1 + 1 + 1 + 1 + n27.1 + 1 + n34.1 + 1 + 1 + n43.1 + 1 + 1 + 1 + 1 + 1, n.2 + 10 + n2.2 + 7 + n9.2 + 3 + n16.2 + N22 + N24 + 3 + n27.2 + 3 + n34.2 + N40 + 3 + n43.2 + N49 + N51 + N53 + N55 + N57) (rb_nw (rb_up (rb_nw (rb_up (rb_nw (rb_up (rb_nw (rb_up (rb_nw (rb_up M46 a0 (rb_O 0 (fs48.set 10 (.ref (M37.1 + 1))))) (rb_I N49 (fun _ => 0))) a0 (rb_O 0 (fs50.set 11 (.ref M46.1)))) (rb_I N51 (fun _ => 0))) a0 (rb_O 0 (fs52.set 12 (.ref (M46.1 + 1))))) (rb_I N53 (fun _ => 0))) a0 (rb_O 0 (fs54.set 14 (.ref (M46.1 + 2))))) (rb_I N55 (fun _ => 0))) a0 (rb_O 0 (fs56.set 15 (.ref (M46.1 + 3))))) (rb_Z N57 (fun _ => 0))) 129 [some (.ref a0), none] [.ref (M46.1 + 4), .ref a0]
  obtain ⟨fs58, hMfs58, hlfs58, Kfs58⟩ := KN57
  refine rb_put fl_X0_161_0 (fun q hq => by cases hq; exact Or.inr ⟨rfl, rfl⟩) (rb_nfA (rb_isR_ref _) _).1 (rb_nfA (rb_isR_ref _) _).2 hMfs58 hlfs58 dX0_init_129 ?_
  refine rb_aload_n 0 rfl rfl (rb_isR_ref _) dX0_init_132 ?_
  refine rb_bipush (v := (24 : Int32)) (by decide) dX0_init_133 ?_
  obtain ⟨N59, hxN59, hNN59, hrN59, KN59⟩ := Kfs58
  refine rb_newa (atype := .int) (t := 0) (N := N59) (e0 := rb_I N59 (fun _ => 0)) (Or.inl rfl) q289 hxN59 hNN59 rfl hrN59.1 hrN59.2 dX0_init_135 ?_
  show rb_Bd κ mX0_init (n.1 + 1 + n2.1 + 1 + n9.1 + 1 + n16.1 + 1 + 1 + 1 + n27.1 + 1 + n34.1 + 1 + 1 + n43.1 + 1 + 1 + 1 + 1 + 1 + 1, n.2 + 10 + n2.2 + 7 + n9.2 + 3 + n16.2 + N22 + N24 + 3 + n27.2 + 3 + n34.2 + N40 + 3 + n43.2 + N49 + N51 + N53 + N55 + N57 + N59) (rb_nw (rb_up (rb_nw (rb_up (rb_nw (rb_up (rb_nw (rb_up (rb_nw (rb_up (rb_nw (rb_up M46 a0 (rb_O 0 (fs48.set 10 (.ref (M37.1 + 1))))) (rb_I N49 (fun _ => 0))) a0 (rb_O 0 (fs50.set 11 (.ref M46.1)))) (rb_I N51 (fun _ => 0))) a0 (rb_O 0 (fs52.set 12 (.ref (M46.1 + 1))))) (rb_I N53 (fun _ => 0))) a0 (rb_O 0 (fs54.set 14 (.ref (M46.1 + 2))))) (rb_I N55 (fun _ => 0))) a0 (rb_O 0 (fs56.set 15 (.ref (M46.1 + 3))))) (rb_Z N57 (fun _ => 0))) a0 (rb_O 0 (fs58.set 16 (.ref (M46.1 + 4))))) (rb_I N59 (fun _ => 0))) 137 [some (.ref a0), none] [.ref (M46.1 + 5), .ref a0]
  obtain ⟨fs60, hMfs60, hlfs60, Kfs60⟩ := KN59
  refine rb_put fl_X0_165_0 (fun q hq => by cases hq; exact Or.inr ⟨rfl, rfl⟩) (rb_nfA (rb_isR_ref _) _).1 (rb_nfA (rb_isR_ref _) _).2 hMfs60 hlfs60 dX0_init_137 ?_
  refine rb_aload_n 0 rfl rfl (rb_isR_ref _) dX0_init_140 ?_
  refine rb_bipush (v := (24 : Int32)) (by decide) dX0_init_141 ?_
  obtain ⟨N61, hxN61, hNN61, hrN61, KN61⟩ := Kfs60
  refine rb_newa (atype := .int) (t := 0) (N := N61) (e0 := rb_I N61 (fun _ => 0)) (Or.inl rfl) q289 hxN61 hNN61 rfl hrN61.1 hrN61.2 dX0_init_143 ?_
  show rb_Bd κ mX0_init (n.1 + 1 + n2.1 + 1 + n9.1 + 1 + n16.1 + 1 + 1 + 1 + n27.1 + 1 + n34.1 + 1 + 1 + n43.1 + 1 + 1 + 1 + 1 + 1 + 1 + 1, n.2 + 10 + n2.2 + 7 + n9.2 + 3 + n16.2 + N22 + N24 + 3 + n27.2 + 3 + n34.2 + N40 + 3 + n43.2 + N49 + N51 + N53 + N55 + N57 + N59 + N61) (rb_nw (rb_up (rb_nw (rb_up (rb_nw (rb_up (rb_nw (rb_up (rb_nw (rb_up (rb_nw (rb_up (rb_nw (rb_up M46 a0 (rb_O 0 (fs48.set 10 (.ref (M37.1 + 1))))) (rb_I N49 (fun _ => 0))) a0 (rb_O 0 (fs50.set 11 (.ref M46.1)))) (rb_I N51 (fun _ => 0))) a0 (rb_O 0 (fs52.set 12 (.ref (M46.1 + 1))))) (rb_I N53 (fun _ => 0))) a0 (rb_O 0 (fs54.set 14 (.ref (M46.1 + 2))))) (rb_I N55 (fun _ => 0))) a0 (rb_O 0 (fs56.set 15 (.ref (M46.1 + 3))))) (rb_Z N57 (fun _ => 0))) a0 (rb_O 0 (fs58.set 16 (.ref (M46.1 + 4))))) (rb_I N59 (fun _ => 0))) a0 (rb_O 0 (fs60.set 17 (.ref (M46.1 + 5))))) (rb_I N61 (fun _ => 0))) 145 [some (.ref a0), none] [.ref (M46.1 + 6), .ref a0]
  obtain ⟨fs62, hMfs62, hlfs62, Kfs62⟩ := KN61
  refine rb_put fl_X0_168_0 (fun q hq => by cases hq; exact Or.inr ⟨rfl, rfl⟩) (rb_nfA (rb_isR_ref _) _).1 (rb_nfA (rb_isR_ref _) _).2 hMfs62 hlfs62 dX0_init_145 ?_
  refine rb_aload_n 0 rfl rfl (rb_isR_ref _) dX0_init_148 ?_
  refine rb_bipush (v := (-9 : Int32)) (by decide) dX0_init_149 ?_
  obtain ⟨fs63, hMfs63, hlfs63, Kfs63⟩ := Kfs62
  refine rb_put fl_X0_171_0 (fun q hq => by cases hq; exact Or.inl rfl) rfl rfl hMfs63 hlfs63 dX0_init_151 ?_
  refine rb_aload_n 0 rfl rfl (rb_isR_ref _) dX0_init_154 ?_
  refine rb_bipush (v := (-9 : Int32)) (by decide) dX0_init_155 ?_
  obtain ⟨fs64, hMfs64, hlfs64, Kfs64⟩ := Kfs63
  refine rb_put fl_X0_174_0 (fun q hq => by cases hq; exact Or.inl rfl) rfl rfl hMfs64 hlfs64 dX0_init_157 ?_
  refine rb_aload_n 0 rfl rfl (rb_isR_ref _) dX0_init_160 ?_
  refine rb_bipush (v := (41 : Int32)) (by decide) dX0_init_161 ?_
  obtain ⟨N65, hxN65, hNN65, hrN65, KN65⟩ := Kfs64
  refine rb_anew (t := 5) (N := N65) (by decide) (by decide) q238 q239 hxN65 hNN65 hrN65.1 hrN65.2 dX0_init_163 ?_
  show rb_Bd κ mX0_init (n.1 + 1 + n2.1 + 1 + n9.1 + 1 + n16.1 + 1 + 1 + 1 + n27.1 + 1 + n34.1 + 1 + 1 + n43.1 + 1 + 1 + 1 + 1 + 1 + 1 + 1 + 1, n.2 + 10 + n2.2 + 7 + n9.2 + 3 + n16.2 + N22 + N24 + 3 + n27.2 + 3 + n34.2 + N40 + 3 + n43.2 + N49 + N51 + N53 + N55 + N57 + N59 + N61 + N65) (rb_nw (rb_up (rb_up (rb_up (rb_nw (rb_up (rb_nw (rb_up (rb_nw (rb_up (rb_nw (rb_up (rb_nw (rb_up (rb_nw (rb_up (rb_nw (rb_up M46 a0 (rb_O 0 (fs48.set 10 (.ref (M37.1 + 1))))) (rb_I N49 (fun _ => 0))) a0 (rb_O 0 (fs50.set 11 (.ref M46.1)))) (rb_I N51 (fun _ => 0))) a0 (rb_O 0 (fs52.set 12 (.ref (M46.1 + 1))))) (rb_I N53 (fun _ => 0))) a0 (rb_O 0 (fs54.set 14 (.ref (M46.1 + 2))))) (rb_I N55 (fun _ => 0))) a0 (rb_O 0 (fs56.set 15 (.ref (M46.1 + 3))))) (rb_Z N57 (fun _ => 0))) a0 (rb_O 0 (fs58.set 16 (.ref (M46.1 + 4))))) (rb_I N59 (fun _ => 0))) a0 (rb_O 0 (fs60.set 17 (.ref (M46.1 + 5))))) (rb_I N61 (fun _ => 0))) a0 (rb_O 0 (fs62.set 18 (.ref (M46.1 + 6))))) a0 (rb_O 0 (fs63.set 20 (.int (-9 : Int32))))) a0 (rb_O 0 (fs64.set 21 (.int (-9 : Int32))))) (rb_R 5 N65 (fun _ => none))) 166 [some (.ref a0), none] [.ref (M46.1 + 7), .ref a0]
  obtain ⟨fs66, hMfs66, hlfs66, Kfs66⟩ := KN65
  refine rb_put fl_X0_177_0 (fun q hq => by cases hq; exact Or.inr ⟨rfl, rfl⟩) (rb_nfA (rb_isR_ref _) _).1 (rb_nfA (rb_isR_ref _) _).2 hMfs66 hlfs66 dX0_init_166 ?_
  refine rb_aload_n 0 rfl rfl (rb_isR_ref _) dX0_init_169 ?_
  refine rb_bipush (v := (60 : Int32)) (by decide) dX0_init_170 ?_
  obtain ⟨N67, hxN67, hNN67, hrN67, KN67⟩ := Kfs66
  refine rb_anew (t := 4) (N := N67) (by decide) (by decide) q240 q241 hxN67 hNN67 hrN67.1 hrN67.2 dX0_init_172 ?_
  show rb_Bd κ mX0_init (n.1 + 1 + n2.1 + 1 + n9.1 + 1 + n16.1 + 1 + 1 + 1 + n27.1 + 1 + n34.1 + 1 + 1 + n43.1 + 1 + 1 + 1 + 1 + 1 + 1 + 1 + 1 + 1, n.2 + 10 + n2.2 + 7 + n9.2 + 3 + n16.2 + N22 + N24 + 3 + n27.2 + 3 + n34.2 + N40 + 3 + n43.2 + N49 + N51 + N53 + N55 + N57 + N59 + N61 + N65 + N67) (rb_nw (rb_up (rb_nw (rb_up (rb_up (rb_up (rb_nw (rb_up (rb_nw (rb_up (rb_nw (rb_up (rb_nw (rb_up (rb_nw (rb_up (rb_nw (rb_up (rb_nw (rb_up M46 a0 (rb_O 0 (fs48.set 10 (.ref (M37.1 + 1))))) (rb_I N49 (fun _ => 0))) a0 (rb_O 0 (fs50.set 11 (.ref M46.1)))) (rb_I N51 (fun _ => 0))) a0 (rb_O 0 (fs52.set 12 (.ref (M46.1 + 1))))) (rb_I N53 (fun _ => 0))) a0 (rb_O 0 (fs54.set 14 (.ref (M46.1 + 2))))) (rb_I N55 (fun _ => 0))) a0 (rb_O 0 (fs56.set 15 (.ref (M46.1 + 3))))) (rb_Z N57 (fun _ => 0))) a0 (rb_O 0 (fs58.set 16 (.ref (M46.1 + 4))))) (rb_I N59 (fun _ => 0))) a0 (rb_O 0 (fs60.set 17 (.ref (M46.1 + 5))))) (rb_I N61 (fun _ => 0))) a0 (rb_O 0 (fs62.set 18 (.ref (M46.1 + 6))))) a0 (rb_O 0 (fs63.set 20 (.int (-9 : Int32))))) a0 (rb_O 0 (fs64.set 21 (.int (-9 : Int32))))) (rb_R 5 N65 (fun _ => none))) a0 (rb_O 0 (fs66.set 22 (.ref (M46.1 + 7))))) (rb_R 4 N67 (fun _ => none))) 175 [some (.ref a0), none] [.ref (M46.1 + 8), .ref a0]
  obtain ⟨fs68, hMfs68, hlfs68, Kfs68⟩ := KN67
  refine rb_put fl_X0_181_0 (fun q hq => by cases hq; exact Or.inr ⟨rfl, rfl⟩) (rb_nfA (rb_isR_ref _) _).1 (rb_nfA (rb_isR_ref _) _).2 hMfs68 hlfs68 dX0_init_175 ?_
  refine rb_aload_n 0 rfl rfl (rb_isR_ref _) dX0_init_178 ?_
  refine rb_bipush (v := (60 : Int32)) (by decide) dX0_init_179 ?_
  obtain ⟨N69, hxN69, hNN69, hrN69, KN69⟩ := Kfs68
  refine rb_newa (atype := .int) (t := 0) (N := N69) (e0 := rb_I N69 (fun _ => 0)) (Or.inl rfl) q289 hxN69 hNN69 rfl hrN69.1 hrN69.2 dX0_init_181 ?_
  show rb_Bd κ mX0_init (n.1 + 1 + n2.1 + 1 + n9.1 + 1 + n16.1 + 1 + 1 + 1 + n27.1 + 1 + n34.1 + 1 + 1 + n43.1 + 1 + 1 + 1 + 1 + 1 + 1 + 1 + 1 + 1 + 1, n.2 + 10 + n2.2 + 7 + n9.2 + 3 + n16.2 + N22 + N24 + 3 + n27.2 + 3 + n34.2 + N40 + 3 + n43.2 + N49 + N51 + N53 + N55 + N57 + N59 + N61 + N65 + N67 + N69) (rb_nw (rb_up (rb_nw (rb_up (rb_nw (rb_up (rb_up (rb_up (rb_nw (rb_up (rb_nw (rb_up (rb_nw (rb_up (rb_nw (rb_up (rb_nw (rb_up (rb_nw (rb_up (rb_nw (rb_up M46 a0 (rb_O 0 (fs48.set 10 (.ref (M37.1 + 1))))) (rb_I N49 (fun _ => 0))) a0 (rb_O 0 (fs50.set 11 (.ref M46.1)))) (rb_I N51 (fun _ => 0))) a0 (rb_O 0 (fs52.set 12 (.ref (M46.1 + 1))))) (rb_I N53 (fun _ => 0))) a0 (rb_O 0 (fs54.set 14 (.ref (M46.1 + 2))))) (rb_I N55 (fun _ => 0))) a0 (rb_O 0 (fs56.set 15 (.ref (M46.1 + 3))))) (rb_Z N57 (fun _ => 0))) a0 (rb_O 0 (fs58.set 16 (.ref (M46.1 + 4))))) (rb_I N59 (fun _ => 0))) a0 (rb_O 0 (fs60.set 17 (.ref (M46.1 + 5))))) (rb_I N61 (fun _ => 0))) a0 (rb_O 0 (fs62.set 18 (.ref (M46.1 + 6))))) a0 (rb_O 0 (fs63.set 20 (.int (-9 : Int32))))) a0 (rb_O 0 (fs64.set 21 (.int (-9 : Int32))))) (rb_R 5 N65 (fun _ => none))) a0 (rb_O 0 (fs66.set 22 (.ref (M46.1 + 7))))) (rb_R 4 N67 (fun _ => none))) a0 (rb_O 0 (fs68.set 24 (.ref (M46.1 + 8))))) (rb_I N69 (fun _ => 0))) 183 [some (.ref a0), none] [.ref (M46.1 + 9), .ref a0]
  obtain ⟨fs70, hMfs70, hlfs70, Kfs70⟩ := KN69
  refine rb_put fl_X0_185_0 (fun q hq => by cases hq; exact Or.inr ⟨rfl, rfl⟩) (rb_nfA (rb_isR_ref _) _).1 (rb_nfA (rb_isR_ref _) _).2 hMfs70 hlfs70 dX0_init_183 ?_
  refine rb_aload_n 0 rfl rfl (rb_isR_ref _) dX0_init_186 ?_
  refine rb_bipush (v := (-9 : Int32)) (by decide) dX0_init_187 ?_
  obtain ⟨fs71, hMfs71, hlfs71, Kfs71⟩ := Kfs70
  refine rb_put fl_X0_188_0 (fun q hq => by cases hq; exact Or.inl rfl) rfl rfl hMfs71 hlfs71 dX0_init_189 ?_
  refine rb_aload_n 0 rfl rfl (rb_isR_ref _) dX0_init_192 ?_
  refine rb_bipush (v := (-9 : Int32)) (by decide) dX0_init_193 ?_
  obtain ⟨fs72, hMfs72, hlfs72, Kfs72⟩ := Kfs71
  refine rb_put fl_X0_191_0 (fun q hq => by cases hq; exact Or.inl rfl) rfl rfl hMfs72 hlfs72 dX0_init_195 ?_
  refine rb_aload_n 0 rfl rfl (rb_isR_ref _) dX0_init_198 ?_
  refine rb_bipush (v := (-9 : Int32)) (by decide) dX0_init_199 ?_
  obtain ⟨fs73, hMfs73, hlfs73, Kfs73⟩ := Kfs72
  refine rb_put fl_X0_194_0 (fun q hq => by cases hq; exact Or.inl rfl) rfl rfl hMfs73 hlfs73 dX0_init_201 ?_
  refine rb_aload_n 0 rfl rfl (rb_isR_ref _) dX0_init_204 ?_
  refine rb_bipush (v := (100 : Int32)) (by decide) dX0_init_205 ?_
  obtain ⟨N74, hxN74, hNN74, hrN74, KN74⟩ := Kfs73
  refine rb_newa (atype := .long) (t := 1) (N := N74) (e0 := rb_L N74 (fun _ => 0)) (Or.inr (Or.inl rfl)) q290 hxN74 hNN74 rfl hrN74.1 hrN74.2 dX0_init_207 ?_
  show rb_Bd κ mX0_init (n.1 + 1 + n2.1 + 1 + n9.1 + 1 + n16.1 + 1 + 1 + 1 + n27.1 + 1 + n34.1 + 1 + 1 + n43.1 + 1 + 1 + 1 + 1 + 1 + 1 + 1 + 1 + 1 + 1 + 1, n.2 + 10 + n2.2 + 7 + n9.2 + 3 + n16.2 + N22 + N24 + 3 + n27.2 + 3 + n34.2 + N40 + 3 + n43.2 + N49 + N51 + N53 + N55 + N57 + N59 + N61 + N65 + N67 + N69 + N74) (rb_nw (rb_up (rb_up (rb_up (rb_up (rb_nw (rb_up (rb_nw (rb_up (rb_nw (rb_up (rb_up (rb_up (rb_nw (rb_up (rb_nw (rb_up (rb_nw (rb_up (rb_nw (rb_up (rb_nw (rb_up (rb_nw (rb_up (rb_nw (rb_up M46 a0 (rb_O 0 (fs48.set 10 (.ref (M37.1 + 1))))) (rb_I N49 (fun _ => 0))) a0 (rb_O 0 (fs50.set 11 (.ref M46.1)))) (rb_I N51 (fun _ => 0))) a0 (rb_O 0 (fs52.set 12 (.ref (M46.1 + 1))))) (rb_I N53 (fun _ => 0))) a0 (rb_O 0 (fs54.set 14 (.ref (M46.1 + 2))))) (rb_I N55 (fun _ => 0))) a0 (rb_O 0 (fs56.set 15 (.ref (M46.1 + 3))))) (rb_Z N57 (fun _ => 0))) a0 (rb_O 0 (fs58.set 16 (.ref (M46.1 + 4))))) (rb_I N59 (fun _ => 0))) a0 (rb_O 0 (fs60.set 17 (.ref (M46.1 + 5))))) (rb_I N61 (fun _ => 0))) a0 (rb_O 0 (fs62.set 18 (.ref (M46.1 + 6))))) a0 (rb_O 0 (fs63.set 20 (.int (-9 : Int32))))) a0 (rb_O 0 (fs64.set 21 (.int (-9 : Int32))))) (rb_R 5 N65 (fun _ => none))) a0 (rb_O 0 (fs66.set 22 (.ref (M46.1 + 7))))) (rb_R 4 N67 (fun _ => none))) a0 (rb_O 0 (fs68.set 24 (.ref (M46.1 + 8))))) (rb_I N69 (fun _ => 0))) a0 (rb_O 0 (fs70.set 25 (.ref (M46.1 + 9))))) a0 (rb_O 0 (fs71.set 27 (.int (-9 : Int32))))) a0 (rb_O 0 (fs72.set 28 (.int (-9 : Int32))))) a0 (rb_O 0 (fs73.set 29 (.int (-9 : Int32))))) (rb_L N74 (fun _ => 0))) 209 [some (.ref a0), none] [.ref (M46.1 + 10), .ref a0]
  obtain ⟨fs75, hMfs75, hlfs75, Kfs75⟩ := KN74
  refine rb_put fl_X0_197_0 (fun q hq => by cases hq; exact Or.inr ⟨rfl, rfl⟩) (rb_nfA (rb_isR_ref _) _).1 (rb_nfA (rb_isR_ref _) _).2 hMfs75 hlfs75 dX0_init_209 ?_
  refine rb_iconst (v := (0 : Int32)) (by decide) dX0_init_212 ?_
  refine rb_istore_n 1 rfl (ls' := [some (.ref a0), some (.int (0 : Int32))]) (by decide) rfl rfl dX0_init_213 ?_
  exact Kfs75
theorem sgX0_init_214 {κ : rb_K} {n : Nat × Nat} {M : rb_H} {a0 : Nat} {a1 : Int32} (K : (((40 : Int32) < a1 → rb_Bd κ mX0_init n M 241 [some (.ref a0), some (.int (0 : Int32))] []) ∧ (a1 ≤ (40 : Int32) → (∃ (v2 : Value), rb_rd M a0 0 22 (v2) ∧ rb_isR v2 ∧ (rb_rom κ (n.1 + 1, n.2 + 8) ∧ (∃ (ci8 : Nat) (d3 : Nat) (n4 : Nat × Nat) (Q5 : Outcome → rb_H → Prop), rb_Ct κ.1 yX3_init wX3_init d3 n4 [.ref M.1] (rb_nw M (rb_O 3 [.null, .null, .null, .int 0, .null, .long 0, .int 0, .int 0])) Q5 ∧ rb_dp κ d3 ∧ rb_rom κ (n.1 + 1 + n4.1, n.2 + 8 + n4.2) ∧ rb_ob (rb_nw M (rb_O 3 [.null, .null, .null, .int 0, .null, .long 0, .int 0, .int 0])) M.1 ci8 ∧ ∀ (o : Outcome) (M7 : rb_H), Q5 o M7 → (o = .returned none ∧ (∃ q9, v2 = .ref q9 ∧ (∃ (t10 N11 ci13 : Nat) (f12 : Nat → Option Nat), M7.2 q9 = some (rb_R t10 N11 f12) ∧ (3 ≤ t10 ∧ t10 ≤ 6) ∧ vp_in a1 N11 ∧ rb_ob M7 M.1 ci13 ∧ rb_AS ci13 t10 ∧ rb_Bd κ mX0_init (n.1 + 1 + n4.1, n.2 + 8 + n4.2) (rb_up M7 q9 (rb_R t10 N11 (va_up f12 (a1).toNatClampNeg (some M.1)))) 214 [some (.ref a0), some (.int (a1 + (1 : Int32)))] []))))))))) : rb_Bd κ mX0_init n M 214 [some (.ref a0), some (.int a1)] [] := by
  refine rb_iload_n 1 rfl rfl dX0_init_214 ?_
  refine rb_bipush (v := (40 : Int32)) (by decide) dX0_init_215 ?_
  refine rb_icgt 239 (by decide) dX0_init_217 (fun c1 => ?_) (fun c1 => ?_)
  · skip
    refine rb_iconst (v := (0 : Int32)) (by decide) dX0_init_239 ?_
    refine rb_istore_n 1 rfl (ls' := [some (.ref a0), some (.int (0 : Int32))]) (by decide) rfl rfl dX0_init_240 ?_
    exact ((K).1 c1)
  · skip
    refine rb_aload_n 0 rfl rfl (rb_isR_ref _) dX0_init_220 ?_
    obtain ⟨v2, hrv2, hv2, Kv2⟩ := ((K).2 c1)
    refine rc_get fl_X0_177_0 hrv2 dX0_init_221 ?_
    refine rb_iload_n 1 rfl rfl dX0_init_224 ?_
    refine rb_new nw_X0_18 (fs := [.null, .null, .null, .int 0, .null, .long 0, .int 0, .int 0]) rfl (Kv2).1.1 (Kv2).1.2 dX0_init_225 ?_
    show rb_Bd κ mX0_init (n.1 + 1, n.2 + 8) (rb_nw M (rb_O 3 [.null, .null, .null, .int 0, .null, .long 0, .int 0, .int 0])) 228 [some (.ref a0), some (.int a1)] [.ref M.1, .int a1, v2]
    refine rb_dup rfl dX0_init_228 ?_
    obtain ⟨ci8, d3, n4, Q5, h1v6, hdv6, hnv6, hov6, Kv6⟩ := (Kv2).2
    refine rb_call (st_X0_200 ci8) (rest := [.ref M.1, .int a1, v2]) h1v6 rfl rfl (rc_rc rfl hov6) (by simp [rb_isR_cat hv2, rb_cR, rb_cI, rb_cJ, rb_cN]) hdv6.1 hdv6.2 hnv6.1 hnv6.2 dX0_init_229 (fun o M7 hpv6 => ?_)
    obtain ⟨eo, KKv6⟩ := Kv6 o M7 hpv6
    subst eo
    show rb_Bd κ mX0_init (n.1 + 1 + n4.1, n.2 + 8 + n4.2) M7 232 [some (.ref a0), some (.int a1)] [.ref M.1, .int a1, v2]
    obtain ⟨q9, eq9, Kq9⟩ := KKv6
    subst eq9
    obtain ⟨t10, N11, ci13, f12, hMf12, htf12, hif12, ⟨fsf12, hof12⟩, haf12, Kf12⟩ := Kq9
    refine rb_aast hMf12 htf12.1 htf12.2 hof12 haf12 hif12 dX0_init_232 ?_
    refine rb_iinc (ls' := [some (.ref a0), some (.int (a1 + (1 : Int32)))]) (v := (a1 + (1 : Int32))) rfl rfl (by decide) rfl rfl dX0_init_233 ?_
    refine rb_goto 214 (by decide) dX0_init_236 ?_
    exact Kf12
theorem sgX0_init_241 {κ : rb_K} {n : Nat × Nat} {M : rb_H} {a0 : Nat} {a1 : Int32} (K : (((4 : Int32) ≤ a1 → (rb_fin κ n ∧ κ.2.2.1 (.returned none) M)) ∧ (a1 < (4 : Int32) → (∃ (v2 : Value), rb_rd M a0 0 14 (v2) ∧ rb_isR v2 ∧ (∃ q3, v2 = .ref q3 ∧ (∃ (N4 : Nat) (f5 : Nat → Int32), M.2 q3 = some (rb_I N4 f5) ∧ vp_in a1 N4 ∧ rb_Bd κ mX0_init n (rb_up M q3 (rb_I N4 (va_up f5 (a1).toNatClampNeg (-9 : Int32)))) 241 [some (.ref a0), some (.int (a1 + (1 : Int32)))] [])))))) : rb_Bd κ mX0_init n M 241 [some (.ref a0), some (.int a1)] [] := by
  refine rb_iload_n 1 rfl rfl dX0_init_241 ?_
  refine rb_iconst (v := (4 : Int32)) (by decide) dX0_init_242 ?_
  refine rb_icge 260 (by decide) dX0_init_243 (fun c1 => ?_) (fun c1 => ?_)
  · skip
    exact rb_vret rfl (((K).1 c1)).1.1 (((K).1 c1)).1.2 dX0_init_260 (((K).1 c1)).2
  · skip
    refine rb_aload_n 0 rfl rfl (rb_isR_ref _) dX0_init_246 ?_
    obtain ⟨v2, hrv2, hv2, Kv2⟩ := ((K).2 c1)
    refine rc_get fl_X0_155_0 hrv2 dX0_init_247 ?_
    refine rb_iload_n 1 rfl rfl dX0_init_250 ?_
    refine rb_bipush (v := (-9 : Int32)) (by decide) dX0_init_251 ?_
    obtain ⟨q3, eq3, Kq3⟩ := Kv2
    subst eq3
    obtain ⟨N4, f5, hMf5, hif5, Kf5⟩ := Kq3
    refine rb_iast hMf5 hif5 dX0_init_253 ?_
    refine rb_iinc (ls' := [some (.ref a0), some (.int (a1 + (1 : Int32)))]) (v := (a1 + (1 : Int32))) rfl rfl (by decide) rfl rfl dX0_init_254 ?_
    refine rb_goto 241 (by decide) dX0_init_257 ?_
    exact Kf5
theorem sgX0_part_0 {κ : rb_K} {n : Nat × Nat} {M : rb_H} {a0 : Nat} {a1 : Int32} {a2 : Int32} {a3 : Int32} (K : (∃ (d1 : Nat) (n2 : Nat × Nat) (Q3 : Outcome → rb_H → Prop), rb_Ct κ.1 yX0_in wX0_in d1 n2 [.int a1, .int (0 : Int32), .int (4 : Int32)] M Q3 ∧ rb_dp κ d1 ∧ rb_rom κ (n.1 + n2.1, n.2 + n2.2) ∧ ∀ (o : Outcome) (M5 : rb_H), Q3 o M5 → (∃ (x4 : Int32), o = .returned (some (.int x4)) ∧ ((x4 = 0 → (rb_fin κ (n.1 + n2.1, n.2 + n2.2) ∧ κ.2.2.1 (.returned (some (.int (-1 : Int32)))) M5)) ∧ (¬ x4 = 0 → (∃ (d7 : Nat) (n8 : Nat × Nat) (Q9 : Outcome → rb_H → Prop), rb_Ct κ.1 yX0_in wX0_in d7 n8 [.int a2, .int (0 : Int32), .int (2 : Int32)] M5 Q9 ∧ rb_dp κ d7 ∧ rb_rom κ (n.1 + n2.1 + n8.1, n.2 + n2.2 + n8.2) ∧ ∀ (o : Outcome) (M11 : rb_H), Q9 o M11 → (∃ (x10 : Int32), o = .returned (some (.int x10)) ∧ ((x10 = 0 → (rb_fin κ (n.1 + n2.1 + n8.1, n.2 + n2.2 + n8.2) ∧ κ.2.2.1 (.returned (some (.int (-1 : Int32)))) M11)) ∧ (¬ x10 = 0 → (∃ (d13 : Nat) (n14 : Nat × Nat) (Q15 : Outcome → rb_H → Prop), rb_Ct κ.1 yX0_in wX0_in d13 n14 [.int a3, .int (0 : Int32), .int (2 : Int32)] M11 Q15 ∧ rb_dp κ d13 ∧ rb_rom κ (n.1 + n2.1 + n8.1 + n14.1, n.2 + n2.2 + n8.2 + n14.2) ∧ ∀ (o : Outcome) (M17 : rb_H), Q15 o M17 → (∃ (x16 : Int32), o = .returned (some (.int x16)) ∧ ((¬ x16 = 0 → (∃ (v19 : Value), rb_rd M17 a0 0 2 (v19) ∧ rb_isR v19 ∧ (∃ q20, v19 = .ref q20 ∧ (∃ (d21 : Nat) (n22 : Nat × Nat) (Q23 : Outcome → rb_H → Prop), rb_Ct κ.1 yJ4_size wJ4_size d21 n22 [.ref q20] M17 Q23 ∧ rb_dp κ d21 ∧ rb_rom κ (n.1 + n2.1 + n8.1 + n14.1 + n22.1, n.2 + n2.2 + n8.2 + n14.2 + n22.2) ∧ rb_ob M17 q20 7 ∧ ∀ (o : Outcome) (M25 : rb_H), Q23 o M25 → (∃ (x24 : Int32), o = .returned (some (.int x24)) ∧ ((¬ x24 = (24 : Int32) → (∃ (v27 : Value), rb_rd M25 a0 0 2 (v27) ∧ rb_isR v27 ∧ (rb_rom κ (n.1 + n2.1 + n8.1 + n14.1 + n22.1 + 1, n.2 + n2.2 + n8.2 + n14.2 + n22.2 + 9) ∧ (∃ (v28 : Value), rb_rd (rb_nw M25 (rb_O 5 [.int 0, .int 0, .int 0, .int 0, .null, .null, .null, .null, .null])) a0 0 2 (v28) ∧ rb_isR v28 ∧ (∃ q29, v28 = .ref q29 ∧ (∃ (d30 : Nat) (n31 : Nat × Nat) (Q32 : Outcome → rb_H → Prop), rb_Ct κ.1 yJ4_size wJ4_size d30 n31 [.ref q29] (rb_nw M25 (rb_O 5 [.int 0, .int 0, .int 0, .int 0, .null, .null, .null, .null, .null])) Q32 ∧ rb_dp κ d30 ∧ rb_rom κ (n.1 + n2.1 + n8.1 + n14.1 + n22.1 + 1 + n31.1, n.2 + n2.2 + n8.2 + n14.2 + n22.2 + 9 + n31.2) ∧ rb_ob (rb_nw M25 (rb_O 5 [.int 0, .int 0, .int 0, .int 0, .null, .null, .null, .null, .null])) q29 7 ∧ ∀ (o : Outcome) (M34 : rb_H), Q32 o M34 → (∃ (x33 : Int32), o = .returned (some (.int x33)) ∧ (∃ (ci40 : Nat) (d35 : Nat) (n36 : Nat × Nat) (Q37 : Outcome → rb_H → Prop), rb_Ct κ.1 yX5_init wX5_init d35 n36 [.ref M25.1, .int x33, .int a1, .int a2, .int a3] M34 Q37 ∧ rb_dp κ d35 ∧ rb_rom κ (n.1 + n2.1 + n8.1 + n14.1 + n22.1 + 1 + n31.1 + n36.1, n.2 + n2.2 + n8.2 + n14.2 + n22.2 + 9 + n31.2 + n36.2) ∧ rb_ob M34 M25.1 ci40 ∧ ∀ (o : Outcome) (M39 : rb_H), Q37 o M39 → (o = .returned none ∧ (∃ q41, v27 = .ref q41 ∧ (∃ (d42 : Nat) (n43 : Nat × Nat) (Q44 : Outcome → rb_H → Prop), rb_Ct κ.1 yJ4_add wJ4_add d42 n43 [.ref q41, .ref M25.1] M39 Q44 ∧ rb_dp κ d42 ∧ rb_rom κ (n.1 + n2.1 + n8.1 + n14.1 + n22.1 + 1 + n31.1 + n36.1 + n43.1, n.2 + n2.2 + n8.2 + n14.2 + n22.2 + 9 + n31.2 + n36.2 + n43.2) ∧ rb_ob M39 q41 7 ∧ ∀ (o : Outcome) (M46 : rb_H), Q44 o M46 → (∃ (x45 : Int32), o = .returned (some (.int x45)) ∧ (∃ (v47 : Value), rb_rd M46 a0 0 2 (v47) ∧ rb_isR v47 ∧ (∃ q48, v47 = .ref q48 ∧ (∃ (d49 : Nat) (n50 : Nat × Nat) (Q51 : Outcome → rb_H → Prop), rb_Ct κ.1 yJ4_size wJ4_size d49 n50 [.ref q48] M46 Q51 ∧ rb_dp κ d49 ∧ rb_rom κ (n.1 + n2.1 + n8.1 + n14.1 + n22.1 + 1 + n31.1 + n36.1 + n43.1 + n50.1, n.2 + n2.2 + n8.2 + n14.2 + n22.2 + 9 + n31.2 + n36.2 + n43.2 + n50.2) ∧ rb_ob M46 q48 7 ∧ ∀ (o : Outcome) (M53 : rb_H), Q51 o M53 → (∃ (x52 : Int32), o = .returned (some (.int x52)) ∧ (rb_fin κ (n.1 + n2.1 + n8.1 + n14.1 + n22.1 + 1 + n31.1 + n36.1 + n43.1 + n50.1, n.2 + n2.2 + n8.2 + n14.2 + n22.2 + 9 + n31.2 + n36.2 + n43.2 + n50.2) ∧ κ.2.2.1 (.returned (some (.int (x52 - (1 : Int32))))) M53))))))))))))))))) ∧ (x24 = (24 : Int32) → (rb_fin κ (n.1 + n2.1 + n8.1 + n14.1 + n22.1, n.2 + n2.2 + n8.2 + n14.2 + n22.2) ∧ κ.2.2.1 (.returned (some (.int (-2 : Int32)))) M25)))))))) ∧ (x16 = 0 → (rb_fin κ (n.1 + n2.1 + n8.1 + n14.1, n.2 + n2.2 + n8.2 + n14.2) ∧ κ.2.2.1 (.returned (some (.int (-1 : Int32)))) M17)))))))))))))) : rb_Bd κ mX0_part n M 0 [some (.ref a0), some (.int a1), some (.int a2), some (.int a3)] [] := by
  refine rb_iload_n 1 rfl rfl dX0_part_0 ?_
  refine rb_iconst (v := (0 : Int32)) (by decide) dX0_part_1 ?_
  refine rb_iconst (v := (4 : Int32)) (by decide) dX0_part_2 ?_
  obtain ⟨d1, n2, Q3, h1x4, hdx4, hnx4, Kx4⟩ := K
  refine rb_call st_X0_45 (rest := []) h1x4 rfl rfl mm_rn (Nat.le_of_ble_eq_true rfl) hdx4.1 hdx4.2 hnx4.1 hnx4.2 dX0_part_3 (fun o M5 hpx4 => ?_)
  obtain ⟨x4, eo, KKx4⟩ := Kx4 o M5 hpx4
  subst eo
  show rb_Bd κ mX0_part (n.1 + n2.1, n.2 + n2.2) M5 6 [some (.ref a0), some (.int a1), some (.int a2), some (.int a3)] [.int x4]
  refine rb_ifeq 27 (by decide) dX0_part_6 (fun c6 => ?_) (fun c6 => ?_)
  · skip
    refine rb_iconst (v := (-1 : Int32)) (by decide) dX0_part_27 ?_
    exact rb_iret rfl rfl (((KKx4).1 c6)).1.1 (((KKx4).1 c6)).1.2 dX0_part_28 (((KKx4).1 c6)).2
  · skip
    refine rb_iload_n 2 rfl rfl dX0_part_9 ?_
    refine rb_iconst (v := (0 : Int32)) (by decide) dX0_part_10 ?_
    refine rb_iconst (v := (2 : Int32)) (by decide) dX0_part_11 ?_
    obtain ⟨d7, n8, Q9, h1x10, hdx10, hnx10, Kx10⟩ := ((KKx4).2 c6)
    refine rb_call st_X0_45 (rest := []) h1x10 rfl rfl mm_rn (Nat.le_of_ble_eq_true rfl) hdx10.1 hdx10.2 hnx10.1 hnx10.2 dX0_part_12 (fun o M11 hpx10 => ?_)
    obtain ⟨x10, eo, KKx10⟩ := Kx10 o M11 hpx10
    subst eo
    show rb_Bd κ mX0_part (n.1 + n2.1 + n8.1, n.2 + n2.2 + n8.2) M11 15 [some (.ref a0), some (.int a1), some (.int a2), some (.int a3)] [.int x10]
    refine rb_ifeq 27 (by decide) dX0_part_15 (fun c12 => ?_) (fun c12 => ?_)
    · skip
      refine rb_iconst (v := (-1 : Int32)) (by decide) dX0_part_27 ?_
      exact rb_iret rfl rfl (((KKx10).1 c12)).1.1 (((KKx10).1 c12)).1.2 dX0_part_28 (((KKx10).1 c12)).2
    · skip
      refine rb_iload_n 3 rfl rfl dX0_part_18 ?_
      refine rb_iconst (v := (0 : Int32)) (by decide) dX0_part_19 ?_
      refine rb_iconst (v := (2 : Int32)) (by decide) dX0_part_20 ?_
      obtain ⟨d13, n14, Q15, h1x16, hdx16, hnx16, Kx16⟩ := ((KKx10).2 c12)
      refine rb_call st_X0_45 (rest := []) h1x16 rfl rfl mm_rn (Nat.le_of_ble_eq_true rfl) hdx16.1 hdx16.2 hnx16.1 hnx16.2 dX0_part_21 (fun o M17 hpx16 => ?_)
      obtain ⟨x16, eo, KKx16⟩ := Kx16 o M17 hpx16
      subst eo
      show rb_Bd κ mX0_part (n.1 + n2.1 + n8.1 + n14.1, n.2 + n2.2 + n8.2 + n14.2) M17 24 [some (.ref a0), some (.int a1), some (.int a2), some (.int a3)] [.int x16]
      refine rb_ifne 29 (by decide) dX0_part_24 (fun c18 => ?_) (fun c18 => ?_)
      · skip
        refine rb_aload_n 0 rfl rfl (rb_isR_ref _) dX0_part_29 ?_
        obtain ⟨v19, hrv19, hv19, Kv19⟩ := ((KKx16).1 c18)
        refine rc_get fl_X0_125_0 hrv19 dX0_part_30 ?_
        obtain ⟨q20, eq20, Kq20⟩ := Kv19
        subst eq20
        obtain ⟨d21, n22, Q23, h1x24, hdx24, hnx24, hox24, Kx24⟩ := Kq20
        refine rb_call st_X0_201_7 (rest := []) h1x24 rfl rfl (rc_rc rfl hox24) (Nat.le_of_ble_eq_true rfl) hdx24.1 hdx24.2 hnx24.1 hnx24.2 dX0_part_33 (fun o M25 hpx24 => ?_)
        obtain ⟨x24, eo, KKx24⟩ := Kx24 o M25 hpx24
        subst eo
        show rb_Bd κ mX0_part (n.1 + n2.1 + n8.1 + n14.1 + n22.1, n.2 + n2.2 + n8.2 + n14.2 + n22.2) M25 36 [some (.ref a0), some (.int a1), some (.int a2), some (.int a3)] [.int x24]
        refine rb_bipush (v := (24 : Int32)) (by decide) dX0_part_36 ?_
        refine rb_icne 44 (by decide) dX0_part_38 (fun c26 => ?_) (fun c26 => ?_)
        · skip
          refine rb_aload_n 0 rfl rfl (rb_isR_ref _) dX0_part_44 ?_
          obtain ⟨v27, hrv27, hv27, Kv27⟩ := ((KKx24).1 c26)
          refine rc_get fl_X0_125_0 hrv27 dX0_part_45 ?_
          refine rb_new nw_X0_205 (fs := [.int 0, .int 0, .int 0, .int 0, .null, .null, .null, .null, .null]) rfl (Kv27).1.1 (Kv27).1.2 dX0_part_48 ?_
          show rb_Bd κ mX0_part (n.1 + n2.1 + n8.1 + n14.1 + n22.1 + 1, n.2 + n2.2 + n8.2 + n14.2 + n22.2 + 9) (rb_nw M25 (rb_O 5 [.int 0, .int 0, .int 0, .int 0, .null, .null, .null, .null, .null])) 51 [some (.ref a0), some (.int a1), some (.int a2), some (.int a3)] [.ref M25.1, v27]
          refine rb_dup rfl dX0_part_51 ?_
          refine rb_aload_n 0 rfl rfl (rb_isR_ref _) dX0_part_52 ?_
          obtain ⟨v28, hrv28, hv28, Kv28⟩ := (Kv27).2
          refine rc_get fl_X0_125_0 hrv28 dX0_part_53 ?_
          obtain ⟨q29, eq29, Kq29⟩ := Kv28
          subst eq29
          obtain ⟨d30, n31, Q32, h1x33, hdx33, hnx33, hox33, Kx33⟩ := Kq29
          refine rb_call st_X0_201_7 (rest := [.ref M25.1, .ref M25.1, v27]) h1x33 rfl rfl (rc_rc rfl hox33) (by simp [rb_isR_cat hv27, rb_cR, rb_cI, rb_cJ, rb_cN]) hdx33.1 hdx33.2 hnx33.1 hnx33.2 dX0_part_56 (fun o M34 hpx33 => ?_)
          obtain ⟨x33, eo, KKx33⟩ := Kx33 o M34 hpx33
          subst eo
          show rb_Bd κ mX0_part (n.1 + n2.1 + n8.1 + n14.1 + n22.1 + 1 + n31.1, n.2 + n2.2 + n8.2 + n14.2 + n22.2 + 9 + n31.2) M34 59 [some (.ref a0), some (.int a1), some (.int a2), some (.int a3)] [.int x33, .ref M25.1, .ref M25.1, v27]
          refine rb_iload_n 1 rfl rfl dX0_part_59 ?_
          refine rb_iload_n 2 rfl rfl dX0_part_60 ?_
          refine rb_iload_n 3 rfl rfl dX0_part_61 ?_
          obtain ⟨ci40, d35, n36, Q37, h1v38, hdv38, hnv38, hov38, Kv38⟩ := KKx33
          refine rb_call (st_X0_207 ci40) (rest := [.ref M25.1, v27]) h1v38 rfl rfl (rc_rc rfl hov38) (by simp [rb_isR_cat hv27, rb_cR, rb_cI, rb_cJ, rb_cN]) hdv38.1 hdv38.2 hnv38.1 hnv38.2 dX0_part_62 (fun o M39 hpv38 => ?_)
          obtain ⟨eo, KKv38⟩ := Kv38 o M39 hpv38
          subst eo
          show rb_Bd κ mX0_part (n.1 + n2.1 + n8.1 + n14.1 + n22.1 + 1 + n31.1 + n36.1, n.2 + n2.2 + n8.2 + n14.2 + n22.2 + 9 + n31.2 + n36.2) M39 65 [some (.ref a0), some (.int a1), some (.int a2), some (.int a3)] [.ref M25.1, v27]
          obtain ⟨q41, eq41, Kq41⟩ := KKv38
          subst eq41
          obtain ⟨d42, n43, Q44, h1x45, hdx45, hnx45, hox45, Kx45⟩ := Kq41
          refine rb_call st_X0_210_7 (rest := []) h1x45 rfl rfl (rc_rc rfl hox45) (Nat.le_of_ble_eq_true rfl) hdx45.1 hdx45.2 hnx45.1 hnx45.2 dX0_part_65 (fun o M46 hpx45 => ?_)
          obtain ⟨x45, eo, KKx45⟩ := Kx45 o M46 hpx45
          subst eo
          show rb_Bd κ mX0_part (n.1 + n2.1 + n8.1 + n14.1 + n22.1 + 1 + n31.1 + n36.1 + n43.1, n.2 + n2.2 + n8.2 + n14.2 + n22.2 + 9 + n31.2 + n36.2 + n43.2) M46 68 [some (.ref a0), some (.int a1), some (.int a2), some (.int a3)] [.int x45]
          refine rb_pop rfl dX0_part_68 ?_
          refine rb_aload_n 0 rfl rfl (rb_isR_ref _) dX0_part_69 ?_
          obtain ⟨v47, hrv47, hv47, Kv47⟩ := KKx45
          refine rc_get fl_X0_125_0 hrv47 dX0_part_70 ?_
          obtain ⟨q48, eq48, Kq48⟩ := Kv47
          subst eq48
          obtain ⟨d49, n50, Q51, h1x52, hdx52, hnx52, hox52, Kx52⟩ := Kq48
          refine rb_call st_X0_201_7 (rest := []) h1x52 rfl rfl (rc_rc rfl hox52) (Nat.le_of_ble_eq_true rfl) hdx52.1 hdx52.2 hnx52.1 hnx52.2 dX0_part_73 (fun o M53 hpx52 => ?_)
          obtain ⟨x52, eo, KKx52⟩ := Kx52 o M53 hpx52
          subst eo
          show rb_Bd κ mX0_part (n.1 + n2.1 + n8.1 + n14.1 + n22.1 + 1 + n31.1 + n36.1 + n43.1 + n50.1, n.2 + n2.2 + n8.2 + n14.2 + n22.2 + 9 + n31.2 + n36.2 + n43.2 + n50.2) M53 76 [some (.ref a0), some (.int a1), some (.int a2), some (.int a3)] [.int x52]
          refine rb_iconst (v := (1 : Int32)) (by decide) dX0_part_76 ?_
          refine rb_isub (z := (x52 - (1 : Int32))) rfl dX0_part_77 ?_
          exact rb_iret rfl rfl (KKx52).1.1 (KKx52).1.2 dX0_part_78 (KKx52).2
        · skip
          refine rb_bipush (v := (-2 : Int32)) (by decide) dX0_part_41 ?_
          exact rb_iret rfl rfl (((KKx24).2 c26)).1.1 (((KKx24).2 c26)).1.2 dX0_part_43 (((KKx24).2 c26)).2
      · skip
        refine rb_iconst (v := (-1 : Int32)) (by decide) dX0_part_27 ?_
        exact rb_iret rfl rfl (((KKx16).2 c18)).1.1 (((KKx16).2 c18)).1.2 dX0_part_28 (((KKx16).2 c18)).2
theorem sgX0_in_0 {κ : rb_K} {n : Nat × Nat} {M : rb_H} {a0 : Int32} {a1 : Int32} {a2 : Int32} (K : ((a0 < a1 → (rb_fin κ n ∧ κ.2.2.1 (.returned (some (.int (0 : Int32)))) M)) ∧ (a1 ≤ a0 → ((a2 < a0 → (rb_fin κ n ∧ κ.2.2.1 (.returned (some (.int (0 : Int32)))) M)) ∧ (a0 ≤ a2 → (rb_fin κ n ∧ κ.2.2.1 (.returned (some (.int (1 : Int32)))) M)))))) : rb_Bd κ mX0_in n M 0 [some (.int a0), some (.int a1), some (.int a2)] [] := by
  refine rb_iload_n 0 rfl rfl dX0_in_0 ?_
  refine rb_iload_n 1 rfl rfl dX0_in_1 ?_
  refine rb_iclt 14 (by decide) dX0_in_2 (fun c1 => ?_) (fun c1 => ?_)
  · skip
    refine rb_iconst (v := (0 : Int32)) (by decide) dX0_in_14 ?_
    exact rb_iret rfl (by decide) (((K).1 c1)).1.1 (((K).1 c1)).1.2 dX0_in_15 (((K).1 c1)).2
  · skip
    refine rb_iload_n 0 rfl rfl dX0_in_5 ?_
    refine rb_iload_n 2 rfl rfl dX0_in_6 ?_
    refine rb_icgt 14 (by decide) dX0_in_7 (fun c2 => ?_) (fun c2 => ?_)
    · skip
      refine rb_iconst (v := (0 : Int32)) (by decide) dX0_in_14 ?_
      exact rb_iret rfl (by decide) (((((K).2 c1)).1 c2)).1.1 (((((K).2 c1)).1 c2)).1.2 dX0_in_15 (((((K).2 c1)).1 c2)).2
    · skip
      refine rb_iconst (v := (1 : Int32)) (by decide) dX0_in_10 ?_
      refine rb_goto 15 (by decide) dX0_in_11 ?_
      exact rb_iret rfl (by decide) (((((K).2 c1)).2 c2)).1.1 (((((K).2 c1)).2 c2)).1.2 dX0_in_15 (((((K).2 c1)).2 c2)).2
theorem sgX0_extend_0 {κ : rb_K} {n : Nat × Nat} {M : rb_H} {a0 : Nat} {a1 : Int32} {a2 : Int32} (K : (∃ (d1 : Nat) (n2 : Nat × Nat) (Q3 : Outcome → rb_H → Prop), rb_Ct κ.1 yX0_isPart wX0_isPart d1 n2 [.ref a0, .int a1] M Q3 ∧ rb_dp κ d1 ∧ rb_rom κ (n.1 + n2.1, n.2 + n2.2) ∧ rb_ob M a0 0 ∧ ∀ (o : Outcome) (M5 : rb_H), Q3 o M5 → (∃ (x4 : Int32), o = .returned (some (.int x4)) ∧ ((x4 = 0 → (rb_fin κ (n.1 + n2.1, n.2 + n2.2) ∧ κ.2.2.1 (.returned (some (.int (-1 : Int32)))) M5)) ∧ (¬ x4 = 0 → (∃ (d7 : Nat) (n8 : Nat × Nat) (Q9 : Outcome → rb_H → Prop), rb_Ct κ.1 yX0_in wX0_in d7 n8 [.int a2, .int (0 : Int32), .int (a1 - (1 : Int32))] M5 Q9 ∧ rb_dp κ d7 ∧ rb_rom κ (n.1 + n2.1 + n8.1, n.2 + n2.2 + n8.2) ∧ ∀ (o : Outcome) (M11 : rb_H), Q9 o M11 → (∃ (x10 : Int32), o = .returned (some (.int x10)) ∧ ((x10 = 0 → (rb_fin κ (n.1 + n2.1 + n8.1, n.2 + n2.2 + n8.2) ∧ κ.2.2.1 (.returned (some (.int (-1 : Int32)))) M11)) ∧ (¬ x10 = 0 → (∃ (v13 : Value), rb_rd M11 a0 0 2 (v13) ∧ rb_isR v13 ∧ (∃ q14, v13 = .ref q14 ∧ (∃ (d15 : Nat) (n16 : Nat × Nat) (Q17 : Outcome → rb_H → Prop), rb_Ct κ.1 yJ4_get wJ4_get d15 n16 [.ref q14, .int a1] M11 Q17 ∧ rb_dp κ d15 ∧ rb_rom κ (n.1 + n2.1 + n8.1 + n16.1, n.2 + n2.2 + n8.2 + n16.2) ∧ rb_ob M11 q14 7 ∧ ∀ (o : Outcome) (M19 : rb_H), Q17 o M19 → (∃ (v18 : Value), o = .returned (some v18) ∧ rb_isR v18 ∧ (∃ q20, v18 = .ref q20 ∧ (∃ ci21, rb_ob M19 q20 ci21 ∧ rb_CC ci21 "RoleLoom$Part" ∧ (∃ (v22 : Value), rb_rd M19 q20 5 4 (v22) ∧ rb_isR v22 ∧ (∃ (v23 : Value), rb_rd M19 a0 0 2 (v23) ∧ rb_isR v23 ∧ (∃ q24, v23 = .ref q24 ∧ (∃ (d25 : Nat) (n26 : Nat × Nat) (Q27 : Outcome → rb_H → Prop), rb_Ct κ.1 yJ4_get wJ4_get d25 n26 [.ref q24, .int a2] M19 Q27 ∧ rb_dp κ d25 ∧ rb_rom κ (n.1 + n2.1 + n8.1 + n16.1 + n26.1, n.2 + n2.2 + n8.2 + n16.2 + n26.2) ∧ rb_ob M19 q24 7 ∧ ∀ (o : Outcome) (M29 : rb_H), Q27 o M29 → (∃ (v28 : Value), o = .returned (some v28) ∧ rb_isR v28 ∧ (∃ q30, v22 = .ref q30 ∧ (∃ (d31 : Nat) (n32 : Nat × Nat) (Q33 : Outcome → rb_H → Prop), rb_Ct κ.1 yJ4_contains wJ4_contains d31 n32 [.ref q30, v28] M29 Q33 ∧ rb_dp κ d31 ∧ rb_rom κ (n.1 + n2.1 + n8.1 + n16.1 + n26.1 + n32.1, n.2 + n2.2 + n8.2 + n16.2 + n26.2 + n32.2) ∧ rb_ob M29 q30 7 ∧ ∀ (o : Outcome) (M35 : rb_H), Q33 o M35 → (∃ (x34 : Int32), o = .returned (some (.int x34)) ∧ ((x34 = 0 → (∃ (v37 : Value), rb_rd M35 a0 0 2 (v37) ∧ rb_isR v37 ∧ (∃ q38, v37 = .ref q38 ∧ (∃ (d39 : Nat) (n40 : Nat × Nat) (Q41 : Outcome → rb_H → Prop), rb_Ct κ.1 yJ4_get wJ4_get d39 n40 [.ref q38, .int a1] M35 Q41 ∧ rb_dp κ d39 ∧ rb_rom κ (n.1 + n2.1 + n8.1 + n16.1 + n26.1 + n32.1 + n40.1, n.2 + n2.2 + n8.2 + n16.2 + n26.2 + n32.2 + n40.2) ∧ rb_ob M35 q38 7 ∧ ∀ (o : Outcome) (M43 : rb_H), Q41 o M43 → (∃ (v42 : Value), o = .returned (some v42) ∧ rb_isR v42 ∧ (∃ q44, v42 = .ref q44 ∧ (∃ ci45, rb_ob M43 q44 ci45 ∧ rb_CC ci45 "RoleLoom$Part" ∧ (∃ (v46 : Value), rb_rd M43 q44 5 4 (v46) ∧ rb_isR v46 ∧ (∃ q47, v46 = .ref q47 ∧ (∃ (d48 : Nat) (n49 : Nat × Nat) (Q50 : Outcome → rb_H → Prop), rb_Ct κ.1 yJ4_size wJ4_size d48 n49 [.ref q47] M43 Q50 ∧ rb_dp κ d48 ∧ rb_rom κ (n.1 + n2.1 + n8.1 + n16.1 + n26.1 + n32.1 + n40.1 + n49.1, n.2 + n2.2 + n8.2 + n16.2 + n26.2 + n32.2 + n40.2 + n49.2) ∧ rb_ob M43 q47 7 ∧ ∀ (o : Outcome) (M52 : rb_H), Q50 o M52 → (∃ (x51 : Int32), o = .returned (some (.int x51)) ∧ ((¬ x51 = (4 : Int32) → (∃ (v54 : Value), rb_rd M52 a0 0 7 (v54) ∧ rb_isR v54 ∧ (∃ q55, v54 = .ref q55 ∧ (∃ (d56 : Nat) (n57 : Nat × Nat) (Q58 : Outcome → rb_H → Prop), rb_Ct κ.1 yJ4_isEmpty wJ4_isEmpty d56 n57 [.ref q55] M52 Q58 ∧ rb_dp κ d56 ∧ rb_rom κ (n.1 + n2.1 + n8.1 + n16.1 + n26.1 + n32.1 + n40.1 + n49.1 + n57.1, n.2 + n2.2 + n8.2 + n16.2 + n26.2 + n32.2 + n40.2 + n49.2 + n57.2) ∧ rb_ob M52 q55 7 ∧ ∀ (o : Outcome) (M60 : rb_H), Q58 o M60 → (∃ (x59 : Int32), o = .returned (some (.int x59)) ∧ ((¬ x59 = 0 → (∃ (v62 : Value), rb_rd M60 a0 0 2 (v62) ∧ rb_isR v62 ∧ (∃ q63, v62 = .ref q63 ∧ (∃ (d64 : Nat) (n65 : Nat × Nat) (Q66 : Outcome → rb_H → Prop), rb_Ct κ.1 yJ4_get wJ4_get d64 n65 [.ref q63, .int a2] M60 Q66 ∧ rb_dp κ d64 ∧ rb_rom κ (n.1 + n2.1 + n8.1 + n16.1 + n26.1 + n32.1 + n40.1 + n49.1 + n57.1 + n65.1, n.2 + n2.2 + n8.2 + n16.2 + n26.2 + n32.2 + n40.2 + n49.2 + n57.2 + n65.2) ∧ rb_ob M60 q63 7 ∧ ∀ (o : Outcome) (M68 : rb_H), Q66 o M68 → (∃ (v67 : Value), o = .returned (some v67) ∧ rb_isR v67 ∧ (∃ q69, v67 = .ref q69 ∧ (∃ ci70, rb_ob M68 q69 ci70 ∧ rb_CC ci70 "RoleLoom$Part" ∧ (∃ (d71 : Nat) (n72 : Nat × Nat) (Q73 : Outcome → rb_H → Prop), rb_Ct κ.1 yJ4_add wJ4_add d71 n72 [.ref q47, .ref q69] M68 Q73 ∧ rb_dp κ d71 ∧ rb_rom κ (n.1 + n2.1 + n8.1 + n16.1 + n26.1 + n32.1 + n40.1 + n49.1 + n57.1 + n65.1 + n72.1, n.2 + n2.2 + n8.2 + n16.2 + n26.2 + n32.2 + n40.2 + n49.2 + n57.2 + n65.2 + n72.2) ∧ rb_ob M68 q47 7 ∧ ∀ (o : Outcome) (M75 : rb_H), Q73 o M75 → (∃ (x74 : Int32), o = .returned (some (.int x74)) ∧ (∃ (d76 : Nat) (n77 : Nat × Nat) (Q78 : Outcome → rb_H → Prop), rb_Ct κ.1 yJ4_size wJ4_size d76 n77 [.ref q47] M75 Q78 ∧ rb_dp κ d76 ∧ rb_rom κ (n.1 + n2.1 + n8.1 + n16.1 + n26.1 + n32.1 + n40.1 + n49.1 + n57.1 + n65.1 + n72.1 + n77.1, n.2 + n2.2 + n8.2 + n16.2 + n26.2 + n32.2 + n40.2 + n49.2 + n57.2 + n65.2 + n72.2 + n77.2) ∧ rb_ob M75 q47 7 ∧ ∀ (o : Outcome) (M80 : rb_H), Q78 o M80 → (∃ (x79 : Int32), o = .returned (some (.int x79)) ∧ (rb_fin κ (n.1 + n2.1 + n8.1 + n16.1 + n26.1 + n32.1 + n40.1 + n49.1 + n57.1 + n65.1 + n72.1 + n77.1, n.2 + n2.2 + n8.2 + n16.2 + n26.2 + n32.2 + n40.2 + n49.2 + n57.2 + n65.2 + n72.2 + n77.2) ∧ κ.2.2.1 (.returned (some (.int x79))) M80)))))))))))) ∧ (x59 = 0 → (rb_fin κ (n.1 + n2.1 + n8.1 + n16.1 + n26.1 + n32.1 + n40.1 + n49.1 + n57.1, n.2 + n2.2 + n8.2 + n16.2 + n26.2 + n32.2 + n40.2 + n49.2 + n57.2) ∧ κ.2.2.1 (.returned (some (.int (-4 : Int32)))) M60)))))))) ∧ (x51 = (4 : Int32) → (rb_fin κ (n.1 + n2.1 + n8.1 + n16.1 + n26.1 + n32.1 + n40.1 + n49.1, n.2 + n2.2 + n8.2 + n16.2 + n26.2 + n32.2 + n40.2 + n49.2) ∧ κ.2.2.1 (.returned (some (.int (-2 : Int32)))) M52)))))))))))))) ∧ (¬ x34 = 0 → (rb_fin κ (n.1 + n2.1 + n8.1 + n16.1 + n26.1 + n32.1, n.2 + n2.2 + n8.2 + n16.2 + n26.2 + n32.2) ∧ κ.2.2.1 (.returned (some (.int (-1 : Int32)))) M35)))))))))))))))))))))))))) : rb_Bd κ mX0_extend n M 0 [some (.ref a0), some (.int a1), some (.int a2), none] [] := by
  refine rb_aload_n 0 rfl rfl (rb_isR_ref _) dX0_extend_0 ?_
  refine rb_iload_n 1 rfl rfl dX0_extend_1 ?_
  obtain ⟨d1, n2, Q3, h1x4, hdx4, hnx4, hox4, Kx4⟩ := K
  refine rb_call st_X0_214_0 (rest := []) h1x4 rfl rfl (rc_rc rfl hox4) (Nat.le_of_ble_eq_true rfl) hdx4.1 hdx4.2 hnx4.1 hnx4.2 dX0_extend_2 (fun o M5 hpx4 => ?_)
  obtain ⟨x4, eo, KKx4⟩ := Kx4 o M5 hpx4
  subst eo
  show rb_Bd κ mX0_extend (n.1 + n2.1, n.2 + n2.2) M5 5 [some (.ref a0), some (.int a1), some (.int a2), none] [.int x4]
  refine rb_ifeq 47 (by decide) dX0_extend_5 (fun c6 => ?_) (fun c6 => ?_)
  · skip
    refine rb_iconst (v := (-1 : Int32)) (by decide) dX0_extend_47 ?_
    exact rb_iret rfl rfl (((KKx4).1 c6)).1.1 (((KKx4).1 c6)).1.2 dX0_extend_48 (((KKx4).1 c6)).2
  · skip
    refine rb_iload_n 2 rfl rfl dX0_extend_8 ?_
    refine rb_iconst (v := (0 : Int32)) (by decide) dX0_extend_9 ?_
    refine rb_iload_n 1 rfl rfl dX0_extend_10 ?_
    refine rb_iconst (v := (1 : Int32)) (by decide) dX0_extend_11 ?_
    refine rb_isub (z := (a1 - (1 : Int32))) rfl dX0_extend_12 ?_
    obtain ⟨d7, n8, Q9, h1x10, hdx10, hnx10, Kx10⟩ := ((KKx4).2 c6)
    refine rb_call st_X0_45 (rest := []) h1x10 rfl rfl mm_rn (Nat.le_of_ble_eq_true rfl) hdx10.1 hdx10.2 hnx10.1 hnx10.2 dX0_extend_13 (fun o M11 hpx10 => ?_)
    obtain ⟨x10, eo, KKx10⟩ := Kx10 o M11 hpx10
    subst eo
    show rb_Bd κ mX0_extend (n.1 + n2.1 + n8.1, n.2 + n2.2 + n8.2) M11 16 [some (.ref a0), some (.int a1), some (.int a2), none] [.int x10]
    refine rb_ifeq 47 (by decide) dX0_extend_16 (fun c12 => ?_) (fun c12 => ?_)
    · skip
      refine rb_iconst (v := (-1 : Int32)) (by decide) dX0_extend_47 ?_
      exact rb_iret rfl rfl (((KKx10).1 c12)).1.1 (((KKx10).1 c12)).1.2 dX0_extend_48 (((KKx10).1 c12)).2
    · skip
      refine rb_aload_n 0 rfl rfl (rb_isR_ref _) dX0_extend_19 ?_
      obtain ⟨v13, hrv13, hv13, Kv13⟩ := ((KKx10).2 c12)
      refine rc_get fl_X0_125_0 hrv13 dX0_extend_20 ?_
      refine rb_iload_n 1 rfl rfl dX0_extend_23 ?_
      obtain ⟨q14, eq14, Kq14⟩ := Kv13
      subst eq14
      obtain ⟨d15, n16, Q17, h1v18, hdv18, hnv18, hov18, Kv18⟩ := Kq14
      refine rb_call st_X0_218_7 (rest := []) h1v18 rfl rfl (rc_rc rfl hov18) (Nat.le_of_ble_eq_true rfl) hdv18.1 hdv18.2 hnv18.1 hnv18.2 dX0_extend_24 (fun o M19 hpv18 => ?_)
      obtain ⟨v18, eo, hv18, KKv18⟩ := Kv18 o M19 hpv18
      subst eo
      show rb_Bd κ mX0_extend (n.1 + n2.1 + n8.1 + n16.1, n.2 + n2.2 + n8.2 + n16.2) M19 27 [some (.ref a0), some (.int a1), some (.int a2), none] [v18]
      obtain ⟨q20, eq20, Kq20⟩ := KKv18
      subst eq20
      obtain ⟨ci21, ⟨fsci21, hoci21⟩, hcci21, Kci21⟩ := Kq20
      refine rb_cast q416 hoci21 hcci21 dX0_extend_27 ?_
      obtain ⟨v22, hrv22, hv22, Kv22⟩ := Kci21
      refine rc_get fl_X0_222_5 hrv22 dX0_extend_30 ?_
      refine rb_aload_n 0 rfl rfl (rb_isR_ref _) dX0_extend_33 ?_
      obtain ⟨v23, hrv23, hv23, Kv23⟩ := Kv22
      refine rc_get fl_X0_125_0 hrv23 dX0_extend_34 ?_
      refine rb_iload_n 2 rfl rfl dX0_extend_37 ?_
      obtain ⟨q24, eq24, Kq24⟩ := Kv23
      subst eq24
      obtain ⟨d25, n26, Q27, h1v28, hdv28, hnv28, hov28, Kv28⟩ := Kq24
      refine rb_call st_X0_218_7 (rest := [v22]) h1v28 rfl rfl (rc_rc rfl hov28) (by simp [rb_isR_cat hv22, rb_cR, rb_cI, rb_cJ, rb_cN]) hdv28.1 hdv28.2 hnv28.1 hnv28.2 dX0_extend_38 (fun o M29 hpv28 => ?_)
      obtain ⟨v28, eo, hv28, KKv28⟩ := Kv28 o M29 hpv28
      subst eo
      show rb_Bd κ mX0_extend (n.1 + n2.1 + n8.1 + n16.1 + n26.1, n.2 + n2.2 + n8.2 + n16.2 + n26.2) M29 41 [some (.ref a0), some (.int a1), some (.int a2), none] [v28, v22]
      obtain ⟨q30, eq30, Kq30⟩ := KKv28
      subst eq30
      obtain ⟨d31, n32, Q33, h1x34, hdx34, hnx34, hox34, Kx34⟩ := Kq30
      refine rb_call st_X0_225_7 (rest := []) h1x34 rfl rfl (rc_rc rfl hox34) (Nat.le_of_ble_eq_true rfl) hdx34.1 hdx34.2 hnx34.1 hnx34.2 dX0_extend_41 (fun o M35 hpx34 => ?_)
      obtain ⟨x34, eo, KKx34⟩ := Kx34 o M35 hpx34
      subst eo
      show rb_Bd κ mX0_extend (n.1 + n2.1 + n8.1 + n16.1 + n26.1 + n32.1, n.2 + n2.2 + n8.2 + n16.2 + n26.2 + n32.2) M35 44 [some (.ref a0), some (.int a1), some (.int a2), none] [.int x34]
      refine rb_ifeq 49 (by decide) dX0_extend_44 (fun c36 => ?_) (fun c36 => ?_)
      · skip
        refine rb_aload_n 0 rfl rfl (rb_isR_ref _) dX0_extend_49 ?_
        obtain ⟨v37, hrv37, hv37, Kv37⟩ := ((KKx34).1 c36)
        refine rc_get fl_X0_125_0 hrv37 dX0_extend_50 ?_
        refine rb_iload_n 1 rfl rfl dX0_extend_53 ?_
        obtain ⟨q38, eq38, Kq38⟩ := Kv37
        subst eq38
        obtain ⟨d39, n40, Q41, h1v42, hdv42, hnv42, hov42, Kv42⟩ := Kq38
        refine rb_call st_X0_218_7 (rest := []) h1v42 rfl rfl (rc_rc rfl hov42) (Nat.le_of_ble_eq_true rfl) hdv42.1 hdv42.2 hnv42.1 hnv42.2 dX0_extend_54 (fun o M43 hpv42 => ?_)
        obtain ⟨v42, eo, hv42, KKv42⟩ := Kv42 o M43 hpv42
        subst eo
        show rb_Bd κ mX0_extend (n.1 + n2.1 + n8.1 + n16.1 + n26.1 + n32.1 + n40.1, n.2 + n2.2 + n8.2 + n16.2 + n26.2 + n32.2 + n40.2) M43 57 [some (.ref a0), some (.int a1), some (.int a2), none] [v42]
        obtain ⟨q44, eq44, Kq44⟩ := KKv42
        subst eq44
        obtain ⟨ci45, ⟨fsci45, hoci45⟩, hcci45, Kci45⟩ := Kq44
        refine rb_cast q416 hoci45 hcci45 dX0_extend_57 ?_
        obtain ⟨v46, hrv46, hv46, Kv46⟩ := Kci45
        refine rc_get fl_X0_222_5 hrv46 dX0_extend_60 ?_
        refine rb_astore_n 3 rfl (ls' := [some (.ref a0), some (.int a1), some (.int a2), some v46]) (by decide) rfl rfl hv46 dX0_extend_63 ?_
        refine rb_aload_n 3 rfl rfl hv46 dX0_extend_64 ?_
        obtain ⟨q47, eq47, Kq47⟩ := Kv46
        subst eq47
        obtain ⟨d48, n49, Q50, h1x51, hdx51, hnx51, hox51, Kx51⟩ := Kq47
        refine rb_call st_X0_201_7 (rest := []) h1x51 rfl rfl (rc_rc rfl hox51) (Nat.le_of_ble_eq_true rfl) hdx51.1 hdx51.2 hnx51.1 hnx51.2 dX0_extend_65 (fun o M52 hpx51 => ?_)
        obtain ⟨x51, eo, KKx51⟩ := Kx51 o M52 hpx51
        subst eo
        show rb_Bd κ mX0_extend (n.1 + n2.1 + n8.1 + n16.1 + n26.1 + n32.1 + n40.1 + n49.1, n.2 + n2.2 + n8.2 + n16.2 + n26.2 + n32.2 + n40.2 + n49.2) M52 68 [some (.ref a0), some (.int a1), some (.int a2), some (.ref q47)] [.int x51]
        refine rb_iconst (v := (4 : Int32)) (by decide) dX0_extend_68 ?_
        refine rb_icne 75 (by decide) dX0_extend_69 (fun c53 => ?_) (fun c53 => ?_)
        · skip
          refine rb_aload_n 0 rfl rfl (rb_isR_ref _) dX0_extend_75 ?_
          obtain ⟨v54, hrv54, hv54, Kv54⟩ := ((KKx51).1 c53)
          refine rc_get fl_X0_136_0 hrv54 dX0_extend_76 ?_
          obtain ⟨q55, eq55, Kq55⟩ := Kv54
          subst eq55
          obtain ⟨d56, n57, Q58, h1x59, hdx59, hnx59, hox59, Kx59⟩ := Kq55
          refine rb_call st_X0_228_7 (rest := []) h1x59 rfl rfl (rc_rc rfl hox59) (Nat.le_of_ble_eq_true rfl) hdx59.1 hdx59.2 hnx59.1 hnx59.2 dX0_extend_79 (fun o M60 hpx59 => ?_)
          obtain ⟨x59, eo, KKx59⟩ := Kx59 o M60 hpx59
          subst eo
          show rb_Bd κ mX0_extend (n.1 + n2.1 + n8.1 + n16.1 + n26.1 + n32.1 + n40.1 + n49.1 + n57.1, n.2 + n2.2 + n8.2 + n16.2 + n26.2 + n32.2 + n40.2 + n49.2 + n57.2) M60 82 [some (.ref a0), some (.int a1), some (.int a2), some (.ref q47)] [.int x59]
          refine rb_ifne 88 (by decide) dX0_extend_82 (fun c61 => ?_) (fun c61 => ?_)
          · skip
            refine rb_aload_n 3 rfl rfl (rb_isR_ref _) dX0_extend_88 ?_
            refine rb_aload_n 0 rfl rfl (rb_isR_ref _) dX0_extend_89 ?_
            obtain ⟨v62, hrv62, hv62, Kv62⟩ := ((KKx59).1 c61)
            refine rc_get fl_X0_125_0 hrv62 dX0_extend_90 ?_
            refine rb_iload_n 2 rfl rfl dX0_extend_93 ?_
            obtain ⟨q63, eq63, Kq63⟩ := Kv62
            subst eq63
            obtain ⟨d64, n65, Q66, h1v67, hdv67, hnv67, hov67, Kv67⟩ := Kq63
            refine rb_call st_X0_218_7 (rest := [.ref q47]) h1v67 rfl rfl (rc_rc rfl hov67) (Nat.le_of_ble_eq_true rfl) hdv67.1 hdv67.2 hnv67.1 hnv67.2 dX0_extend_94 (fun o M68 hpv67 => ?_)
            obtain ⟨v67, eo, hv67, KKv67⟩ := Kv67 o M68 hpv67
            subst eo
            show rb_Bd κ mX0_extend (n.1 + n2.1 + n8.1 + n16.1 + n26.1 + n32.1 + n40.1 + n49.1 + n57.1 + n65.1, n.2 + n2.2 + n8.2 + n16.2 + n26.2 + n32.2 + n40.2 + n49.2 + n57.2 + n65.2) M68 97 [some (.ref a0), some (.int a1), some (.int a2), some (.ref q47)] [v67, .ref q47]
            obtain ⟨q69, eq69, Kq69⟩ := KKv67
            subst eq69
            obtain ⟨ci70, ⟨fsci70, hoci70⟩, hcci70, Kci70⟩ := Kq69
            refine rb_cast q416 hoci70 hcci70 dX0_extend_97 ?_
            obtain ⟨d71, n72, Q73, h1x74, hdx74, hnx74, hox74, Kx74⟩ := Kci70
            refine rb_call st_X0_210_7 (rest := []) h1x74 rfl rfl (rc_rc rfl hox74) (Nat.le_of_ble_eq_true rfl) hdx74.1 hdx74.2 hnx74.1 hnx74.2 dX0_extend_100 (fun o M75 hpx74 => ?_)
            obtain ⟨x74, eo, KKx74⟩ := Kx74 o M75 hpx74
            subst eo
            show rb_Bd κ mX0_extend (n.1 + n2.1 + n8.1 + n16.1 + n26.1 + n32.1 + n40.1 + n49.1 + n57.1 + n65.1 + n72.1, n.2 + n2.2 + n8.2 + n16.2 + n26.2 + n32.2 + n40.2 + n49.2 + n57.2 + n65.2 + n72.2) M75 103 [some (.ref a0), some (.int a1), some (.int a2), some (.ref q47)] [.int x74]
            refine rb_pop rfl dX0_extend_103 ?_
            refine rb_aload_n 3 rfl rfl (rb_isR_ref _) dX0_extend_104 ?_
            obtain ⟨d76, n77, Q78, h1x79, hdx79, hnx79, hox79, Kx79⟩ := KKx74
            refine rb_call st_X0_201_7 (rest := []) h1x79 rfl rfl (rc_rc rfl hox79) (Nat.le_of_ble_eq_true rfl) hdx79.1 hdx79.2 hnx79.1 hnx79.2 dX0_extend_105 (fun o M80 hpx79 => ?_)
            obtain ⟨x79, eo, KKx79⟩ := Kx79 o M80 hpx79
            subst eo
            show rb_Bd κ mX0_extend (n.1 + n2.1 + n8.1 + n16.1 + n26.1 + n32.1 + n40.1 + n49.1 + n57.1 + n65.1 + n72.1 + n77.1, n.2 + n2.2 + n8.2 + n16.2 + n26.2 + n32.2 + n40.2 + n49.2 + n57.2 + n65.2 + n72.2 + n77.2) M80 108 [some (.ref a0), some (.int a1), some (.int a2), some (.ref q47)] [.int x79]
            exact rb_iret rfl rfl (KKx79).1.1 (KKx79).1.2 dX0_extend_108 (KKx79).2
          · skip
            refine rb_bipush (v := (-4 : Int32)) (by decide) dX0_extend_85 ?_
            exact rb_iret rfl rfl (((KKx59).2 c61)).1.1 (((KKx59).2 c61)).1.2 dX0_extend_87 (((KKx59).2 c61)).2
        · skip
          refine rb_bipush (v := (-2 : Int32)) (by decide) dX0_extend_72 ?_
          exact rb_iret rfl rfl (((KKx51).2 c53)).1.1 (((KKx51).2 c53)).1.2 dX0_extend_74 (((KKx51).2 c53)).2
      · skip
        refine rb_iconst (v := (-1 : Int32)) (by decide) dX0_extend_47 ?_
        exact rb_iret rfl rfl (((KKx34).2 c36)).1.1 (((KKx34).2 c36)).1.2 dX0_extend_48 (((KKx34).2 c36)).2
theorem sgX0_isPart_0 {κ : rb_K} {n : Nat × Nat} {M : rb_H} {a0 : Nat} {a1 : Int32} (K : (∃ (v1 : Value), rb_rd M a0 0 2 (v1) ∧ rb_isR v1 ∧ (∃ q2, v1 = .ref q2 ∧ (∃ (d3 : Nat) (n4 : Nat × Nat) (Q5 : Outcome → rb_H → Prop), rb_Ct κ.1 yJ4_size wJ4_size d3 n4 [.ref q2] M Q5 ∧ rb_dp κ d3 ∧ rb_rom κ (n.1 + n4.1, n.2 + n4.2) ∧ rb_ob M q2 7 ∧ ∀ (o : Outcome) (M7 : rb_H), Q5 o M7 → (∃ (x6 : Int32), o = .returned (some (.int x6)) ∧ (∃ (d8 : Nat) (n9 : Nat × Nat) (Q10 : Outcome → rb_H → Prop), rb_Ct κ.1 yX0_in wX0_in d8 n9 [.int a1, .int (0 : Int32), .int (x6 - (1 : Int32))] M7 Q10 ∧ rb_dp κ d8 ∧ rb_rom κ (n.1 + n4.1 + n9.1, n.2 + n4.2 + n9.2) ∧ ∀ (o : Outcome) (M12 : rb_H), Q10 o M12 → (∃ (x11 : Int32), o = .returned (some (.int x11)) ∧ (narrow .boolean (.int x11) = .int x11 ∧ rb_fin κ (n.1 + n4.1 + n9.1, n.2 + n4.2 + n9.2) ∧ κ.2.2.1 (.returned (some (.int x11))) M12)))))))) : rb_Bd κ mX0_isPart n M 0 [some (.ref a0), some (.int a1)] [] := by
  refine rb_iload_n 1 rfl rfl dX0_isPart_0 ?_
  refine rb_iconst (v := (0 : Int32)) (by decide) dX0_isPart_1 ?_
  refine rb_aload_n 0 rfl rfl (rb_isR_ref _) dX0_isPart_2 ?_
  obtain ⟨v1, hrv1, hv1, Kv1⟩ := K
  refine rc_get fl_X0_125_0 hrv1 dX0_isPart_3 ?_
  obtain ⟨q2, eq2, Kq2⟩ := Kv1
  subst eq2
  obtain ⟨d3, n4, Q5, h1x6, hdx6, hnx6, hox6, Kx6⟩ := Kq2
  refine rb_call st_X0_201_7 (rest := [.int (0 : Int32), .int a1]) h1x6 rfl rfl (rc_rc rfl hox6) (Nat.le_of_ble_eq_true rfl) hdx6.1 hdx6.2 hnx6.1 hnx6.2 dX0_isPart_6 (fun o M7 hpx6 => ?_)
  obtain ⟨x6, eo, KKx6⟩ := Kx6 o M7 hpx6
  subst eo
  show rb_Bd κ mX0_isPart (n.1 + n4.1, n.2 + n4.2) M7 9 [some (.ref a0), some (.int a1)] [.int x6, .int (0 : Int32), .int a1]
  refine rb_iconst (v := (1 : Int32)) (by decide) dX0_isPart_9 ?_
  refine rb_isub (z := (x6 - (1 : Int32))) rfl dX0_isPart_10 ?_
  obtain ⟨d8, n9, Q10, h1x11, hdx11, hnx11, Kx11⟩ := KKx6
  refine rb_call st_X0_45 (rest := []) h1x11 rfl rfl mm_rn (Nat.le_of_ble_eq_true rfl) hdx11.1 hdx11.2 hnx11.1 hnx11.2 dX0_isPart_11 (fun o M12 hpx11 => ?_)
  obtain ⟨x11, eo, KKx11⟩ := Kx11 o M12 hpx11
  subst eo
  show rb_Bd κ mX0_isPart (n.1 + n4.1 + n9.1, n.2 + n4.2 + n9.2) M12 14 [some (.ref a0), some (.int a1)] [.int x11]
  exact rb_iret rfl (KKx11).1 (KKx11).2.1.1 (KKx11).2.1.2 dX0_isPart_14 (KKx11).2.2
theorem sgX0_want_0 {κ : rb_K} {n : Nat × Nat} {M : rb_H} {a0 : Nat} {a1 : Int32} {a2 : Int32} (K : (∃ (d1 : Nat) (n2 : Nat × Nat) (Q3 : Outcome → rb_H → Prop), rb_Ct κ.1 yX0_isPart wX0_isPart d1 n2 [.ref a0, .int a1] M Q3 ∧ rb_dp κ d1 ∧ rb_rom κ (n.1 + n2.1, n.2 + n2.2) ∧ rb_ob M a0 0 ∧ ∀ (o : Outcome) (M5 : rb_H), Q3 o M5 → (∃ (x4 : Int32), o = .returned (some (.int x4)) ∧ ((x4 = 0 → (rb_fin κ (n.1 + n2.1, n.2 + n2.2) ∧ κ.2.2.1 (.returned (some (.int (-1 : Int32)))) M5)) ∧ (¬ x4 = 0 → (∃ (d7 : Nat) (n8 : Nat × Nat) (Q9 : Outcome → rb_H → Prop), rb_Ct κ.1 yX0_isPart wX0_isPart d7 n8 [.ref a0, .int a2] M5 Q9 ∧ rb_dp κ d7 ∧ rb_rom κ (n.1 + n2.1 + n8.1, n.2 + n2.2 + n8.2) ∧ rb_ob M5 a0 0 ∧ ∀ (o : Outcome) (M11 : rb_H), Q9 o M11 → (∃ (x10 : Int32), o = .returned (some (.int x10)) ∧ ((x10 = 0 → (rb_fin κ (n.1 + n2.1 + n8.1, n.2 + n2.2 + n8.2) ∧ κ.2.2.1 (.returned (some (.int (-1 : Int32)))) M11)) ∧ (¬ x10 = 0 → ((¬ a1 = a2 → (∃ (x14 : Int32), rb_rd M11 a0 0 5 (.int x14) ∧ ((¬ x14 = (30 : Int32) → (∃ (v16 : Value), rb_rd M11 a0 0 7 (v16) ∧ rb_isR v16 ∧ (∃ q17, v16 = .ref q17 ∧ (∃ (d18 : Nat) (n19 : Nat × Nat) (Q20 : Outcome → rb_H → Prop), rb_Ct κ.1 yJ4_isEmpty wJ4_isEmpty d18 n19 [.ref q17] M11 Q20 ∧ rb_dp κ d18 ∧ rb_rom κ (n.1 + n2.1 + n8.1 + n19.1, n.2 + n2.2 + n8.2 + n19.2) ∧ rb_ob M11 q17 7 ∧ ∀ (o : Outcome) (M22 : rb_H), Q20 o M22 → (∃ (x21 : Int32), o = .returned (some (.int x21)) ∧ ((¬ x21 = 0 → (∃ (v24 : Value), rb_rd M22 a0 0 3 (v24) ∧ rb_isR v24 ∧ (∃ (x25 : Int32), rb_rd M22 a0 0 5 (.int x25) ∧ (∃ q26, v24 = .ref q26 ∧ (∃ (N27 : Nat) (f28 : Nat → Int32), M22.2 q26 = some (rb_I N27 f28) ∧ vp_in x25 N27 ∧ (∃ (v29 : Value), rb_rd (rb_up M22 q26 (rb_I N27 (va_up f28 (x25).toNatClampNeg a1))) a0 0 4 (v29) ∧ rb_isR v29 ∧ (∃ (x30 : Int32), rb_rd (rb_up M22 q26 (rb_I N27 (va_up f28 (x25).toNatClampNeg a1))) a0 0 5 (.int x30) ∧ (∃ q31, v29 = .ref q31 ∧ (∃ (N32 : Nat) (f33 : Nat → Int32), (rb_up M22 q26 (rb_I N27 (va_up f28 (x25).toNatClampNeg a1))).2 q31 = some (rb_I N32 f33) ∧ vp_in x30 N32 ∧ (∃ (x34 : Int32), rb_rd (rb_up (rb_up M22 q26 (rb_I N27 (va_up f28 (x25).toNatClampNeg a1))) q31 (rb_I N32 (va_up f33 (x30).toNatClampNeg a2))) a0 0 5 (.int x34) ∧ (∃ fs35, (rb_up (rb_up M22 q26 (rb_I N27 (va_up f28 (x25).toNatClampNeg a1))) q31 (rb_I N32 (va_up f33 (x30).toNatClampNeg a2))).2 a0 = some (rb_O 0 fs35) ∧ 5 < fs35.length ∧ (∃ (x36 : Int32), rb_rd (rb_up (rb_up (rb_up M22 q26 (rb_I N27 (va_up f28 (x25).toNatClampNeg a1))) q31 (rb_I N32 (va_up f33 (x30).toNatClampNeg a2))) a0 (rb_O 0 (fs35.set 5 (.int (x34 + (1 : Int32)))))) a0 0 5 (.int x36) ∧ (rb_fin κ (n.1 + n2.1 + n8.1 + n19.1, n.2 + n2.2 + n8.2 + n19.2) ∧ κ.2.2.1 (.returned (some (.int x36))) (rb_up (rb_up (rb_up M22 q26 (rb_I N27 (va_up f28 (x25).toNatClampNeg a1))) q31 (rb_I N32 (va_up f33 (x30).toNatClampNeg a2))) a0 (rb_O 0 (fs35.set 5 (.int (x34 + (1 : Int32))))))))))))))))))) ∧ (x21 = 0 → (rb_fin κ (n.1 + n2.1 + n8.1 + n19.1, n.2 + n2.2 + n8.2 + n19.2) ∧ κ.2.2.1 (.returned (some (.int (-4 : Int32)))) M22)))))))) ∧ (x14 = (30 : Int32) → (rb_fin κ (n.1 + n2.1 + n8.1, n.2 + n2.2 + n8.2) ∧ κ.2.2.1 (.returned (some (.int (-2 : Int32)))) M11))))) ∧ (a1 = a2 → (rb_fin κ (n.1 + n2.1 + n8.1, n.2 + n2.2 + n8.2) ∧ κ.2.2.1 (.returned (some (.int (-1 : Int32)))) M11)))))))))))) : rb_Bd κ mX0_want n M 0 [some (.ref a0), some (.int a1), some (.int a2)] [] := by
  refine rb_aload_n 0 rfl rfl (rb_isR_ref _) dX0_want_0 ?_
  refine rb_iload_n 1 rfl rfl dX0_want_1 ?_
  obtain ⟨d1, n2, Q3, h1x4, hdx4, hnx4, hox4, Kx4⟩ := K
  refine rb_call st_X0_214_0 (rest := []) h1x4 rfl rfl (rc_rc rfl hox4) (Nat.le_of_ble_eq_true rfl) hdx4.1 hdx4.2 hnx4.1 hnx4.2 dX0_want_2 (fun o M5 hpx4 => ?_)
  obtain ⟨x4, eo, KKx4⟩ := Kx4 o M5 hpx4
  subst eo
  show rb_Bd κ mX0_want (n.1 + n2.1, n.2 + n2.2) M5 5 [some (.ref a0), some (.int a1), some (.int a2)] [.int x4]
  refine rb_ifeq 21 (by decide) dX0_want_5 (fun c6 => ?_) (fun c6 => ?_)
  · skip
    refine rb_iconst (v := (-1 : Int32)) (by decide) dX0_want_21 ?_
    exact rb_iret rfl rfl (((KKx4).1 c6)).1.1 (((KKx4).1 c6)).1.2 dX0_want_22 (((KKx4).1 c6)).2
  · skip
    refine rb_aload_n 0 rfl rfl (rb_isR_ref _) dX0_want_8 ?_
    refine rb_iload_n 2 rfl rfl dX0_want_9 ?_
    obtain ⟨d7, n8, Q9, h1x10, hdx10, hnx10, hox10, Kx10⟩ := ((KKx4).2 c6)
    refine rb_call st_X0_214_0 (rest := []) h1x10 rfl rfl (rc_rc rfl hox10) (Nat.le_of_ble_eq_true rfl) hdx10.1 hdx10.2 hnx10.1 hnx10.2 dX0_want_10 (fun o M11 hpx10 => ?_)
    obtain ⟨x10, eo, KKx10⟩ := Kx10 o M11 hpx10
    subst eo
    show rb_Bd κ mX0_want (n.1 + n2.1 + n8.1, n.2 + n2.2 + n8.2) M11 13 [some (.ref a0), some (.int a1), some (.int a2)] [.int x10]
    refine rb_ifeq 21 (by decide) dX0_want_13 (fun c12 => ?_) (fun c12 => ?_)
    · skip
      refine rb_iconst (v := (-1 : Int32)) (by decide) dX0_want_21 ?_
      exact rb_iret rfl rfl (((KKx10).1 c12)).1.1 (((KKx10).1 c12)).1.2 dX0_want_22 (((KKx10).1 c12)).2
    · skip
      refine rb_iload_n 1 rfl rfl dX0_want_16 ?_
      refine rb_iload_n 2 rfl rfl dX0_want_17 ?_
      refine rb_icne 23 (by decide) dX0_want_18 (fun c13 => ?_) (fun c13 => ?_)
      · skip
        refine rb_aload_n 0 rfl rfl (rb_isR_ref _) dX0_want_23 ?_
        obtain ⟨x14, hrx14, Kx14⟩ := ((((KKx10).2 c12)).1 c13)
        refine rc_get fl_X0_232_0 hrx14 dX0_want_24 ?_
        refine rb_bipush (v := (30 : Int32)) (by decide) dX0_want_27 ?_
        refine rb_icne 35 (by decide) dX0_want_29 (fun c15 => ?_) (fun c15 => ?_)
        · skip
          refine rb_aload_n 0 rfl rfl (rb_isR_ref _) dX0_want_35 ?_
          obtain ⟨v16, hrv16, hv16, Kv16⟩ := ((Kx14).1 c15)
          refine rc_get fl_X0_136_0 hrv16 dX0_want_36 ?_
          obtain ⟨q17, eq17, Kq17⟩ := Kv16
          subst eq17
          obtain ⟨d18, n19, Q20, h1x21, hdx21, hnx21, hox21, Kx21⟩ := Kq17
          refine rb_call st_X0_228_7 (rest := []) h1x21 rfl rfl (rc_rc rfl hox21) (Nat.le_of_ble_eq_true rfl) hdx21.1 hdx21.2 hnx21.1 hnx21.2 dX0_want_39 (fun o M22 hpx21 => ?_)
          obtain ⟨x21, eo, KKx21⟩ := Kx21 o M22 hpx21
          subst eo
          show rb_Bd κ mX0_want (n.1 + n2.1 + n8.1 + n19.1, n.2 + n2.2 + n8.2 + n19.2) M22 42 [some (.ref a0), some (.int a1), some (.int a2)] [.int x21]
          refine rb_ifne 48 (by decide) dX0_want_42 (fun c23 => ?_) (fun c23 => ?_)
          · skip
            refine rb_aload_n 0 rfl rfl (rb_isR_ref _) dX0_want_48 ?_
            obtain ⟨v24, hrv24, hv24, Kv24⟩ := ((KKx21).1 c23)
            refine rc_get fl_X0_129_0 hrv24 dX0_want_49 ?_
            refine rb_aload_n 0 rfl rfl (rb_isR_ref _) dX0_want_52 ?_
            obtain ⟨x25, hrx25, Kx25⟩ := Kv24
            refine rc_get fl_X0_232_0 hrx25 dX0_want_53 ?_
            refine rb_iload_n 1 rfl rfl dX0_want_56 ?_
            obtain ⟨q26, eq26, Kq26⟩ := Kx25
            subst eq26
            obtain ⟨N27, f28, hMf28, hif28, Kf28⟩ := Kq26
            refine rb_iast hMf28 hif28 dX0_want_57 ?_
            refine rb_aload_n 0 rfl rfl (rb_isR_ref _) dX0_want_58 ?_
            obtain ⟨v29, hrv29, hv29, Kv29⟩ := Kf28
            refine rc_get fl_X0_133_0 hrv29 dX0_want_59 ?_
            refine rb_aload_n 0 rfl rfl (rb_isR_ref _) dX0_want_62 ?_
            obtain ⟨x30, hrx30, Kx30⟩ := Kv29
            refine rc_get fl_X0_232_0 hrx30 dX0_want_63 ?_
            refine rb_iload_n 2 rfl rfl dX0_want_66 ?_
            obtain ⟨q31, eq31, Kq31⟩ := Kx30
            subst eq31
            obtain ⟨N32, f33, hMf33, hif33, Kf33⟩ := Kq31
            refine rb_iast hMf33 hif33 dX0_want_67 ?_
            refine rb_aload_n 0 rfl rfl (rb_isR_ref _) dX0_want_68 ?_
            refine rb_dup rfl dX0_want_69 ?_
            obtain ⟨x34, hrx34, Kx34⟩ := Kf33
            refine rc_get fl_X0_232_0 hrx34 dX0_want_70 ?_
            refine rb_iconst (v := (1 : Int32)) (by decide) dX0_want_73 ?_
            refine rb_iadd (z := (x34 + (1 : Int32))) rfl dX0_want_74 ?_
            obtain ⟨fs35, hMfs35, hlfs35, Kfs35⟩ := Kx34
            refine rb_put fl_X0_232_0 (fun q hq => by cases hq; exact Or.inl rfl) rfl rfl hMfs35 hlfs35 dX0_want_75 ?_
            refine rb_aload_n 0 rfl rfl (rb_isR_ref _) dX0_want_78 ?_
            obtain ⟨x36, hrx36, Kx36⟩ := Kfs35
            refine rc_get fl_X0_232_0 hrx36 dX0_want_79 ?_
            exact rb_iret rfl rfl (Kx36).1.1 (Kx36).1.2 dX0_want_82 (Kx36).2
          · skip
            refine rb_bipush (v := (-4 : Int32)) (by decide) dX0_want_45 ?_
            exact rb_iret rfl rfl (((KKx21).2 c23)).1.1 (((KKx21).2 c23)).1.2 dX0_want_47 (((KKx21).2 c23)).2
        · skip
          refine rb_bipush (v := (-2 : Int32)) (by decide) dX0_want_32 ?_
          exact rb_iret rfl rfl (((Kx14).2 c15)).1.1 (((Kx14).2 c15)).1.2 dX0_want_34 (((Kx14).2 c15)).2
      · skip
        refine rb_iconst (v := (-1 : Int32)) (by decide) dX0_want_21 ?_
        exact rb_iret rfl rfl (((((KKx10).2 c12)).2 c13)).1.1 (((((KKx10).2 c12)).2 c13)).1.2 dX0_want_22 (((((KKx10).2 c12)).2 c13)).2
theorem sgX0_body_0 {κ : rb_K} {n : Nat × Nat} {M : rb_H} {a0 : Nat} {a1 : Int32} {a2 : Int32} {a3 : Int32} {a4 : Int32} (K : (∃ (d1 : Nat) (n2 : Nat × Nat) (Q3 : Outcome → rb_H → Prop), rb_Ct κ.1 yX0_isPart wX0_isPart d1 n2 [.ref a0, .int a1] M Q3 ∧ rb_dp κ d1 ∧ rb_rom κ (n.1 + n2.1, n.2 + n2.2) ∧ rb_ob M a0 0 ∧ ∀ (o : Outcome) (M5 : rb_H), Q3 o M5 → (∃ (x4 : Int32), o = .returned (some (.int x4)) ∧ ((x4 = 0 → (rb_fin κ (n.1 + n2.1, n.2 + n2.2) ∧ κ.2.2.1 (.returned (some (.int (-1 : Int32)))) M5)) ∧ (¬ x4 = 0 → (∃ (d7 : Nat) (n8 : Nat × Nat) (Q9 : Outcome → rb_H → Prop), rb_Ct κ.1 yX0_in wX0_in d7 n8 [.int a2, .int (0 : Int32), .int (2 : Int32)] M5 Q9 ∧ rb_dp κ d7 ∧ rb_rom κ (n.1 + n2.1 + n8.1, n.2 + n2.2 + n8.2) ∧ ∀ (o : Outcome) (M11 : rb_H), Q9 o M11 → (∃ (x10 : Int32), o = .returned (some (.int x10)) ∧ ((x10 = 0 → (rb_fin κ (n.1 + n2.1 + n8.1, n.2 + n2.2 + n8.2) ∧ κ.2.2.1 (.returned (some (.int (-1 : Int32)))) M11)) ∧ (¬ x10 = 0 → (((2 : Int32) ≤ a2 → ((a4 = (-9 : Int32) → (∃ (v15 : Value), rb_rd M11 a0 0 7 (v15) ∧ rb_isR v15 ∧ (∃ q16, v15 = .ref q16 ∧ (∃ (d17 : Nat) (n18 : Nat × Nat) (Q19 : Outcome → rb_H → Prop), rb_Ct κ.1 yJ4_isEmpty wJ4_isEmpty d17 n18 [.ref q16] M11 Q19 ∧ rb_dp κ d17 ∧ rb_rom κ (n.1 + n2.1 + n8.1 + n18.1, n.2 + n2.2 + n8.2 + n18.2) ∧ rb_ob M11 q16 7 ∧ ∀ (o : Outcome) (M21 : rb_H), Q19 o M21 → (∃ (x20 : Int32), o = .returned (some (.int x20)) ∧ ((¬ x20 = 0 → (∃ (v23 : Value), rb_rd M21 a0 0 2 (v23) ∧ rb_isR v23 ∧ (∃ q24, v23 = .ref q24 ∧ (∃ (d25 : Nat) (n26 : Nat × Nat) (Q27 : Outcome → rb_H → Prop), rb_Ct κ.1 yJ4_get wJ4_get d25 n26 [.ref q24, .int a1] M21 Q27 ∧ rb_dp κ d25 ∧ rb_rom κ (n.1 + n2.1 + n8.1 + n18.1 + n26.1, n.2 + n2.2 + n8.2 + n18.2 + n26.2) ∧ rb_ob M21 q24 7 ∧ ∀ (o : Outcome) (M29 : rb_H), Q27 o M29 → (∃ (v28 : Value), o = .returned (some v28) ∧ rb_isR v28 ∧ (∃ q30, v28 = .ref q30 ∧ (∃ ci31, rb_ob M29 q30 ci31 ∧ rb_CC ci31 "RoleLoom$Part" ∧ (rb_rom κ (n.1 + n2.1 + n8.1 + n18.1 + n26.1 + 1, n.2 + n2.2 + n8.2 + n18.2 + n26.2 + 5) ∧ ((¬ a2 = (2 : Int32) → (∃ (ci38 : Nat) (d33 : Nat) (n34 : Nat × Nat) (Q35 : Outcome → rb_H → Prop), rb_Ct κ.1 yX6_init wX6_init d33 n34 [.ref M29.1, .ref q30, .int a2, .int a3, .int a4] (rb_nw M29 (rb_O 6 [.null, .int 0, .int 0, .int 0, .null])) Q35 ∧ rb_dp κ d33 ∧ rb_rom κ (n.1 + n2.1 + n8.1 + n18.1 + n26.1 + 1 + n34.1, n.2 + n2.2 + n8.2 + n18.2 + n26.2 + 5 + n34.2) ∧ rb_ob (rb_nw M29 (rb_O 6 [.null, .int 0, .int 0, .int 0, .null])) M29.1 ci38 ∧ ∀ (o : Outcome) (M37 : rb_H), Q35 o M37 → (o = .returned none ∧ (∃ fs39, M37.2 a0 = some (rb_O 0 fs39) ∧ 6 < fs39.length ∧ ((¬ a2 = 0 → ((¬ a2 = (1 : Int32) → (∃ (v42 : Value), rb_rd (rb_up M37 a0 (rb_O 0 (fs39.set 6 (.ref M29.1)))) a0 0 6 (v42) ∧ rb_isR v42 ∧ (∃ fs43, (rb_up M37 a0 (rb_O 0 (fs39.set 6 (.ref M29.1)))).2 q30 = some (rb_O 5 fs43) ∧ 7 < fs43.length ∧ (rb_fin κ (n.1 + n2.1 + n8.1 + n18.1 + n26.1 + 1 + n34.1, n.2 + n2.2 + n8.2 + n18.2 + n26.2 + 5 + n34.2) ∧ κ.2.2.1 (.returned (some (.int (1 : Int32)))) (rb_up (rb_up M37 a0 (rb_O 0 (fs39.set 6 (.ref M29.1)))) q30 (rb_O 5 (fs43.set 7 v42))))))) ∧ (a2 = (1 : Int32) → (∃ (v44 : Value), rb_rd (rb_up M37 a0 (rb_O 0 (fs39.set 6 (.ref M29.1)))) q30 5 6 (v44) ∧ rb_isR v44 ∧ (∃ (v45 : Value), rb_rd (rb_up M37 a0 (rb_O 0 (fs39.set 6 (.ref M29.1)))) a0 0 6 (v45) ∧ rb_isR v45 ∧ (∃ q46, v44 = .ref q46 ∧ (∃ q47, v45 = .ref q47 ∧ (∃ (t48 N49 ci51 : Nat) (f50 : Nat → Option Nat), (rb_up M37 a0 (rb_O 0 (fs39.set 6 (.ref M29.1)))).2 q46 = some (rb_R t48 N49 f50) ∧ (3 ≤ t48 ∧ t48 ≤ 6) ∧ vp_in a3 N49 ∧ rb_ob (rb_up M37 a0 (rb_O 0 (fs39.set 6 (.ref M29.1)))) q47 ci51 ∧ rb_AS ci51 t48 ∧ (rb_fin κ (n.1 + n2.1 + n8.1 + n18.1 + n26.1 + 1 + n34.1, n.2 + n2.2 + n8.2 + n18.2 + n26.2 + 5 + n34.2) ∧ κ.2.2.1 (.returned (some (.int (1 : Int32)))) (rb_up (rb_up M37 a0 (rb_O 0 (fs39.set 6 (.ref M29.1)))) q46 (rb_R t48 N49 (va_up f50 (a3).toNatClampNeg (some q47))))))))))))) ∧ (a2 = 0 → (∃ (v52 : Value), rb_rd (rb_up M37 a0 (rb_O 0 (fs39.set 6 (.ref M29.1)))) q30 5 5 (v52) ∧ rb_isR v52 ∧ (∃ (v53 : Value), rb_rd (rb_up M37 a0 (rb_O 0 (fs39.set 6 (.ref M29.1)))) a0 0 6 (v53) ∧ rb_isR v53 ∧ (∃ q54, v52 = .ref q54 ∧ (∃ q55, v53 = .ref q55 ∧ (∃ (t56 N57 ci59 : Nat) (f58 : Nat → Option Nat), (rb_up M37 a0 (rb_O 0 (fs39.set 6 (.ref M29.1)))).2 q54 = some (rb_R t56 N57 f58) ∧ (3 ≤ t56 ∧ t56 ≤ 6) ∧ vp_in a3 N57 ∧ rb_ob (rb_up M37 a0 (rb_O 0 (fs39.set 6 (.ref M29.1)))) q55 ci59 ∧ rb_AS ci59 t56 ∧ (rb_fin κ (n.1 + n2.1 + n8.1 + n18.1 + n26.1 + 1 + n34.1, n.2 + n2.2 + n8.2 + n18.2 + n26.2 + 5 + n34.2) ∧ κ.2.2.1 (.returned (some (.int (1 : Int32)))) (rb_up (rb_up M37 a0 (rb_O 0 (fs39.set 6 (.ref M29.1)))) q54 (rb_R t56 N57 (va_up f58 (a3).toNatClampNeg (some q55)))))))))))))))) ∧ (a2 = (2 : Int32) → (∃ (ci65 : Nat) (d60 : Nat) (n61 : Nat × Nat) (Q62 : Outcome → rb_H → Prop), rb_Ct κ.1 yX6_init wX6_init d60 n61 [.ref M29.1, .ref q30, .int a2, .int (-9 : Int32), .int a4] (rb_nw M29 (rb_O 6 [.null, .int 0, .int 0, .int 0, .null])) Q62 ∧ rb_dp κ d60 ∧ rb_rom κ (n.1 + n2.1 + n8.1 + n18.1 + n26.1 + 1 + n61.1, n.2 + n2.2 + n8.2 + n18.2 + n26.2 + 5 + n61.2) ∧ rb_ob (rb_nw M29 (rb_O 6 [.null, .int 0, .int 0, .int 0, .null])) M29.1 ci65 ∧ ∀ (o : Outcome) (M64 : rb_H), Q62 o M64 → (o = .returned none ∧ (∃ fs66, M64.2 a0 = some (rb_O 0 fs66) ∧ 6 < fs66.length ∧ ((¬ a2 = 0 → ((¬ a2 = (1 : Int32) → (∃ (v69 : Value), rb_rd (rb_up M64 a0 (rb_O 0 (fs66.set 6 (.ref M29.1)))) a0 0 6 (v69) ∧ rb_isR v69 ∧ (∃ fs70, (rb_up M64 a0 (rb_O 0 (fs66.set 6 (.ref M29.1)))).2 q30 = some (rb_O 5 fs70) ∧ 7 < fs70.length ∧ (rb_fin κ (n.1 + n2.1 + n8.1 + n18.1 + n26.1 + 1 + n61.1, n.2 + n2.2 + n8.2 + n18.2 + n26.2 + 5 + n61.2) ∧ κ.2.2.1 (.returned (some (.int (1 : Int32)))) (rb_up (rb_up M64 a0 (rb_O 0 (fs66.set 6 (.ref M29.1)))) q30 (rb_O 5 (fs70.set 7 v69))))))) ∧ (a2 = (1 : Int32) → (∃ (v71 : Value), rb_rd (rb_up M64 a0 (rb_O 0 (fs66.set 6 (.ref M29.1)))) q30 5 6 (v71) ∧ rb_isR v71 ∧ (∃ (v72 : Value), rb_rd (rb_up M64 a0 (rb_O 0 (fs66.set 6 (.ref M29.1)))) a0 0 6 (v72) ∧ rb_isR v72 ∧ (∃ q73, v71 = .ref q73 ∧ (∃ q74, v72 = .ref q74 ∧ (∃ (t75 N76 ci78 : Nat) (f77 : Nat → Option Nat), (rb_up M64 a0 (rb_O 0 (fs66.set 6 (.ref M29.1)))).2 q73 = some (rb_R t75 N76 f77) ∧ (3 ≤ t75 ∧ t75 ≤ 6) ∧ vp_in a3 N76 ∧ rb_ob (rb_up M64 a0 (rb_O 0 (fs66.set 6 (.ref M29.1)))) q74 ci78 ∧ rb_AS ci78 t75 ∧ (rb_fin κ (n.1 + n2.1 + n8.1 + n18.1 + n26.1 + 1 + n61.1, n.2 + n2.2 + n8.2 + n18.2 + n26.2 + 5 + n61.2) ∧ κ.2.2.1 (.returned (some (.int (1 : Int32)))) (rb_up (rb_up M64 a0 (rb_O 0 (fs66.set 6 (.ref M29.1)))) q73 (rb_R t75 N76 (va_up f77 (a3).toNatClampNeg (some q74))))))))))))) ∧ (a2 = 0 → (∃ (v79 : Value), rb_rd (rb_up M64 a0 (rb_O 0 (fs66.set 6 (.ref M29.1)))) q30 5 5 (v79) ∧ rb_isR v79 ∧ (∃ (v80 : Value), rb_rd (rb_up M64 a0 (rb_O 0 (fs66.set 6 (.ref M29.1)))) a0 0 6 (v80) ∧ rb_isR v80 ∧ (∃ q81, v79 = .ref q81 ∧ (∃ q82, v80 = .ref q82 ∧ (∃ (t83 N84 ci86 : Nat) (f85 : Nat → Option Nat), (rb_up M64 a0 (rb_O 0 (fs66.set 6 (.ref M29.1)))).2 q81 = some (rb_R t83 N84 f85) ∧ (3 ≤ t83 ∧ t83 ≤ 6) ∧ vp_in a3 N84 ∧ rb_ob (rb_up M64 a0 (rb_O 0 (fs66.set 6 (.ref M29.1)))) q82 ci86 ∧ rb_AS ci86 t83 ∧ (rb_fin κ (n.1 + n2.1 + n8.1 + n18.1 + n26.1 + 1 + n61.1, n.2 + n2.2 + n8.2 + n18.2 + n26.2 + 5 + n61.2) ∧ κ.2.2.1 (.returned (some (.int (1 : Int32)))) (rb_up (rb_up M64 a0 (rb_O 0 (fs66.set 6 (.ref M29.1)))) q81 (rb_R t83 N84 (va_up f85 (a3).toNatClampNeg (some q82))))))))))))))))))))))))) ∧ (x20 = 0 → (rb_fin κ (n.1 + n2.1 + n8.1 + n18.1, n.2 + n2.2 + n8.2 + n18.2) ∧ κ.2.2.1 (.returned (some (.int (-4 : Int32)))) M21)))))))) ∧ (¬ a4 = (-9 : Int32) → (∃ (d87 : Nat) (n88 : Nat × Nat) (Q89 : Outcome → rb_H → Prop), rb_Ct κ.1 yX0_in wX0_in d87 n88 [.int a4, .int (0 : Int32), .int (16 : Int32)] M11 Q89 ∧ rb_dp κ d87 ∧ rb_rom κ (n.1 + n2.1 + n8.1 + n88.1, n.2 + n2.2 + n8.2 + n88.2) ∧ ∀ (o : Outcome) (M91 : rb_H), Q89 o M91 → (∃ (x90 : Int32), o = .returned (some (.int x90)) ∧ ((¬ x90 = 0 → (∃ (v93 : Value), rb_rd M91 a0 0 7 (v93) ∧ rb_isR v93 ∧ (∃ q94, v93 = .ref q94 ∧ (∃ (d95 : Nat) (n96 : Nat × Nat) (Q97 : Outcome → rb_H → Prop), rb_Ct κ.1 yJ4_isEmpty wJ4_isEmpty d95 n96 [.ref q94] M91 Q97 ∧ rb_dp κ d95 ∧ rb_rom κ (n.1 + n2.1 + n8.1 + n88.1 + n96.1, n.2 + n2.2 + n8.2 + n88.2 + n96.2) ∧ rb_ob M91 q94 7 ∧ ∀ (o : Outcome) (M99 : rb_H), Q97 o M99 → (∃ (x98 : Int32), o = .returned (some (.int x98)) ∧ ((¬ x98 = 0 → (∃ (v101 : Value), rb_rd M99 a0 0 2 (v101) ∧ rb_isR v101 ∧ (∃ q102, v101 = .ref q102 ∧ (∃ (d103 : Nat) (n104 : Nat × Nat) (Q105 : Outcome → rb_H → Prop), rb_Ct κ.1 yJ4_get wJ4_get d103 n104 [.ref q102, .int a1] M99 Q105 ∧ rb_dp κ d103 ∧ rb_rom κ (n.1 + n2.1 + n8.1 + n88.1 + n96.1 + n104.1, n.2 + n2.2 + n8.2 + n88.2 + n96.2 + n104.2) ∧ rb_ob M99 q102 7 ∧ ∀ (o : Outcome) (M107 : rb_H), Q105 o M107 → (∃ (v106 : Value), o = .returned (some v106) ∧ rb_isR v106 ∧ (∃ q108, v106 = .ref q108 ∧ (∃ ci109, rb_ob M107 q108 ci109 ∧ rb_CC ci109 "RoleLoom$Part" ∧ (rb_rom κ (n.1 + n2.1 + n8.1 + n88.1 + n96.1 + n104.1 + 1, n.2 + n2.2 + n8.2 + n88.2 + n96.2 + n104.2 + 5) ∧ ((¬ a2 = (2 : Int32) → (∃ (ci116 : Nat) (d111 : Nat) (n112 : Nat × Nat) (Q113 : Outcome → rb_H → Prop), rb_Ct κ.1 yX6_init wX6_init d111 n112 [.ref M107.1, .ref q108, .int a2, .int a3, .int a4] (rb_nw M107 (rb_O 6 [.null, .int 0, .int 0, .int 0, .null])) Q113 ∧ rb_dp κ d111 ∧ rb_rom κ (n.1 + n2.1 + n8.1 + n88.1 + n96.1 + n104.1 + 1 + n112.1, n.2 + n2.2 + n8.2 + n88.2 + n96.2 + n104.2 + 5 + n112.2) ∧ rb_ob (rb_nw M107 (rb_O 6 [.null, .int 0, .int 0, .int 0, .null])) M107.1 ci116 ∧ ∀ (o : Outcome) (M115 : rb_H), Q113 o M115 → (o = .returned none ∧ (∃ fs117, M115.2 a0 = some (rb_O 0 fs117) ∧ 6 < fs117.length ∧ ((¬ a2 = 0 → ((¬ a2 = (1 : Int32) → (∃ (v120 : Value), rb_rd (rb_up M115 a0 (rb_O 0 (fs117.set 6 (.ref M107.1)))) a0 0 6 (v120) ∧ rb_isR v120 ∧ (∃ fs121, (rb_up M115 a0 (rb_O 0 (fs117.set 6 (.ref M107.1)))).2 q108 = some (rb_O 5 fs121) ∧ 7 < fs121.length ∧ (rb_fin κ (n.1 + n2.1 + n8.1 + n88.1 + n96.1 + n104.1 + 1 + n112.1, n.2 + n2.2 + n8.2 + n88.2 + n96.2 + n104.2 + 5 + n112.2) ∧ κ.2.2.1 (.returned (some (.int (1 : Int32)))) (rb_up (rb_up M115 a0 (rb_O 0 (fs117.set 6 (.ref M107.1)))) q108 (rb_O 5 (fs121.set 7 v120))))))) ∧ (a2 = (1 : Int32) → (∃ (v122 : Value), rb_rd (rb_up M115 a0 (rb_O 0 (fs117.set 6 (.ref M107.1)))) q108 5 6 (v122) ∧ rb_isR v122 ∧ (∃ (v123 : Value), rb_rd (rb_up M115 a0 (rb_O 0 (fs117.set 6 (.ref M107.1)))) a0 0 6 (v123) ∧ rb_isR v123 ∧ (∃ q124, v122 = .ref q124 ∧ (∃ q125, v123 = .ref q125 ∧ (∃ (t126 N127 ci129 : Nat) (f128 : Nat → Option Nat), (rb_up M115 a0 (rb_O 0 (fs117.set 6 (.ref M107.1)))).2 q124 = some (rb_R t126 N127 f128) ∧ (3 ≤ t126 ∧ t126 ≤ 6) ∧ vp_in a3 N127 ∧ rb_ob (rb_up M115 a0 (rb_O 0 (fs117.set 6 (.ref M107.1)))) q125 ci129 ∧ rb_AS ci129 t126 ∧ (rb_fin κ (n.1 + n2.1 + n8.1 + n88.1 + n96.1 + n104.1 + 1 + n112.1, n.2 + n2.2 + n8.2 + n88.2 + n96.2 + n104.2 + 5 + n112.2) ∧ κ.2.2.1 (.returned (some (.int (1 : Int32)))) (rb_up (rb_up M115 a0 (rb_O 0 (fs117.set 6 (.ref M107.1)))) q124 (rb_R t126 N127 (va_up f128 (a3).toNatClampNeg (some q125))))))))))))) ∧ (a2 = 0 → (∃ (v130 : Value), rb_rd (rb_up M115 a0 (rb_O 0 (fs117.set 6 (.ref M107.1)))) q108 5 5 (v130) ∧ rb_isR v130 ∧ (∃ (v131 : Value), rb_rd (rb_up M115 a0 (rb_O 0 (fs117.set 6 (.ref M107.1)))) a0 0 6 (v131) ∧ rb_isR v131 ∧ (∃ q132, v130 = .ref q132 ∧ (∃ q133, v131 = .ref q133 ∧ (∃ (t134 N135 ci137 : Nat) (f136 : Nat → Option Nat), (rb_up M115 a0 (rb_O 0 (fs117.set 6 (.ref M107.1)))).2 q132 = some (rb_R t134 N135 f136) ∧ (3 ≤ t134 ∧ t134 ≤ 6) ∧ vp_in a3 N135 ∧ rb_ob (rb_up M115 a0 (rb_O 0 (fs117.set 6 (.ref M107.1)))) q133 ci137 ∧ rb_AS ci137 t134 ∧ (rb_fin κ (n.1 + n2.1 + n8.1 + n88.1 + n96.1 + n104.1 + 1 + n112.1, n.2 + n2.2 + n8.2 + n88.2 + n96.2 + n104.2 + 5 + n112.2) ∧ κ.2.2.1 (.returned (some (.int (1 : Int32)))) (rb_up (rb_up M115 a0 (rb_O 0 (fs117.set 6 (.ref M107.1)))) q132 (rb_R t134 N135 (va_up f136 (a3).toNatClampNeg (some q133)))))))))))))))) ∧ (a2 = (2 : Int32) → (∃ (ci143 : Nat) (d138 : Nat) (n139 : Nat × Nat) (Q140 : Outcome → rb_H → Prop), rb_Ct κ.1 yX6_init wX6_init d138 n139 [.ref M107.1, .ref q108, .int a2, .int (-9 : Int32), .int a4] (rb_nw M107 (rb_O 6 [.null, .int 0, .int 0, .int 0, .null])) Q140 ∧ rb_dp κ d138 ∧ rb_rom κ (n.1 + n2.1 + n8.1 + n88.1 + n96.1 + n104.1 + 1 + n139.1, n.2 + n2.2 + n8.2 + n88.2 + n96.2 + n104.2 + 5 + n139.2) ∧ rb_ob (rb_nw M107 (rb_O 6 [.null, .int 0, .int 0, .int 0, .null])) M107.1 ci143 ∧ ∀ (o : Outcome) (M142 : rb_H), Q140 o M142 → (o = .returned none ∧ (∃ fs144, M142.2 a0 = some (rb_O 0 fs144) ∧ 6 < fs144.length ∧ ((¬ a2 = 0 → ((¬ a2 = (1 : Int32) → (∃ (v147 : Value), rb_rd (rb_up M142 a0 (rb_O 0 (fs144.set 6 (.ref M107.1)))) a0 0 6 (v147) ∧ rb_isR v147 ∧ (∃ fs148, (rb_up M142 a0 (rb_O 0 (fs144.set 6 (.ref M107.1)))).2 q108 = some (rb_O 5 fs148) ∧ 7 < fs148.length ∧ (rb_fin κ (n.1 + n2.1 + n8.1 + n88.1 + n96.1 + n104.1 + 1 + n139.1, n.2 + n2.2 + n8.2 + n88.2 + n96.2 + n104.2 + 5 + n139.2) ∧ κ.2.2.1 (.returned (some (.int (1 : Int32)))) (rb_up (rb_up M142 a0 (rb_O 0 (fs144.set 6 (.ref M107.1)))) q108 (rb_O 5 (fs148.set 7 v147))))))) ∧ (a2 = (1 : Int32) → (∃ (v149 : Value), rb_rd (rb_up M142 a0 (rb_O 0 (fs144.set 6 (.ref M107.1)))) q108 5 6 (v149) ∧ rb_isR v149 ∧ (∃ (v150 : Value), rb_rd (rb_up M142 a0 (rb_O 0 (fs144.set 6 (.ref M107.1)))) a0 0 6 (v150) ∧ rb_isR v150 ∧ (∃ q151, v149 = .ref q151 ∧ (∃ q152, v150 = .ref q152 ∧ (∃ (t153 N154 ci156 : Nat) (f155 : Nat → Option Nat), (rb_up M142 a0 (rb_O 0 (fs144.set 6 (.ref M107.1)))).2 q151 = some (rb_R t153 N154 f155) ∧ (3 ≤ t153 ∧ t153 ≤ 6) ∧ vp_in a3 N154 ∧ rb_ob (rb_up M142 a0 (rb_O 0 (fs144.set 6 (.ref M107.1)))) q152 ci156 ∧ rb_AS ci156 t153 ∧ (rb_fin κ (n.1 + n2.1 + n8.1 + n88.1 + n96.1 + n104.1 + 1 + n139.1, n.2 + n2.2 + n8.2 + n88.2 + n96.2 + n104.2 + 5 + n139.2) ∧ κ.2.2.1 (.returned (some (.int (1 : Int32)))) (rb_up (rb_up M142 a0 (rb_O 0 (fs144.set 6 (.ref M107.1)))) q151 (rb_R t153 N154 (va_up f155 (a3).toNatClampNeg (some q152))))))))))))) ∧ (a2 = 0 → (∃ (v157 : Value), rb_rd (rb_up M142 a0 (rb_O 0 (fs144.set 6 (.ref M107.1)))) q108 5 5 (v157) ∧ rb_isR v157 ∧ (∃ (v158 : Value), rb_rd (rb_up M142 a0 (rb_O 0 (fs144.set 6 (.ref M107.1)))) a0 0 6 (v158) ∧ rb_isR v158 ∧ (∃ q159, v157 = .ref q159 ∧ (∃ q160, v158 = .ref q160 ∧ (∃ (t161 N162 ci164 : Nat) (f163 : Nat → Option Nat), (rb_up M142 a0 (rb_O 0 (fs144.set 6 (.ref M107.1)))).2 q159 = some (rb_R t161 N162 f163) ∧ (3 ≤ t161 ∧ t161 ≤ 6) ∧ vp_in a3 N162 ∧ rb_ob (rb_up M142 a0 (rb_O 0 (fs144.set 6 (.ref M107.1)))) q160 ci164 ∧ rb_AS ci164 t161 ∧ (rb_fin κ (n.1 + n2.1 + n8.1 + n88.1 + n96.1 + n104.1 + 1 + n139.1, n.2 + n2.2 + n8.2 + n88.2 + n96.2 + n104.2 + 5 + n139.2) ∧ κ.2.2.1 (.returned (some (.int (1 : Int32)))) (rb_up (rb_up M142 a0 (rb_O 0 (fs144.set 6 (.ref M107.1)))) q159 (rb_R t161 N162 (va_up f163 (a3).toNatClampNeg (some q160))))))))))))))))))))))))) ∧ (x98 = 0 → (rb_fin κ (n.1 + n2.1 + n8.1 + n88.1 + n96.1, n.2 + n2.2 + n8.2 + n88.2 + n96.2) ∧ κ.2.2.1 (.returned (some (.int (-4 : Int32)))) M99)))))))) ∧ (x90 = 0 → (rb_fin κ (n.1 + n2.1 + n8.1 + n88.1, n.2 + n2.2 + n8.2 + n88.2) ∧ κ.2.2.1 (.returned (some (.int (-1 : Int32)))) M91)))))))) ∧ (a2 < (2 : Int32) → (∃ (d165 : Nat) (n166 : Nat × Nat) (Q167 : Outcome → rb_H → Prop), rb_Ct κ.1 yX0_in wX0_in d165 n166 [.int a3, .int (0 : Int32), .int (11 : Int32)] M11 Q167 ∧ rb_dp κ d165 ∧ rb_rom κ (n.1 + n2.1 + n8.1 + n166.1, n.2 + n2.2 + n8.2 + n166.2) ∧ ∀ (o : Outcome) (M169 : rb_H), Q167 o M169 → (∃ (x168 : Int32), o = .returned (some (.int x168)) ∧ ((x168 = 0 → (rb_fin κ (n.1 + n2.1 + n8.1 + n166.1, n.2 + n2.2 + n8.2 + n166.2) ∧ κ.2.2.1 (.returned (some (.int (-1 : Int32)))) M169)) ∧ (¬ x168 = 0 → ((a4 = (-9 : Int32) → (∃ (v172 : Value), rb_rd M169 a0 0 7 (v172) ∧ rb_isR v172 ∧ (∃ q173, v172 = .ref q173 ∧ (∃ (d174 : Nat) (n175 : Nat × Nat) (Q176 : Outcome → rb_H → Prop), rb_Ct κ.1 yJ4_isEmpty wJ4_isEmpty d174 n175 [.ref q173] M169 Q176 ∧ rb_dp κ d174 ∧ rb_rom κ (n.1 + n2.1 + n8.1 + n166.1 + n175.1, n.2 + n2.2 + n8.2 + n166.2 + n175.2) ∧ rb_ob M169 q173 7 ∧ ∀ (o : Outcome) (M178 : rb_H), Q176 o M178 → (∃ (x177 : Int32), o = .returned (some (.int x177)) ∧ ((¬ x177 = 0 → (∃ (v180 : Value), rb_rd M178 a0 0 2 (v180) ∧ rb_isR v180 ∧ (∃ q181, v180 = .ref q181 ∧ (∃ (d182 : Nat) (n183 : Nat × Nat) (Q184 : Outcome → rb_H → Prop), rb_Ct κ.1 yJ4_get wJ4_get d182 n183 [.ref q181, .int a1] M178 Q184 ∧ rb_dp κ d182 ∧ rb_rom κ (n.1 + n2.1 + n8.1 + n166.1 + n175.1 + n183.1, n.2 + n2.2 + n8.2 + n166.2 + n175.2 + n183.2) ∧ rb_ob M178 q181 7 ∧ ∀ (o : Outcome) (M186 : rb_H), Q184 o M186 → (∃ (v185 : Value), o = .returned (some v185) ∧ rb_isR v185 ∧ (∃ q187, v185 = .ref q187 ∧ (∃ ci188, rb_ob M186 q187 ci188 ∧ rb_CC ci188 "RoleLoom$Part" ∧ (rb_rom κ (n.1 + n2.1 + n8.1 + n166.1 + n175.1 + n183.1 + 1, n.2 + n2.2 + n8.2 + n166.2 + n175.2 + n183.2 + 5) ∧ ((¬ a2 = (2 : Int32) → (∃ (ci195 : Nat) (d190 : Nat) (n191 : Nat × Nat) (Q192 : Outcome → rb_H → Prop), rb_Ct κ.1 yX6_init wX6_init d190 n191 [.ref M186.1, .ref q187, .int a2, .int a3, .int a4] (rb_nw M186 (rb_O 6 [.null, .int 0, .int 0, .int 0, .null])) Q192 ∧ rb_dp κ d190 ∧ rb_rom κ (n.1 + n2.1 + n8.1 + n166.1 + n175.1 + n183.1 + 1 + n191.1, n.2 + n2.2 + n8.2 + n166.2 + n175.2 + n183.2 + 5 + n191.2) ∧ rb_ob (rb_nw M186 (rb_O 6 [.null, .int 0, .int 0, .int 0, .null])) M186.1 ci195 ∧ ∀ (o : Outcome) (M194 : rb_H), Q192 o M194 → (o = .returned none ∧ (∃ fs196, M194.2 a0 = some (rb_O 0 fs196) ∧ 6 < fs196.length ∧ ((¬ a2 = 0 → ((¬ a2 = (1 : Int32) → (∃ (v199 : Value), rb_rd (rb_up M194 a0 (rb_O 0 (fs196.set 6 (.ref M186.1)))) a0 0 6 (v199) ∧ rb_isR v199 ∧ (∃ fs200, (rb_up M194 a0 (rb_O 0 (fs196.set 6 (.ref M186.1)))).2 q187 = some (rb_O 5 fs200) ∧ 7 < fs200.length ∧ (rb_fin κ (n.1 + n2.1 + n8.1 + n166.1 + n175.1 + n183.1 + 1 + n191.1, n.2 + n2.2 + n8.2 + n166.2 + n175.2 + n183.2 + 5 + n191.2) ∧ κ.2.2.1 (.returned (some (.int (1 : Int32)))) (rb_up (rb_up M194 a0 (rb_O 0 (fs196.set 6 (.ref M186.1)))) q187 (rb_O 5 (fs200.set 7 v199))))))) ∧ (a2 = (1 : Int32) → (∃ (v201 : Value), rb_rd (rb_up M194 a0 (rb_O 0 (fs196.set 6 (.ref M186.1)))) q187 5 6 (v201) ∧ rb_isR v201 ∧ (∃ (v202 : Value), rb_rd (rb_up M194 a0 (rb_O 0 (fs196.set 6 (.ref M186.1)))) a0 0 6 (v202) ∧ rb_isR v202 ∧ (∃ q203, v201 = .ref q203 ∧ (∃ q204, v202 = .ref q204 ∧ (∃ (t205 N206 ci208 : Nat) (f207 : Nat → Option Nat), (rb_up M194 a0 (rb_O 0 (fs196.set 6 (.ref M186.1)))).2 q203 = some (rb_R t205 N206 f207) ∧ (3 ≤ t205 ∧ t205 ≤ 6) ∧ vp_in a3 N206 ∧ rb_ob (rb_up M194 a0 (rb_O 0 (fs196.set 6 (.ref M186.1)))) q204 ci208 ∧ rb_AS ci208 t205 ∧ (rb_fin κ (n.1 + n2.1 + n8.1 + n166.1 + n175.1 + n183.1 + 1 + n191.1, n.2 + n2.2 + n8.2 + n166.2 + n175.2 + n183.2 + 5 + n191.2) ∧ κ.2.2.1 (.returned (some (.int (1 : Int32)))) (rb_up (rb_up M194 a0 (rb_O 0 (fs196.set 6 (.ref M186.1)))) q203 (rb_R t205 N206 (va_up f207 (a3).toNatClampNeg (some q204))))))))))))) ∧ (a2 = 0 → (∃ (v209 : Value), rb_rd (rb_up M194 a0 (rb_O 0 (fs196.set 6 (.ref M186.1)))) q187 5 5 (v209) ∧ rb_isR v209 ∧ (∃ (v210 : Value), rb_rd (rb_up M194 a0 (rb_O 0 (fs196.set 6 (.ref M186.1)))) a0 0 6 (v210) ∧ rb_isR v210 ∧ (∃ q211, v209 = .ref q211 ∧ (∃ q212, v210 = .ref q212 ∧ (∃ (t213 N214 ci216 : Nat) (f215 : Nat → Option Nat), (rb_up M194 a0 (rb_O 0 (fs196.set 6 (.ref M186.1)))).2 q211 = some (rb_R t213 N214 f215) ∧ (3 ≤ t213 ∧ t213 ≤ 6) ∧ vp_in a3 N214 ∧ rb_ob (rb_up M194 a0 (rb_O 0 (fs196.set 6 (.ref M186.1)))) q212 ci216 ∧ rb_AS ci216 t213 ∧ (rb_fin κ (n.1 + n2.1 + n8.1 + n166.1 + n175.1 + n183.1 + 1 + n191.1, n.2 + n2.2 + n8.2 + n166.2 + n175.2 + n183.2 + 5 + n191.2) ∧ κ.2.2.1 (.returned (some (.int (1 : Int32)))) (rb_up (rb_up M194 a0 (rb_O 0 (fs196.set 6 (.ref M186.1)))) q211 (rb_R t213 N214 (va_up f215 (a3).toNatClampNeg (some q212)))))))))))))))) ∧ (a2 = (2 : Int32) → (∃ (ci222 : Nat) (d217 : Nat) (n218 : Nat × Nat) (Q219 : Outcome → rb_H → Prop), rb_Ct κ.1 yX6_init wX6_init d217 n218 [.ref M186.1, .ref q187, .int a2, .int (-9 : Int32), .int a4] (rb_nw M186 (rb_O 6 [.null, .int 0, .int 0, .int 0, .null])) Q219 ∧ rb_dp κ d217 ∧ rb_rom κ (n.1 + n2.1 + n8.1 + n166.1 + n175.1 + n183.1 + 1 + n218.1, n.2 + n2.2 + n8.2 + n166.2 + n175.2 + n183.2 + 5 + n218.2) ∧ rb_ob (rb_nw M186 (rb_O 6 [.null, .int 0, .int 0, .int 0, .null])) M186.1 ci222 ∧ ∀ (o : Outcome) (M221 : rb_H), Q219 o M221 → (o = .returned none ∧ (∃ fs223, M221.2 a0 = some (rb_O 0 fs223) ∧ 6 < fs223.length ∧ ((¬ a2 = 0 → ((¬ a2 = (1 : Int32) → (∃ (v226 : Value), rb_rd (rb_up M221 a0 (rb_O 0 (fs223.set 6 (.ref M186.1)))) a0 0 6 (v226) ∧ rb_isR v226 ∧ (∃ fs227, (rb_up M221 a0 (rb_O 0 (fs223.set 6 (.ref M186.1)))).2 q187 = some (rb_O 5 fs227) ∧ 7 < fs227.length ∧ (rb_fin κ (n.1 + n2.1 + n8.1 + n166.1 + n175.1 + n183.1 + 1 + n218.1, n.2 + n2.2 + n8.2 + n166.2 + n175.2 + n183.2 + 5 + n218.2) ∧ κ.2.2.1 (.returned (some (.int (1 : Int32)))) (rb_up (rb_up M221 a0 (rb_O 0 (fs223.set 6 (.ref M186.1)))) q187 (rb_O 5 (fs227.set 7 v226))))))) ∧ (a2 = (1 : Int32) → (∃ (v228 : Value), rb_rd (rb_up M221 a0 (rb_O 0 (fs223.set 6 (.ref M186.1)))) q187 5 6 (v228) ∧ rb_isR v228 ∧ (∃ (v229 : Value), rb_rd (rb_up M221 a0 (rb_O 0 (fs223.set 6 (.ref M186.1)))) a0 0 6 (v229) ∧ rb_isR v229 ∧ (∃ q230, v228 = .ref q230 ∧ (∃ q231, v229 = .ref q231 ∧ (∃ (t232 N233 ci235 : Nat) (f234 : Nat → Option Nat), (rb_up M221 a0 (rb_O 0 (fs223.set 6 (.ref M186.1)))).2 q230 = some (rb_R t232 N233 f234) ∧ (3 ≤ t232 ∧ t232 ≤ 6) ∧ vp_in a3 N233 ∧ rb_ob (rb_up M221 a0 (rb_O 0 (fs223.set 6 (.ref M186.1)))) q231 ci235 ∧ rb_AS ci235 t232 ∧ (rb_fin κ (n.1 + n2.1 + n8.1 + n166.1 + n175.1 + n183.1 + 1 + n218.1, n.2 + n2.2 + n8.2 + n166.2 + n175.2 + n183.2 + 5 + n218.2) ∧ κ.2.2.1 (.returned (some (.int (1 : Int32)))) (rb_up (rb_up M221 a0 (rb_O 0 (fs223.set 6 (.ref M186.1)))) q230 (rb_R t232 N233 (va_up f234 (a3).toNatClampNeg (some q231))))))))))))) ∧ (a2 = 0 → (∃ (v236 : Value), rb_rd (rb_up M221 a0 (rb_O 0 (fs223.set 6 (.ref M186.1)))) q187 5 5 (v236) ∧ rb_isR v236 ∧ (∃ (v237 : Value), rb_rd (rb_up M221 a0 (rb_O 0 (fs223.set 6 (.ref M186.1)))) a0 0 6 (v237) ∧ rb_isR v237 ∧ (∃ q238, v236 = .ref q238 ∧ (∃ q239, v237 = .ref q239 ∧ (∃ (t240 N241 ci243 : Nat) (f242 : Nat → Option Nat), (rb_up M221 a0 (rb_O 0 (fs223.set 6 (.ref M186.1)))).2 q238 = some (rb_R t240 N241 f242) ∧ (3 ≤ t240 ∧ t240 ≤ 6) ∧ vp_in a3 N241 ∧ rb_ob (rb_up M221 a0 (rb_O 0 (fs223.set 6 (.ref M186.1)))) q239 ci243 ∧ rb_AS ci243 t240 ∧ (rb_fin κ (n.1 + n2.1 + n8.1 + n166.1 + n175.1 + n183.1 + 1 + n218.1, n.2 + n2.2 + n8.2 + n166.2 + n175.2 + n183.2 + 5 + n218.2) ∧ κ.2.2.1 (.returned (some (.int (1 : Int32)))) (rb_up (rb_up M221 a0 (rb_O 0 (fs223.set 6 (.ref M186.1)))) q238 (rb_R t240 N241 (va_up f242 (a3).toNatClampNeg (some q239))))))))))))))))))))))))) ∧ (x177 = 0 → (rb_fin κ (n.1 + n2.1 + n8.1 + n166.1 + n175.1, n.2 + n2.2 + n8.2 + n166.2 + n175.2) ∧ κ.2.2.1 (.returned (some (.int (-4 : Int32)))) M178)))))))) ∧ (¬ a4 = (-9 : Int32) → (∃ (d244 : Nat) (n245 : Nat × Nat) (Q246 : Outcome → rb_H → Prop), rb_Ct κ.1 yX0_in wX0_in d244 n245 [.int a4, .int (0 : Int32), .int (16 : Int32)] M169 Q246 ∧ rb_dp κ d244 ∧ rb_rom κ (n.1 + n2.1 + n8.1 + n166.1 + n245.1, n.2 + n2.2 + n8.2 + n166.2 + n245.2) ∧ ∀ (o : Outcome) (M248 : rb_H), Q246 o M248 → (∃ (x247 : Int32), o = .returned (some (.int x247)) ∧ ((¬ x247 = 0 → (∃ (v250 : Value), rb_rd M248 a0 0 7 (v250) ∧ rb_isR v250 ∧ (∃ q251, v250 = .ref q251 ∧ (∃ (d252 : Nat) (n253 : Nat × Nat) (Q254 : Outcome → rb_H → Prop), rb_Ct κ.1 yJ4_isEmpty wJ4_isEmpty d252 n253 [.ref q251] M248 Q254 ∧ rb_dp κ d252 ∧ rb_rom κ (n.1 + n2.1 + n8.1 + n166.1 + n245.1 + n253.1, n.2 + n2.2 + n8.2 + n166.2 + n245.2 + n253.2) ∧ rb_ob M248 q251 7 ∧ ∀ (o : Outcome) (M256 : rb_H), Q254 o M256 → (∃ (x255 : Int32), o = .returned (some (.int x255)) ∧ ((¬ x255 = 0 → (∃ (v258 : Value), rb_rd M256 a0 0 2 (v258) ∧ rb_isR v258 ∧ (∃ q259, v258 = .ref q259 ∧ (∃ (d260 : Nat) (n261 : Nat × Nat) (Q262 : Outcome → rb_H → Prop), rb_Ct κ.1 yJ4_get wJ4_get d260 n261 [.ref q259, .int a1] M256 Q262 ∧ rb_dp κ d260 ∧ rb_rom κ (n.1 + n2.1 + n8.1 + n166.1 + n245.1 + n253.1 + n261.1, n.2 + n2.2 + n8.2 + n166.2 + n245.2 + n253.2 + n261.2) ∧ rb_ob M256 q259 7 ∧ ∀ (o : Outcome) (M264 : rb_H), Q262 o M264 → (∃ (v263 : Value), o = .returned (some v263) ∧ rb_isR v263 ∧ (∃ q265, v263 = .ref q265 ∧ (∃ ci266, rb_ob M264 q265 ci266 ∧ rb_CC ci266 "RoleLoom$Part" ∧ (rb_rom κ (n.1 + n2.1 + n8.1 + n166.1 + n245.1 + n253.1 + n261.1 + 1, n.2 + n2.2 + n8.2 + n166.2 + n245.2 + n253.2 + n261.2 + 5) ∧ ((¬ a2 = (2 : Int32) → (∃ (ci273 : Nat) (d268 : Nat) (n269 : Nat × Nat) (Q270 : Outcome → rb_H → Prop), rb_Ct κ.1 yX6_init wX6_init d268 n269 [.ref M264.1, .ref q265, .int a2, .int a3, .int a4] (rb_nw M264 (rb_O 6 [.null, .int 0, .int 0, .int 0, .null])) Q270 ∧ rb_dp κ d268 ∧ rb_rom κ (n.1 + n2.1 + n8.1 + n166.1 + n245.1 + n253.1 + n261.1 + 1 + n269.1, n.2 + n2.2 + n8.2 + n166.2 + n245.2 + n253.2 + n261.2 + 5 + n269.2) ∧ rb_ob (rb_nw M264 (rb_O 6 [.null, .int 0, .int 0, .int 0, .null])) M264.1 ci273 ∧ ∀ (o : Outcome) (M272 : rb_H), Q270 o M272 → (o = .returned none ∧ (∃ fs274, M272.2 a0 = some (rb_O 0 fs274) ∧ 6 < fs274.length ∧ ((¬ a2 = 0 → ((¬ a2 = (1 : Int32) → (∃ (v277 : Value), rb_rd (rb_up M272 a0 (rb_O 0 (fs274.set 6 (.ref M264.1)))) a0 0 6 (v277) ∧ rb_isR v277 ∧ (∃ fs278, (rb_up M272 a0 (rb_O 0 (fs274.set 6 (.ref M264.1)))).2 q265 = some (rb_O 5 fs278) ∧ 7 < fs278.length ∧ (rb_fin κ (n.1 + n2.1 + n8.1 + n166.1 + n245.1 + n253.1 + n261.1 + 1 + n269.1, n.2 + n2.2 + n8.2 + n166.2 + n245.2 + n253.2 + n261.2 + 5 + n269.2) ∧ κ.2.2.1 (.returned (some (.int (1 : Int32)))) (rb_up (rb_up M272 a0 (rb_O 0 (fs274.set 6 (.ref M264.1)))) q265 (rb_O 5 (fs278.set 7 v277))))))) ∧ (a2 = (1 : Int32) → (∃ (v279 : Value), rb_rd (rb_up M272 a0 (rb_O 0 (fs274.set 6 (.ref M264.1)))) q265 5 6 (v279) ∧ rb_isR v279 ∧ (∃ (v280 : Value), rb_rd (rb_up M272 a0 (rb_O 0 (fs274.set 6 (.ref M264.1)))) a0 0 6 (v280) ∧ rb_isR v280 ∧ (∃ q281, v279 = .ref q281 ∧ (∃ q282, v280 = .ref q282 ∧ (∃ (t283 N284 ci286 : Nat) (f285 : Nat → Option Nat), (rb_up M272 a0 (rb_O 0 (fs274.set 6 (.ref M264.1)))).2 q281 = some (rb_R t283 N284 f285) ∧ (3 ≤ t283 ∧ t283 ≤ 6) ∧ vp_in a3 N284 ∧ rb_ob (rb_up M272 a0 (rb_O 0 (fs274.set 6 (.ref M264.1)))) q282 ci286 ∧ rb_AS ci286 t283 ∧ (rb_fin κ (n.1 + n2.1 + n8.1 + n166.1 + n245.1 + n253.1 + n261.1 + 1 + n269.1, n.2 + n2.2 + n8.2 + n166.2 + n245.2 + n253.2 + n261.2 + 5 + n269.2) ∧ κ.2.2.1 (.returned (some (.int (1 : Int32)))) (rb_up (rb_up M272 a0 (rb_O 0 (fs274.set 6 (.ref M264.1)))) q281 (rb_R t283 N284 (va_up f285 (a3).toNatClampNeg (some q282))))))))))))) ∧ (a2 = 0 → (∃ (v287 : Value), rb_rd (rb_up M272 a0 (rb_O 0 (fs274.set 6 (.ref M264.1)))) q265 5 5 (v287) ∧ rb_isR v287 ∧ (∃ (v288 : Value), rb_rd (rb_up M272 a0 (rb_O 0 (fs274.set 6 (.ref M264.1)))) a0 0 6 (v288) ∧ rb_isR v288 ∧ (∃ q289, v287 = .ref q289 ∧ (∃ q290, v288 = .ref q290 ∧ (∃ (t291 N292 ci294 : Nat) (f293 : Nat → Option Nat), (rb_up M272 a0 (rb_O 0 (fs274.set 6 (.ref M264.1)))).2 q289 = some (rb_R t291 N292 f293) ∧ (3 ≤ t291 ∧ t291 ≤ 6) ∧ vp_in a3 N292 ∧ rb_ob (rb_up M272 a0 (rb_O 0 (fs274.set 6 (.ref M264.1)))) q290 ci294 ∧ rb_AS ci294 t291 ∧ (rb_fin κ (n.1 + n2.1 + n8.1 + n166.1 + n245.1 + n253.1 + n261.1 + 1 + n269.1, n.2 + n2.2 + n8.2 + n166.2 + n245.2 + n253.2 + n261.2 + 5 + n269.2) ∧ κ.2.2.1 (.returned (some (.int (1 : Int32)))) (rb_up (rb_up M272 a0 (rb_O 0 (fs274.set 6 (.ref M264.1)))) q289 (rb_R t291 N292 (va_up f293 (a3).toNatClampNeg (some q290)))))))))))))))) ∧ (a2 = (2 : Int32) → (∃ (ci300 : Nat) (d295 : Nat) (n296 : Nat × Nat) (Q297 : Outcome → rb_H → Prop), rb_Ct κ.1 yX6_init wX6_init d295 n296 [.ref M264.1, .ref q265, .int a2, .int (-9 : Int32), .int a4] (rb_nw M264 (rb_O 6 [.null, .int 0, .int 0, .int 0, .null])) Q297 ∧ rb_dp κ d295 ∧ rb_rom κ (n.1 + n2.1 + n8.1 + n166.1 + n245.1 + n253.1 + n261.1 + 1 + n296.1, n.2 + n2.2 + n8.2 + n166.2 + n245.2 + n253.2 + n261.2 + 5 + n296.2) ∧ rb_ob (rb_nw M264 (rb_O 6 [.null, .int 0, .int 0, .int 0, .null])) M264.1 ci300 ∧ ∀ (o : Outcome) (M299 : rb_H), Q297 o M299 → (o = .returned none ∧ (∃ fs301, M299.2 a0 = some (rb_O 0 fs301) ∧ 6 < fs301.length ∧ ((¬ a2 = 0 → ((¬ a2 = (1 : Int32) → (∃ (v304 : Value), rb_rd (rb_up M299 a0 (rb_O 0 (fs301.set 6 (.ref M264.1)))) a0 0 6 (v304) ∧ rb_isR v304 ∧ (∃ fs305, (rb_up M299 a0 (rb_O 0 (fs301.set 6 (.ref M264.1)))).2 q265 = some (rb_O 5 fs305) ∧ 7 < fs305.length ∧ (rb_fin κ (n.1 + n2.1 + n8.1 + n166.1 + n245.1 + n253.1 + n261.1 + 1 + n296.1, n.2 + n2.2 + n8.2 + n166.2 + n245.2 + n253.2 + n261.2 + 5 + n296.2) ∧ κ.2.2.1 (.returned (some (.int (1 : Int32)))) (rb_up (rb_up M299 a0 (rb_O 0 (fs301.set 6 (.ref M264.1)))) q265 (rb_O 5 (fs305.set 7 v304))))))) ∧ (a2 = (1 : Int32) → (∃ (v306 : Value), rb_rd (rb_up M299 a0 (rb_O 0 (fs301.set 6 (.ref M264.1)))) q265 5 6 (v306) ∧ rb_isR v306 ∧ (∃ (v307 : Value), rb_rd (rb_up M299 a0 (rb_O 0 (fs301.set 6 (.ref M264.1)))) a0 0 6 (v307) ∧ rb_isR v307 ∧ (∃ q308, v306 = .ref q308 ∧ (∃ q309, v307 = .ref q309 ∧ (∃ (t310 N311 ci313 : Nat) (f312 : Nat → Option Nat), (rb_up M299 a0 (rb_O 0 (fs301.set 6 (.ref M264.1)))).2 q308 = some (rb_R t310 N311 f312) ∧ (3 ≤ t310 ∧ t310 ≤ 6) ∧ vp_in a3 N311 ∧ rb_ob (rb_up M299 a0 (rb_O 0 (fs301.set 6 (.ref M264.1)))) q309 ci313 ∧ rb_AS ci313 t310 ∧ (rb_fin κ (n.1 + n2.1 + n8.1 + n166.1 + n245.1 + n253.1 + n261.1 + 1 + n296.1, n.2 + n2.2 + n8.2 + n166.2 + n245.2 + n253.2 + n261.2 + 5 + n296.2) ∧ κ.2.2.1 (.returned (some (.int (1 : Int32)))) (rb_up (rb_up M299 a0 (rb_O 0 (fs301.set 6 (.ref M264.1)))) q308 (rb_R t310 N311 (va_up f312 (a3).toNatClampNeg (some q309))))))))))))) ∧ (a2 = 0 → (∃ (v314 : Value), rb_rd (rb_up M299 a0 (rb_O 0 (fs301.set 6 (.ref M264.1)))) q265 5 5 (v314) ∧ rb_isR v314 ∧ (∃ (v315 : Value), rb_rd (rb_up M299 a0 (rb_O 0 (fs301.set 6 (.ref M264.1)))) a0 0 6 (v315) ∧ rb_isR v315 ∧ (∃ q316, v314 = .ref q316 ∧ (∃ q317, v315 = .ref q317 ∧ (∃ (t318 N319 ci321 : Nat) (f320 : Nat → Option Nat), (rb_up M299 a0 (rb_O 0 (fs301.set 6 (.ref M264.1)))).2 q316 = some (rb_R t318 N319 f320) ∧ (3 ≤ t318 ∧ t318 ≤ 6) ∧ vp_in a3 N319 ∧ rb_ob (rb_up M299 a0 (rb_O 0 (fs301.set 6 (.ref M264.1)))) q317 ci321 ∧ rb_AS ci321 t318 ∧ (rb_fin κ (n.1 + n2.1 + n8.1 + n166.1 + n245.1 + n253.1 + n261.1 + 1 + n296.1, n.2 + n2.2 + n8.2 + n166.2 + n245.2 + n253.2 + n261.2 + 5 + n296.2) ∧ κ.2.2.1 (.returned (some (.int (1 : Int32)))) (rb_up (rb_up M299 a0 (rb_O 0 (fs301.set 6 (.ref M264.1)))) q316 (rb_R t318 N319 (va_up f320 (a3).toNatClampNeg (some q317))))))))))))))))))))))))) ∧ (x255 = 0 → (rb_fin κ (n.1 + n2.1 + n8.1 + n166.1 + n245.1 + n253.1, n.2 + n2.2 + n8.2 + n166.2 + n245.2 + n253.2) ∧ κ.2.2.1 (.returned (some (.int (-4 : Int32)))) M256)))))))) ∧ (x247 = 0 → (rb_fin κ (n.1 + n2.1 + n8.1 + n166.1 + n245.1, n.2 + n2.2 + n8.2 + n166.2 + n245.2) ∧ κ.2.2.1 (.returned (some (.int (-1 : Int32)))) M248)))))))))))))))))))))) : rb_Bd κ mX0_body n M 0 [some (.ref a0), some (.int a1), some (.int a2), some (.int a3), some (.int a4), none] [] := by
  refine rb_aload_n 0 rfl rfl (rb_isR_ref _) dX0_body_0 ?_
  refine rb_iload_n 1 rfl rfl dX0_body_1 ?_
  obtain ⟨d1, n2, Q3, h1x4, hdx4, hnx4, hox4, Kx4⟩ := K
  refine rb_call st_X0_214_0 (rest := []) h1x4 rfl rfl (rc_rc rfl hox4) (Nat.le_of_ble_eq_true rfl) hdx4.1 hdx4.2 hnx4.1 hnx4.2 dX0_body_2 (fun o M5 hpx4 => ?_)
  obtain ⟨x4, eo, KKx4⟩ := Kx4 o M5 hpx4
  subst eo
  show rb_Bd κ mX0_body (n.1 + n2.1, n.2 + n2.2) M5 5 [some (.ref a0), some (.int a1), some (.int a2), some (.int a3), some (.int a4), none] [.int x4]
  refine rb_ifeq 50 (by decide) dX0_body_5 (fun c6 => ?_) (fun c6 => ?_)
  · skip
    refine rb_iconst (v := (-1 : Int32)) (by decide) dX0_body_50 ?_
    exact rb_iret rfl rfl (((KKx4).1 c6)).1.1 (((KKx4).1 c6)).1.2 dX0_body_51 (((KKx4).1 c6)).2
  · skip
    refine rb_iload_n 2 rfl rfl dX0_body_8 ?_
    refine rb_iconst (v := (0 : Int32)) (by decide) dX0_body_9 ?_
    refine rb_iconst (v := (2 : Int32)) (by decide) dX0_body_10 ?_
    obtain ⟨d7, n8, Q9, h1x10, hdx10, hnx10, Kx10⟩ := ((KKx4).2 c6)
    refine rb_call st_X0_45 (rest := []) h1x10 rfl rfl mm_rn (Nat.le_of_ble_eq_true rfl) hdx10.1 hdx10.2 hnx10.1 hnx10.2 dX0_body_11 (fun o M11 hpx10 => ?_)
    obtain ⟨x10, eo, KKx10⟩ := Kx10 o M11 hpx10
    subst eo
    show rb_Bd κ mX0_body (n.1 + n2.1 + n8.1, n.2 + n2.2 + n8.2) M11 14 [some (.ref a0), some (.int a1), some (.int a2), some (.int a3), some (.int a4), none] [.int x10]
    refine rb_ifeq 50 (by decide) dX0_body_14 (fun c12 => ?_) (fun c12 => ?_)
    · skip
      refine rb_iconst (v := (-1 : Int32)) (by decide) dX0_body_50 ?_
      exact rb_iret rfl rfl (((KKx10).1 c12)).1.1 (((KKx10).1 c12)).1.2 dX0_body_51 (((KKx10).1 c12)).2
    · skip
      refine rb_iload_n 2 rfl rfl dX0_body_17 ?_
      refine rb_iconst (v := (2 : Int32)) (by decide) dX0_body_18 ?_
      refine rb_icge 32 (by decide) dX0_body_19 (fun c13 => ?_) (fun c13 => ?_)
      · skip
        refine rb_iload rfl dX0_body_32 ?_
        refine rb_bipush (v := (-9 : Int32)) (by decide) dX0_body_34 ?_
        refine rb_iceq 52 (by decide) dX0_body_36 (fun c14 => ?_) (fun c14 => ?_)
        · skip
          refine rb_aload_n 0 rfl rfl (rb_isR_ref _) dX0_body_52 ?_
          obtain ⟨v15, hrv15, hv15, Kv15⟩ := ((((((KKx10).2 c12)).1 c13)).1 c14)
          refine rc_get fl_X0_136_0 hrv15 dX0_body_53 ?_
          obtain ⟨q16, eq16, Kq16⟩ := Kv15
          subst eq16
          obtain ⟨d17, n18, Q19, h1x20, hdx20, hnx20, hox20, Kx20⟩ := Kq16
          refine rb_call st_X0_228_7 (rest := []) h1x20 rfl rfl (rc_rc rfl hox20) (Nat.le_of_ble_eq_true rfl) hdx20.1 hdx20.2 hnx20.1 hnx20.2 dX0_body_56 (fun o M21 hpx20 => ?_)
          obtain ⟨x20, eo, KKx20⟩ := Kx20 o M21 hpx20
          subst eo
          show rb_Bd κ mX0_body (n.1 + n2.1 + n8.1 + n18.1, n.2 + n2.2 + n8.2 + n18.2) M21 59 [some (.ref a0), some (.int a1), some (.int a2), some (.int a3), some (.int a4), none] [.int x20]
          refine rb_ifne 65 (by decide) dX0_body_59 (fun c22 => ?_) (fun c22 => ?_)
          · skip
            refine rb_aload_n 0 rfl rfl (rb_isR_ref _) dX0_body_65 ?_
            obtain ⟨v23, hrv23, hv23, Kv23⟩ := ((KKx20).1 c22)
            refine rc_get fl_X0_125_0 hrv23 dX0_body_66 ?_
            refine rb_iload_n 1 rfl rfl dX0_body_69 ?_
            obtain ⟨q24, eq24, Kq24⟩ := Kv23
            subst eq24
            obtain ⟨d25, n26, Q27, h1v28, hdv28, hnv28, hov28, Kv28⟩ := Kq24
            refine rb_call st_X0_218_7 (rest := []) h1v28 rfl rfl (rc_rc rfl hov28) (Nat.le_of_ble_eq_true rfl) hdv28.1 hdv28.2 hnv28.1 hnv28.2 dX0_body_70 (fun o M29 hpv28 => ?_)
            obtain ⟨v28, eo, hv28, KKv28⟩ := Kv28 o M29 hpv28
            subst eo
            show rb_Bd κ mX0_body (n.1 + n2.1 + n8.1 + n18.1 + n26.1, n.2 + n2.2 + n8.2 + n18.2 + n26.2) M29 73 [some (.ref a0), some (.int a1), some (.int a2), some (.int a3), some (.int a4), none] [v28]
            obtain ⟨q30, eq30, Kq30⟩ := KKv28
            subst eq30
            obtain ⟨ci31, ⟨fsci31, hoci31⟩, hcci31, Kci31⟩ := Kq30
            refine rb_cast q416 hoci31 hcci31 dX0_body_73 ?_
            refine rb_astore (ls' := [some (.ref a0), some (.int a1), some (.int a2), some (.int a3), some (.int a4), some (.ref q30)]) (by decide) rfl rfl (rb_isR_ref _) dX0_body_76 ?_
            refine rb_aload_n 0 rfl rfl (rb_isR_ref _) dX0_body_78 ?_
            refine rb_new nw_X0_24 (fs := [.null, .int 0, .int 0, .int 0, .null]) rfl (Kci31).1.1 (Kci31).1.2 dX0_body_79 ?_
            show rb_Bd κ mX0_body (n.1 + n2.1 + n8.1 + n18.1 + n26.1 + 1, n.2 + n2.2 + n8.2 + n18.2 + n26.2 + 5) (rb_nw M29 (rb_O 6 [.null, .int 0, .int 0, .int 0, .null])) 82 [some (.ref a0), some (.int a1), some (.int a2), some (.int a3), some (.int a4), some (.ref q30)] [.ref M29.1, .ref a0]
            refine rb_dup rfl dX0_body_82 ?_
            refine rb_aload rfl (rb_isR_ref _) dX0_body_83 ?_
            refine rb_iload_n 2 rfl rfl dX0_body_85 ?_
            refine rb_iload_n 2 rfl rfl dX0_body_86 ?_
            refine rb_iconst (v := (2 : Int32)) (by decide) dX0_body_87 ?_
            refine rb_icne 96 (by decide) dX0_body_88 (fun c32 => ?_) (fun c32 => ?_)
            · skip
              refine rb_iload_n 3 rfl rfl dX0_body_96 ?_
              refine rb_iload rfl dX0_body_97 ?_
              obtain ⟨ci38, d33, n34, Q35, h1v36, hdv36, hnv36, hov36, Kv36⟩ := (((Kci31).2).1 c32)
              refine rb_call (st_X0_235 ci38) (rest := [.ref M29.1, .ref a0]) h1v36 rfl rfl (rc_rc rfl hov36) (Nat.le_of_ble_eq_true rfl) hdv36.1 hdv36.2 hnv36.1 hnv36.2 dX0_body_99 (fun o M37 hpv36 => ?_)
              obtain ⟨eo, KKv36⟩ := Kv36 o M37 hpv36
              subst eo
              show rb_Bd κ mX0_body (n.1 + n2.1 + n8.1 + n18.1 + n26.1 + 1 + n34.1, n.2 + n2.2 + n8.2 + n18.2 + n26.2 + 5 + n34.2) M37 102 [some (.ref a0), some (.int a1), some (.int a2), some (.int a3), some (.int a4), some (.ref q30)] [.ref M29.1, .ref a0]
              obtain ⟨fs39, hMfs39, hlfs39, Kfs39⟩ := KKv36
              refine rb_put fl_X0_238_0 (fun q hq => by cases hq; exact Or.inl rfl) (rb_nfR (rb_isR_ref _) _).1 (rb_nfR (rb_isR_ref _) _).2 hMfs39 hlfs39 dX0_body_102 ?_
              refine rb_iload_n 2 rfl rfl dX0_body_105 ?_
              refine rb_ifne 123 (by decide) dX0_body_106 (fun c40 => ?_) (fun c40 => ?_)
              · skip
                refine rb_iload_n 2 rfl rfl dX0_body_123 ?_
                refine rb_iconst (v := (1 : Int32)) (by decide) dX0_body_124 ?_
                refine rb_icne 142 (by decide) dX0_body_125 (fun c41 => ?_) (fun c41 => ?_)
                · skip
                  refine rb_aload rfl (rb_isR_ref _) dX0_body_142 ?_
                  refine rb_aload_n 0 rfl rfl (rb_isR_ref _) dX0_body_144 ?_
                  obtain ⟨v42, hrv42, hv42, Kv42⟩ := ((((Kfs39).1 c40)).1 c41)
                  refine rc_get fl_X0_238_0 hrv42 dX0_body_145 ?_
                  obtain ⟨fs43, hMfs43, hlfs43, Kfs43⟩ := Kv42
                  refine rb_put fl_X0_247_5 (fun q hq => by cases hq; exact Or.inl rfl) (rb_nfR hv42 _).1 (rb_nfR hv42 _).2 hMfs43 hlfs43 dX0_body_148 ?_
                  refine rb_iconst (v := (1 : Int32)) (by decide) dX0_body_151 ?_
                  exact rb_iret rfl rfl (Kfs43).1.1 (Kfs43).1.2 dX0_body_152 (Kfs43).2
                · skip
                  refine rb_aload rfl (rb_isR_ref _) dX0_body_128 ?_
                  obtain ⟨v44, hrv44, hv44, Kv44⟩ := ((((Kfs39).1 c40)).2 c41)
                  refine rc_get fl_X0_244_5 hrv44 dX0_body_130 ?_
                  refine rb_iload_n 3 rfl rfl dX0_body_133 ?_
                  refine rb_aload_n 0 rfl rfl (rb_isR_ref _) dX0_body_134 ?_
                  obtain ⟨v45, hrv45, hv45, Kv45⟩ := Kv44
                  refine rc_get fl_X0_238_0 hrv45 dX0_body_135 ?_
                  obtain ⟨q46, eq46, Kq46⟩ := Kv45
                  subst eq46
                  obtain ⟨q47, eq47, Kq47⟩ := Kq46
                  subst eq47
                  obtain ⟨t48, N49, ci51, f50, hMf50, htf50, hif50, ⟨fsf50, hof50⟩, haf50, Kf50⟩ := Kq47
                  refine rb_aast hMf50 htf50.1 htf50.2 hof50 haf50 hif50 dX0_body_138 ?_
                  refine rb_goto 151 (by decide) dX0_body_139 ?_
                  refine rb_iconst (v := (1 : Int32)) (by decide) dX0_body_151 ?_
                  exact rb_iret rfl rfl (Kf50).1.1 (Kf50).1.2 dX0_body_152 (Kf50).2
              · skip
                refine rb_aload rfl (rb_isR_ref _) dX0_body_109 ?_
                obtain ⟨v52, hrv52, hv52, Kv52⟩ := ((Kfs39).2 c40)
                refine rc_get fl_X0_241_5 hrv52 dX0_body_111 ?_
                refine rb_iload_n 3 rfl rfl dX0_body_114 ?_
                refine rb_aload_n 0 rfl rfl (rb_isR_ref _) dX0_body_115 ?_
                obtain ⟨v53, hrv53, hv53, Kv53⟩ := Kv52
                refine rc_get fl_X0_238_0 hrv53 dX0_body_116 ?_
                obtain ⟨q54, eq54, Kq54⟩ := Kv53
                subst eq54
                obtain ⟨q55, eq55, Kq55⟩ := Kq54
                subst eq55
                obtain ⟨t56, N57, ci59, f58, hMf58, htf58, hif58, ⟨fsf58, hof58⟩, haf58, Kf58⟩ := Kq55
                refine rb_aast hMf58 htf58.1 htf58.2 hof58 haf58 hif58 dX0_body_119 ?_
                refine rb_goto 151 (by decide) dX0_body_120 ?_
                refine rb_iconst (v := (1 : Int32)) (by decide) dX0_body_151 ?_
                exact rb_iret rfl rfl (Kf58).1.1 (Kf58).1.2 dX0_body_152 (Kf58).2
            · skip
              refine rb_bipush (v := (-9 : Int32)) (by decide) dX0_body_91 ?_
              refine rb_goto 97 (by decide) dX0_body_93 ?_
              refine rb_iload rfl dX0_body_97 ?_
              obtain ⟨ci65, d60, n61, Q62, h1v63, hdv63, hnv63, hov63, Kv63⟩ := (((Kci31).2).2 c32)
              refine rb_call (st_X0_235 ci65) (rest := [.ref M29.1, .ref a0]) h1v63 rfl rfl (rc_rc rfl hov63) (Nat.le_of_ble_eq_true rfl) hdv63.1 hdv63.2 hnv63.1 hnv63.2 dX0_body_99 (fun o M64 hpv63 => ?_)
              obtain ⟨eo, KKv63⟩ := Kv63 o M64 hpv63
              subst eo
              show rb_Bd κ mX0_body (n.1 + n2.1 + n8.1 + n18.1 + n26.1 + 1 + n61.1, n.2 + n2.2 + n8.2 + n18.2 + n26.2 + 5 + n61.2) M64 102 [some (.ref a0), some (.int a1), some (.int a2), some (.int a3), some (.int a4), some (.ref q30)] [.ref M29.1, .ref a0]
              obtain ⟨fs66, hMfs66, hlfs66, Kfs66⟩ := KKv63
              refine rb_put fl_X0_238_0 (fun q hq => by cases hq; exact Or.inl rfl) (rb_nfR (rb_isR_ref _) _).1 (rb_nfR (rb_isR_ref _) _).2 hMfs66 hlfs66 dX0_body_102 ?_
              refine rb_iload_n 2 rfl rfl dX0_body_105 ?_
              refine rb_ifne 123 (by decide) dX0_body_106 (fun c67 => ?_) (fun c67 => ?_)
              · skip
                refine rb_iload_n 2 rfl rfl dX0_body_123 ?_
                refine rb_iconst (v := (1 : Int32)) (by decide) dX0_body_124 ?_
                refine rb_icne 142 (by decide) dX0_body_125 (fun c68 => ?_) (fun c68 => ?_)
                · skip
                  refine rb_aload rfl (rb_isR_ref _) dX0_body_142 ?_
                  refine rb_aload_n 0 rfl rfl (rb_isR_ref _) dX0_body_144 ?_
                  obtain ⟨v69, hrv69, hv69, Kv69⟩ := ((((Kfs66).1 c67)).1 c68)
                  refine rc_get fl_X0_238_0 hrv69 dX0_body_145 ?_
                  obtain ⟨fs70, hMfs70, hlfs70, Kfs70⟩ := Kv69
                  refine rb_put fl_X0_247_5 (fun q hq => by cases hq; exact Or.inl rfl) (rb_nfR hv69 _).1 (rb_nfR hv69 _).2 hMfs70 hlfs70 dX0_body_148 ?_
                  refine rb_iconst (v := (1 : Int32)) (by decide) dX0_body_151 ?_
                  exact rb_iret rfl rfl (Kfs70).1.1 (Kfs70).1.2 dX0_body_152 (Kfs70).2
                · skip
                  refine rb_aload rfl (rb_isR_ref _) dX0_body_128 ?_
                  obtain ⟨v71, hrv71, hv71, Kv71⟩ := ((((Kfs66).1 c67)).2 c68)
                  refine rc_get fl_X0_244_5 hrv71 dX0_body_130 ?_
                  refine rb_iload_n 3 rfl rfl dX0_body_133 ?_
                  refine rb_aload_n 0 rfl rfl (rb_isR_ref _) dX0_body_134 ?_
                  obtain ⟨v72, hrv72, hv72, Kv72⟩ := Kv71
                  refine rc_get fl_X0_238_0 hrv72 dX0_body_135 ?_
                  obtain ⟨q73, eq73, Kq73⟩ := Kv72
                  subst eq73
                  obtain ⟨q74, eq74, Kq74⟩ := Kq73
                  subst eq74
                  obtain ⟨t75, N76, ci78, f77, hMf77, htf77, hif77, ⟨fsf77, hof77⟩, haf77, Kf77⟩ := Kq74
                  refine rb_aast hMf77 htf77.1 htf77.2 hof77 haf77 hif77 dX0_body_138 ?_
                  refine rb_goto 151 (by decide) dX0_body_139 ?_
                  refine rb_iconst (v := (1 : Int32)) (by decide) dX0_body_151 ?_
                  exact rb_iret rfl rfl (Kf77).1.1 (Kf77).1.2 dX0_body_152 (Kf77).2
              · skip
                refine rb_aload rfl (rb_isR_ref _) dX0_body_109 ?_
                obtain ⟨v79, hrv79, hv79, Kv79⟩ := ((Kfs66).2 c67)
                refine rc_get fl_X0_241_5 hrv79 dX0_body_111 ?_
                refine rb_iload_n 3 rfl rfl dX0_body_114 ?_
                refine rb_aload_n 0 rfl rfl (rb_isR_ref _) dX0_body_115 ?_
                obtain ⟨v80, hrv80, hv80, Kv80⟩ := Kv79
                refine rc_get fl_X0_238_0 hrv80 dX0_body_116 ?_
                obtain ⟨q81, eq81, Kq81⟩ := Kv80
                subst eq81
                obtain ⟨q82, eq82, Kq82⟩ := Kq81
                subst eq82
                obtain ⟨t83, N84, ci86, f85, hMf85, htf85, hif85, ⟨fsf85, hof85⟩, haf85, Kf85⟩ := Kq82
                refine rb_aast hMf85 htf85.1 htf85.2 hof85 haf85 hif85 dX0_body_119 ?_
                refine rb_goto 151 (by decide) dX0_body_120 ?_
                refine rb_iconst (v := (1 : Int32)) (by decide) dX0_body_151 ?_
                exact rb_iret rfl rfl (Kf85).1.1 (Kf85).1.2 dX0_body_152 (Kf85).2
          · skip
            refine rb_bipush (v := (-4 : Int32)) (by decide) dX0_body_62 ?_
            exact rb_iret rfl rfl (((KKx20).2 c22)).1.1 (((KKx20).2 c22)).1.2 dX0_body_64 (((KKx20).2 c22)).2
        · skip
          refine rb_iload rfl dX0_body_39 ?_
          refine rb_iconst (v := (0 : Int32)) (by decide) dX0_body_41 ?_
          refine rb_bipush (v := (16 : Int32)) (by decide) dX0_body_42 ?_
          obtain ⟨d87, n88, Q89, h1x90, hdx90, hnx90, Kx90⟩ := ((((((KKx10).2 c12)).1 c13)).2 c14)
          refine rb_call st_X0_45 (rest := []) h1x90 rfl rfl mm_rn (Nat.le_of_ble_eq_true rfl) hdx90.1 hdx90.2 hnx90.1 hnx90.2 dX0_body_44 (fun o M91 hpx90 => ?_)
          obtain ⟨x90, eo, KKx90⟩ := Kx90 o M91 hpx90
          subst eo
          show rb_Bd κ mX0_body (n.1 + n2.1 + n8.1 + n88.1, n.2 + n2.2 + n8.2 + n88.2) M91 47 [some (.ref a0), some (.int a1), some (.int a2), some (.int a3), some (.int a4), none] [.int x90]
          refine rb_ifne 52 (by decide) dX0_body_47 (fun c92 => ?_) (fun c92 => ?_)
          · skip
            refine rb_aload_n 0 rfl rfl (rb_isR_ref _) dX0_body_52 ?_
            obtain ⟨v93, hrv93, hv93, Kv93⟩ := ((KKx90).1 c92)
            refine rc_get fl_X0_136_0 hrv93 dX0_body_53 ?_
            obtain ⟨q94, eq94, Kq94⟩ := Kv93
            subst eq94
            obtain ⟨d95, n96, Q97, h1x98, hdx98, hnx98, hox98, Kx98⟩ := Kq94
            refine rb_call st_X0_228_7 (rest := []) h1x98 rfl rfl (rc_rc rfl hox98) (Nat.le_of_ble_eq_true rfl) hdx98.1 hdx98.2 hnx98.1 hnx98.2 dX0_body_56 (fun o M99 hpx98 => ?_)
            obtain ⟨x98, eo, KKx98⟩ := Kx98 o M99 hpx98
            subst eo
            show rb_Bd κ mX0_body (n.1 + n2.1 + n8.1 + n88.1 + n96.1, n.2 + n2.2 + n8.2 + n88.2 + n96.2) M99 59 [some (.ref a0), some (.int a1), some (.int a2), some (.int a3), some (.int a4), none] [.int x98]
            refine rb_ifne 65 (by decide) dX0_body_59 (fun c100 => ?_) (fun c100 => ?_)
            · skip
              refine rb_aload_n 0 rfl rfl (rb_isR_ref _) dX0_body_65 ?_
              obtain ⟨v101, hrv101, hv101, Kv101⟩ := ((KKx98).1 c100)
              refine rc_get fl_X0_125_0 hrv101 dX0_body_66 ?_
              refine rb_iload_n 1 rfl rfl dX0_body_69 ?_
              obtain ⟨q102, eq102, Kq102⟩ := Kv101
              subst eq102
              obtain ⟨d103, n104, Q105, h1v106, hdv106, hnv106, hov106, Kv106⟩ := Kq102
              refine rb_call st_X0_218_7 (rest := []) h1v106 rfl rfl (rc_rc rfl hov106) (Nat.le_of_ble_eq_true rfl) hdv106.1 hdv106.2 hnv106.1 hnv106.2 dX0_body_70 (fun o M107 hpv106 => ?_)
              obtain ⟨v106, eo, hv106, KKv106⟩ := Kv106 o M107 hpv106
              subst eo
              show rb_Bd κ mX0_body (n.1 + n2.1 + n8.1 + n88.1 + n96.1 + n104.1, n.2 + n2.2 + n8.2 + n88.2 + n96.2 + n104.2) M107 73 [some (.ref a0), some (.int a1), some (.int a2), some (.int a3), some (.int a4), none] [v106]
              obtain ⟨q108, eq108, Kq108⟩ := KKv106
              subst eq108
              obtain ⟨ci109, ⟨fsci109, hoci109⟩, hcci109, Kci109⟩ := Kq108
              refine rb_cast q416 hoci109 hcci109 dX0_body_73 ?_
              refine rb_astore (ls' := [some (.ref a0), some (.int a1), some (.int a2), some (.int a3), some (.int a4), some (.ref q108)]) (by decide) rfl rfl (rb_isR_ref _) dX0_body_76 ?_
              refine rb_aload_n 0 rfl rfl (rb_isR_ref _) dX0_body_78 ?_
              refine rb_new nw_X0_24 (fs := [.null, .int 0, .int 0, .int 0, .null]) rfl (Kci109).1.1 (Kci109).1.2 dX0_body_79 ?_
              show rb_Bd κ mX0_body (n.1 + n2.1 + n8.1 + n88.1 + n96.1 + n104.1 + 1, n.2 + n2.2 + n8.2 + n88.2 + n96.2 + n104.2 + 5) (rb_nw M107 (rb_O 6 [.null, .int 0, .int 0, .int 0, .null])) 82 [some (.ref a0), some (.int a1), some (.int a2), some (.int a3), some (.int a4), some (.ref q108)] [.ref M107.1, .ref a0]
              refine rb_dup rfl dX0_body_82 ?_
              refine rb_aload rfl (rb_isR_ref _) dX0_body_83 ?_
              refine rb_iload_n 2 rfl rfl dX0_body_85 ?_
              refine rb_iload_n 2 rfl rfl dX0_body_86 ?_
              refine rb_iconst (v := (2 : Int32)) (by decide) dX0_body_87 ?_
              refine rb_icne 96 (by decide) dX0_body_88 (fun c110 => ?_) (fun c110 => ?_)
              · skip
                refine rb_iload_n 3 rfl rfl dX0_body_96 ?_
                refine rb_iload rfl dX0_body_97 ?_
                obtain ⟨ci116, d111, n112, Q113, h1v114, hdv114, hnv114, hov114, Kv114⟩ := (((Kci109).2).1 c110)
                refine rb_call (st_X0_235 ci116) (rest := [.ref M107.1, .ref a0]) h1v114 rfl rfl (rc_rc rfl hov114) (Nat.le_of_ble_eq_true rfl) hdv114.1 hdv114.2 hnv114.1 hnv114.2 dX0_body_99 (fun o M115 hpv114 => ?_)
                obtain ⟨eo, KKv114⟩ := Kv114 o M115 hpv114
                subst eo
                show rb_Bd κ mX0_body (n.1 + n2.1 + n8.1 + n88.1 + n96.1 + n104.1 + 1 + n112.1, n.2 + n2.2 + n8.2 + n88.2 + n96.2 + n104.2 + 5 + n112.2) M115 102 [some (.ref a0), some (.int a1), some (.int a2), some (.int a3), some (.int a4), some (.ref q108)] [.ref M107.1, .ref a0]
                obtain ⟨fs117, hMfs117, hlfs117, Kfs117⟩ := KKv114
                refine rb_put fl_X0_238_0 (fun q hq => by cases hq; exact Or.inl rfl) (rb_nfR (rb_isR_ref _) _).1 (rb_nfR (rb_isR_ref _) _).2 hMfs117 hlfs117 dX0_body_102 ?_
                refine rb_iload_n 2 rfl rfl dX0_body_105 ?_
                refine rb_ifne 123 (by decide) dX0_body_106 (fun c118 => ?_) (fun c118 => ?_)
                · skip
                  refine rb_iload_n 2 rfl rfl dX0_body_123 ?_
                  refine rb_iconst (v := (1 : Int32)) (by decide) dX0_body_124 ?_
                  refine rb_icne 142 (by decide) dX0_body_125 (fun c119 => ?_) (fun c119 => ?_)
                  · skip
                    refine rb_aload rfl (rb_isR_ref _) dX0_body_142 ?_
                    refine rb_aload_n 0 rfl rfl (rb_isR_ref _) dX0_body_144 ?_
                    obtain ⟨v120, hrv120, hv120, Kv120⟩ := ((((Kfs117).1 c118)).1 c119)
                    refine rc_get fl_X0_238_0 hrv120 dX0_body_145 ?_
                    obtain ⟨fs121, hMfs121, hlfs121, Kfs121⟩ := Kv120
                    refine rb_put fl_X0_247_5 (fun q hq => by cases hq; exact Or.inl rfl) (rb_nfR hv120 _).1 (rb_nfR hv120 _).2 hMfs121 hlfs121 dX0_body_148 ?_
                    refine rb_iconst (v := (1 : Int32)) (by decide) dX0_body_151 ?_
                    exact rb_iret rfl rfl (Kfs121).1.1 (Kfs121).1.2 dX0_body_152 (Kfs121).2
                  · skip
                    refine rb_aload rfl (rb_isR_ref _) dX0_body_128 ?_
                    obtain ⟨v122, hrv122, hv122, Kv122⟩ := ((((Kfs117).1 c118)).2 c119)
                    refine rc_get fl_X0_244_5 hrv122 dX0_body_130 ?_
                    refine rb_iload_n 3 rfl rfl dX0_body_133 ?_
                    refine rb_aload_n 0 rfl rfl (rb_isR_ref _) dX0_body_134 ?_
                    obtain ⟨v123, hrv123, hv123, Kv123⟩ := Kv122
                    refine rc_get fl_X0_238_0 hrv123 dX0_body_135 ?_
                    obtain ⟨q124, eq124, Kq124⟩ := Kv123
                    subst eq124
                    obtain ⟨q125, eq125, Kq125⟩ := Kq124
                    subst eq125
                    obtain ⟨t126, N127, ci129, f128, hMf128, htf128, hif128, ⟨fsf128, hof128⟩, haf128, Kf128⟩ := Kq125
                    refine rb_aast hMf128 htf128.1 htf128.2 hof128 haf128 hif128 dX0_body_138 ?_
                    refine rb_goto 151 (by decide) dX0_body_139 ?_
                    refine rb_iconst (v := (1 : Int32)) (by decide) dX0_body_151 ?_
                    exact rb_iret rfl rfl (Kf128).1.1 (Kf128).1.2 dX0_body_152 (Kf128).2
                · skip
                  refine rb_aload rfl (rb_isR_ref _) dX0_body_109 ?_
                  obtain ⟨v130, hrv130, hv130, Kv130⟩ := ((Kfs117).2 c118)
                  refine rc_get fl_X0_241_5 hrv130 dX0_body_111 ?_
                  refine rb_iload_n 3 rfl rfl dX0_body_114 ?_
                  refine rb_aload_n 0 rfl rfl (rb_isR_ref _) dX0_body_115 ?_
                  obtain ⟨v131, hrv131, hv131, Kv131⟩ := Kv130
                  refine rc_get fl_X0_238_0 hrv131 dX0_body_116 ?_
                  obtain ⟨q132, eq132, Kq132⟩ := Kv131
                  subst eq132
                  obtain ⟨q133, eq133, Kq133⟩ := Kq132
                  subst eq133
                  obtain ⟨t134, N135, ci137, f136, hMf136, htf136, hif136, ⟨fsf136, hof136⟩, haf136, Kf136⟩ := Kq133
                  refine rb_aast hMf136 htf136.1 htf136.2 hof136 haf136 hif136 dX0_body_119 ?_
                  refine rb_goto 151 (by decide) dX0_body_120 ?_
                  refine rb_iconst (v := (1 : Int32)) (by decide) dX0_body_151 ?_
                  exact rb_iret rfl rfl (Kf136).1.1 (Kf136).1.2 dX0_body_152 (Kf136).2
              · skip
                refine rb_bipush (v := (-9 : Int32)) (by decide) dX0_body_91 ?_
                refine rb_goto 97 (by decide) dX0_body_93 ?_
                refine rb_iload rfl dX0_body_97 ?_
                obtain ⟨ci143, d138, n139, Q140, h1v141, hdv141, hnv141, hov141, Kv141⟩ := (((Kci109).2).2 c110)
                refine rb_call (st_X0_235 ci143) (rest := [.ref M107.1, .ref a0]) h1v141 rfl rfl (rc_rc rfl hov141) (Nat.le_of_ble_eq_true rfl) hdv141.1 hdv141.2 hnv141.1 hnv141.2 dX0_body_99 (fun o M142 hpv141 => ?_)
                obtain ⟨eo, KKv141⟩ := Kv141 o M142 hpv141
                subst eo
                show rb_Bd κ mX0_body (n.1 + n2.1 + n8.1 + n88.1 + n96.1 + n104.1 + 1 + n139.1, n.2 + n2.2 + n8.2 + n88.2 + n96.2 + n104.2 + 5 + n139.2) M142 102 [some (.ref a0), some (.int a1), some (.int a2), some (.int a3), some (.int a4), some (.ref q108)] [.ref M107.1, .ref a0]
                obtain ⟨fs144, hMfs144, hlfs144, Kfs144⟩ := KKv141
                refine rb_put fl_X0_238_0 (fun q hq => by cases hq; exact Or.inl rfl) (rb_nfR (rb_isR_ref _) _).1 (rb_nfR (rb_isR_ref _) _).2 hMfs144 hlfs144 dX0_body_102 ?_
                refine rb_iload_n 2 rfl rfl dX0_body_105 ?_
                refine rb_ifne 123 (by decide) dX0_body_106 (fun c145 => ?_) (fun c145 => ?_)
                · skip
                  refine rb_iload_n 2 rfl rfl dX0_body_123 ?_
                  refine rb_iconst (v := (1 : Int32)) (by decide) dX0_body_124 ?_
                  refine rb_icne 142 (by decide) dX0_body_125 (fun c146 => ?_) (fun c146 => ?_)
                  · skip
                    refine rb_aload rfl (rb_isR_ref _) dX0_body_142 ?_
                    refine rb_aload_n 0 rfl rfl (rb_isR_ref _) dX0_body_144 ?_
                    obtain ⟨v147, hrv147, hv147, Kv147⟩ := ((((Kfs144).1 c145)).1 c146)
                    refine rc_get fl_X0_238_0 hrv147 dX0_body_145 ?_
                    obtain ⟨fs148, hMfs148, hlfs148, Kfs148⟩ := Kv147
                    refine rb_put fl_X0_247_5 (fun q hq => by cases hq; exact Or.inl rfl) (rb_nfR hv147 _).1 (rb_nfR hv147 _).2 hMfs148 hlfs148 dX0_body_148 ?_
                    refine rb_iconst (v := (1 : Int32)) (by decide) dX0_body_151 ?_
                    exact rb_iret rfl rfl (Kfs148).1.1 (Kfs148).1.2 dX0_body_152 (Kfs148).2
                  · skip
                    refine rb_aload rfl (rb_isR_ref _) dX0_body_128 ?_
                    obtain ⟨v149, hrv149, hv149, Kv149⟩ := ((((Kfs144).1 c145)).2 c146)
                    refine rc_get fl_X0_244_5 hrv149 dX0_body_130 ?_
                    refine rb_iload_n 3 rfl rfl dX0_body_133 ?_
                    refine rb_aload_n 0 rfl rfl (rb_isR_ref _) dX0_body_134 ?_
                    obtain ⟨v150, hrv150, hv150, Kv150⟩ := Kv149
                    refine rc_get fl_X0_238_0 hrv150 dX0_body_135 ?_
                    obtain ⟨q151, eq151, Kq151⟩ := Kv150
                    subst eq151
                    obtain ⟨q152, eq152, Kq152⟩ := Kq151
                    subst eq152
                    obtain ⟨t153, N154, ci156, f155, hMf155, htf155, hif155, ⟨fsf155, hof155⟩, haf155, Kf155⟩ := Kq152
                    refine rb_aast hMf155 htf155.1 htf155.2 hof155 haf155 hif155 dX0_body_138 ?_
                    refine rb_goto 151 (by decide) dX0_body_139 ?_
                    refine rb_iconst (v := (1 : Int32)) (by decide) dX0_body_151 ?_
                    exact rb_iret rfl rfl (Kf155).1.1 (Kf155).1.2 dX0_body_152 (Kf155).2
                · skip
                  refine rb_aload rfl (rb_isR_ref _) dX0_body_109 ?_
                  obtain ⟨v157, hrv157, hv157, Kv157⟩ := ((Kfs144).2 c145)
                  refine rc_get fl_X0_241_5 hrv157 dX0_body_111 ?_
                  refine rb_iload_n 3 rfl rfl dX0_body_114 ?_
                  refine rb_aload_n 0 rfl rfl (rb_isR_ref _) dX0_body_115 ?_
                  obtain ⟨v158, hrv158, hv158, Kv158⟩ := Kv157
                  refine rc_get fl_X0_238_0 hrv158 dX0_body_116 ?_
                  obtain ⟨q159, eq159, Kq159⟩ := Kv158
                  subst eq159
                  obtain ⟨q160, eq160, Kq160⟩ := Kq159
                  subst eq160
                  obtain ⟨t161, N162, ci164, f163, hMf163, htf163, hif163, ⟨fsf163, hof163⟩, haf163, Kf163⟩ := Kq160
                  refine rb_aast hMf163 htf163.1 htf163.2 hof163 haf163 hif163 dX0_body_119 ?_
                  refine rb_goto 151 (by decide) dX0_body_120 ?_
                  refine rb_iconst (v := (1 : Int32)) (by decide) dX0_body_151 ?_
                  exact rb_iret rfl rfl (Kf163).1.1 (Kf163).1.2 dX0_body_152 (Kf163).2
            · skip
              refine rb_bipush (v := (-4 : Int32)) (by decide) dX0_body_62 ?_
              exact rb_iret rfl rfl (((KKx98).2 c100)).1.1 (((KKx98).2 c100)).1.2 dX0_body_64 (((KKx98).2 c100)).2
          · skip
            refine rb_iconst (v := (-1 : Int32)) (by decide) dX0_body_50 ?_
            exact rb_iret rfl rfl (((KKx90).2 c92)).1.1 (((KKx90).2 c92)).1.2 dX0_body_51 (((KKx90).2 c92)).2
      · skip
        refine rb_iload_n 3 rfl rfl dX0_body_22 ?_
        refine rb_iconst (v := (0 : Int32)) (by decide) dX0_body_23 ?_
        refine rb_bipush (v := (11 : Int32)) (by decide) dX0_body_24 ?_
        obtain ⟨d165, n166, Q167, h1x168, hdx168, hnx168, Kx168⟩ := ((((KKx10).2 c12)).2 c13)
        refine rb_call st_X0_45 (rest := []) h1x168 rfl rfl mm_rn (Nat.le_of_ble_eq_true rfl) hdx168.1 hdx168.2 hnx168.1 hnx168.2 dX0_body_26 (fun o M169 hpx168 => ?_)
        obtain ⟨x168, eo, KKx168⟩ := Kx168 o M169 hpx168
        subst eo
        show rb_Bd κ mX0_body (n.1 + n2.1 + n8.1 + n166.1, n.2 + n2.2 + n8.2 + n166.2) M169 29 [some (.ref a0), some (.int a1), some (.int a2), some (.int a3), some (.int a4), none] [.int x168]
        refine rb_ifeq 50 (by decide) dX0_body_29 (fun c170 => ?_) (fun c170 => ?_)
        · skip
          refine rb_iconst (v := (-1 : Int32)) (by decide) dX0_body_50 ?_
          exact rb_iret rfl rfl (((KKx168).1 c170)).1.1 (((KKx168).1 c170)).1.2 dX0_body_51 (((KKx168).1 c170)).2
        · skip
          refine rb_iload rfl dX0_body_32 ?_
          refine rb_bipush (v := (-9 : Int32)) (by decide) dX0_body_34 ?_
          refine rb_iceq 52 (by decide) dX0_body_36 (fun c171 => ?_) (fun c171 => ?_)
          · skip
            refine rb_aload_n 0 rfl rfl (rb_isR_ref _) dX0_body_52 ?_
            obtain ⟨v172, hrv172, hv172, Kv172⟩ := ((((KKx168).2 c170)).1 c171)
            refine rc_get fl_X0_136_0 hrv172 dX0_body_53 ?_
            obtain ⟨q173, eq173, Kq173⟩ := Kv172
            subst eq173
            obtain ⟨d174, n175, Q176, h1x177, hdx177, hnx177, hox177, Kx177⟩ := Kq173
            refine rb_call st_X0_228_7 (rest := []) h1x177 rfl rfl (rc_rc rfl hox177) (Nat.le_of_ble_eq_true rfl) hdx177.1 hdx177.2 hnx177.1 hnx177.2 dX0_body_56 (fun o M178 hpx177 => ?_)
            obtain ⟨x177, eo, KKx177⟩ := Kx177 o M178 hpx177
            subst eo
            show rb_Bd κ mX0_body (n.1 + n2.1 + n8.1 + n166.1 + n175.1, n.2 + n2.2 + n8.2 + n166.2 + n175.2) M178 59 [some (.ref a0), some (.int a1), some (.int a2), some (.int a3), some (.int a4), none] [.int x177]
            refine rb_ifne 65 (by decide) dX0_body_59 (fun c179 => ?_) (fun c179 => ?_)
            · skip
              refine rb_aload_n 0 rfl rfl (rb_isR_ref _) dX0_body_65 ?_
              obtain ⟨v180, hrv180, hv180, Kv180⟩ := ((KKx177).1 c179)
              refine rc_get fl_X0_125_0 hrv180 dX0_body_66 ?_
              refine rb_iload_n 1 rfl rfl dX0_body_69 ?_
              obtain ⟨q181, eq181, Kq181⟩ := Kv180
              subst eq181
              obtain ⟨d182, n183, Q184, h1v185, hdv185, hnv185, hov185, Kv185⟩ := Kq181
              refine rb_call st_X0_218_7 (rest := []) h1v185 rfl rfl (rc_rc rfl hov185) (Nat.le_of_ble_eq_true rfl) hdv185.1 hdv185.2 hnv185.1 hnv185.2 dX0_body_70 (fun o M186 hpv185 => ?_)
              obtain ⟨v185, eo, hv185, KKv185⟩ := Kv185 o M186 hpv185
              subst eo
              show rb_Bd κ mX0_body (n.1 + n2.1 + n8.1 + n166.1 + n175.1 + n183.1, n.2 + n2.2 + n8.2 + n166.2 + n175.2 + n183.2) M186 73 [some (.ref a0), some (.int a1), some (.int a2), some (.int a3), some (.int a4), none] [v185]
              obtain ⟨q187, eq187, Kq187⟩ := KKv185
              subst eq187
              obtain ⟨ci188, ⟨fsci188, hoci188⟩, hcci188, Kci188⟩ := Kq187
              refine rb_cast q416 hoci188 hcci188 dX0_body_73 ?_
              refine rb_astore (ls' := [some (.ref a0), some (.int a1), some (.int a2), some (.int a3), some (.int a4), some (.ref q187)]) (by decide) rfl rfl (rb_isR_ref _) dX0_body_76 ?_
              refine rb_aload_n 0 rfl rfl (rb_isR_ref _) dX0_body_78 ?_
              refine rb_new nw_X0_24 (fs := [.null, .int 0, .int 0, .int 0, .null]) rfl (Kci188).1.1 (Kci188).1.2 dX0_body_79 ?_
              show rb_Bd κ mX0_body (n.1 + n2.1 + n8.1 + n166.1 + n175.1 + n183.1 + 1, n.2 + n2.2 + n8.2 + n166.2 + n175.2 + n183.2 + 5) (rb_nw M186 (rb_O 6 [.null, .int 0, .int 0, .int 0, .null])) 82 [some (.ref a0), some (.int a1), some (.int a2), some (.int a3), some (.int a4), some (.ref q187)] [.ref M186.1, .ref a0]
              refine rb_dup rfl dX0_body_82 ?_
              refine rb_aload rfl (rb_isR_ref _) dX0_body_83 ?_
              refine rb_iload_n 2 rfl rfl dX0_body_85 ?_
              refine rb_iload_n 2 rfl rfl dX0_body_86 ?_
              refine rb_iconst (v := (2 : Int32)) (by decide) dX0_body_87 ?_
              refine rb_icne 96 (by decide) dX0_body_88 (fun c189 => ?_) (fun c189 => ?_)
              · skip
                refine rb_iload_n 3 rfl rfl dX0_body_96 ?_
                refine rb_iload rfl dX0_body_97 ?_
                obtain ⟨ci195, d190, n191, Q192, h1v193, hdv193, hnv193, hov193, Kv193⟩ := (((Kci188).2).1 c189)
                refine rb_call (st_X0_235 ci195) (rest := [.ref M186.1, .ref a0]) h1v193 rfl rfl (rc_rc rfl hov193) (Nat.le_of_ble_eq_true rfl) hdv193.1 hdv193.2 hnv193.1 hnv193.2 dX0_body_99 (fun o M194 hpv193 => ?_)
                obtain ⟨eo, KKv193⟩ := Kv193 o M194 hpv193
                subst eo
                show rb_Bd κ mX0_body (n.1 + n2.1 + n8.1 + n166.1 + n175.1 + n183.1 + 1 + n191.1, n.2 + n2.2 + n8.2 + n166.2 + n175.2 + n183.2 + 5 + n191.2) M194 102 [some (.ref a0), some (.int a1), some (.int a2), some (.int a3), some (.int a4), some (.ref q187)] [.ref M186.1, .ref a0]
                obtain ⟨fs196, hMfs196, hlfs196, Kfs196⟩ := KKv193
                refine rb_put fl_X0_238_0 (fun q hq => by cases hq; exact Or.inl rfl) (rb_nfR (rb_isR_ref _) _).1 (rb_nfR (rb_isR_ref _) _).2 hMfs196 hlfs196 dX0_body_102 ?_
                refine rb_iload_n 2 rfl rfl dX0_body_105 ?_
                refine rb_ifne 123 (by decide) dX0_body_106 (fun c197 => ?_) (fun c197 => ?_)
                · skip
                  refine rb_iload_n 2 rfl rfl dX0_body_123 ?_
                  refine rb_iconst (v := (1 : Int32)) (by decide) dX0_body_124 ?_
                  refine rb_icne 142 (by decide) dX0_body_125 (fun c198 => ?_) (fun c198 => ?_)
                  · skip
                    refine rb_aload rfl (rb_isR_ref _) dX0_body_142 ?_
                    refine rb_aload_n 0 rfl rfl (rb_isR_ref _) dX0_body_144 ?_
                    obtain ⟨v199, hrv199, hv199, Kv199⟩ := ((((Kfs196).1 c197)).1 c198)
                    refine rc_get fl_X0_238_0 hrv199 dX0_body_145 ?_
                    obtain ⟨fs200, hMfs200, hlfs200, Kfs200⟩ := Kv199
                    refine rb_put fl_X0_247_5 (fun q hq => by cases hq; exact Or.inl rfl) (rb_nfR hv199 _).1 (rb_nfR hv199 _).2 hMfs200 hlfs200 dX0_body_148 ?_
                    refine rb_iconst (v := (1 : Int32)) (by decide) dX0_body_151 ?_
                    exact rb_iret rfl rfl (Kfs200).1.1 (Kfs200).1.2 dX0_body_152 (Kfs200).2
                  · skip
                    refine rb_aload rfl (rb_isR_ref _) dX0_body_128 ?_
                    obtain ⟨v201, hrv201, hv201, Kv201⟩ := ((((Kfs196).1 c197)).2 c198)
                    refine rc_get fl_X0_244_5 hrv201 dX0_body_130 ?_
                    refine rb_iload_n 3 rfl rfl dX0_body_133 ?_
                    refine rb_aload_n 0 rfl rfl (rb_isR_ref _) dX0_body_134 ?_
                    obtain ⟨v202, hrv202, hv202, Kv202⟩ := Kv201
                    refine rc_get fl_X0_238_0 hrv202 dX0_body_135 ?_
                    obtain ⟨q203, eq203, Kq203⟩ := Kv202
                    subst eq203
                    obtain ⟨q204, eq204, Kq204⟩ := Kq203
                    subst eq204
                    obtain ⟨t205, N206, ci208, f207, hMf207, htf207, hif207, ⟨fsf207, hof207⟩, haf207, Kf207⟩ := Kq204
                    refine rb_aast hMf207 htf207.1 htf207.2 hof207 haf207 hif207 dX0_body_138 ?_
                    refine rb_goto 151 (by decide) dX0_body_139 ?_
                    refine rb_iconst (v := (1 : Int32)) (by decide) dX0_body_151 ?_
                    exact rb_iret rfl rfl (Kf207).1.1 (Kf207).1.2 dX0_body_152 (Kf207).2
                · skip
                  refine rb_aload rfl (rb_isR_ref _) dX0_body_109 ?_
                  obtain ⟨v209, hrv209, hv209, Kv209⟩ := ((Kfs196).2 c197)
                  refine rc_get fl_X0_241_5 hrv209 dX0_body_111 ?_
                  refine rb_iload_n 3 rfl rfl dX0_body_114 ?_
                  refine rb_aload_n 0 rfl rfl (rb_isR_ref _) dX0_body_115 ?_
                  obtain ⟨v210, hrv210, hv210, Kv210⟩ := Kv209
                  refine rc_get fl_X0_238_0 hrv210 dX0_body_116 ?_
                  obtain ⟨q211, eq211, Kq211⟩ := Kv210
                  subst eq211
                  obtain ⟨q212, eq212, Kq212⟩ := Kq211
                  subst eq212
                  obtain ⟨t213, N214, ci216, f215, hMf215, htf215, hif215, ⟨fsf215, hof215⟩, haf215, Kf215⟩ := Kq212
                  refine rb_aast hMf215 htf215.1 htf215.2 hof215 haf215 hif215 dX0_body_119 ?_
                  refine rb_goto 151 (by decide) dX0_body_120 ?_
                  refine rb_iconst (v := (1 : Int32)) (by decide) dX0_body_151 ?_
                  exact rb_iret rfl rfl (Kf215).1.1 (Kf215).1.2 dX0_body_152 (Kf215).2
              · skip
                refine rb_bipush (v := (-9 : Int32)) (by decide) dX0_body_91 ?_
                refine rb_goto 97 (by decide) dX0_body_93 ?_
                refine rb_iload rfl dX0_body_97 ?_
                obtain ⟨ci222, d217, n218, Q219, h1v220, hdv220, hnv220, hov220, Kv220⟩ := (((Kci188).2).2 c189)
                refine rb_call (st_X0_235 ci222) (rest := [.ref M186.1, .ref a0]) h1v220 rfl rfl (rc_rc rfl hov220) (Nat.le_of_ble_eq_true rfl) hdv220.1 hdv220.2 hnv220.1 hnv220.2 dX0_body_99 (fun o M221 hpv220 => ?_)
                obtain ⟨eo, KKv220⟩ := Kv220 o M221 hpv220
                subst eo
                show rb_Bd κ mX0_body (n.1 + n2.1 + n8.1 + n166.1 + n175.1 + n183.1 + 1 + n218.1, n.2 + n2.2 + n8.2 + n166.2 + n175.2 + n183.2 + 5 + n218.2) M221 102 [some (.ref a0), some (.int a1), some (.int a2), some (.int a3), some (.int a4), some (.ref q187)] [.ref M186.1, .ref a0]
                obtain ⟨fs223, hMfs223, hlfs223, Kfs223⟩ := KKv220
                refine rb_put fl_X0_238_0 (fun q hq => by cases hq; exact Or.inl rfl) (rb_nfR (rb_isR_ref _) _).1 (rb_nfR (rb_isR_ref _) _).2 hMfs223 hlfs223 dX0_body_102 ?_
                refine rb_iload_n 2 rfl rfl dX0_body_105 ?_
                refine rb_ifne 123 (by decide) dX0_body_106 (fun c224 => ?_) (fun c224 => ?_)
                · skip
                  refine rb_iload_n 2 rfl rfl dX0_body_123 ?_
                  refine rb_iconst (v := (1 : Int32)) (by decide) dX0_body_124 ?_
                  refine rb_icne 142 (by decide) dX0_body_125 (fun c225 => ?_) (fun c225 => ?_)
                  · skip
                    refine rb_aload rfl (rb_isR_ref _) dX0_body_142 ?_
                    refine rb_aload_n 0 rfl rfl (rb_isR_ref _) dX0_body_144 ?_
                    obtain ⟨v226, hrv226, hv226, Kv226⟩ := ((((Kfs223).1 c224)).1 c225)
                    refine rc_get fl_X0_238_0 hrv226 dX0_body_145 ?_
                    obtain ⟨fs227, hMfs227, hlfs227, Kfs227⟩ := Kv226
                    refine rb_put fl_X0_247_5 (fun q hq => by cases hq; exact Or.inl rfl) (rb_nfR hv226 _).1 (rb_nfR hv226 _).2 hMfs227 hlfs227 dX0_body_148 ?_
                    refine rb_iconst (v := (1 : Int32)) (by decide) dX0_body_151 ?_
                    exact rb_iret rfl rfl (Kfs227).1.1 (Kfs227).1.2 dX0_body_152 (Kfs227).2
                  · skip
                    refine rb_aload rfl (rb_isR_ref _) dX0_body_128 ?_
                    obtain ⟨v228, hrv228, hv228, Kv228⟩ := ((((Kfs223).1 c224)).2 c225)
                    refine rc_get fl_X0_244_5 hrv228 dX0_body_130 ?_
                    refine rb_iload_n 3 rfl rfl dX0_body_133 ?_
                    refine rb_aload_n 0 rfl rfl (rb_isR_ref _) dX0_body_134 ?_
                    obtain ⟨v229, hrv229, hv229, Kv229⟩ := Kv228
                    refine rc_get fl_X0_238_0 hrv229 dX0_body_135 ?_
                    obtain ⟨q230, eq230, Kq230⟩ := Kv229
                    subst eq230
                    obtain ⟨q231, eq231, Kq231⟩ := Kq230
                    subst eq231
                    obtain ⟨t232, N233, ci235, f234, hMf234, htf234, hif234, ⟨fsf234, hof234⟩, haf234, Kf234⟩ := Kq231
                    refine rb_aast hMf234 htf234.1 htf234.2 hof234 haf234 hif234 dX0_body_138 ?_
                    refine rb_goto 151 (by decide) dX0_body_139 ?_
                    refine rb_iconst (v := (1 : Int32)) (by decide) dX0_body_151 ?_
                    exact rb_iret rfl rfl (Kf234).1.1 (Kf234).1.2 dX0_body_152 (Kf234).2
                · skip
                  refine rb_aload rfl (rb_isR_ref _) dX0_body_109 ?_
                  obtain ⟨v236, hrv236, hv236, Kv236⟩ := ((Kfs223).2 c224)
                  refine rc_get fl_X0_241_5 hrv236 dX0_body_111 ?_
                  refine rb_iload_n 3 rfl rfl dX0_body_114 ?_
                  refine rb_aload_n 0 rfl rfl (rb_isR_ref _) dX0_body_115 ?_
                  obtain ⟨v237, hrv237, hv237, Kv237⟩ := Kv236
                  refine rc_get fl_X0_238_0 hrv237 dX0_body_116 ?_
                  obtain ⟨q238, eq238, Kq238⟩ := Kv237
                  subst eq238
                  obtain ⟨q239, eq239, Kq239⟩ := Kq238
                  subst eq239
                  obtain ⟨t240, N241, ci243, f242, hMf242, htf242, hif242, ⟨fsf242, hof242⟩, haf242, Kf242⟩ := Kq239
                  refine rb_aast hMf242 htf242.1 htf242.2 hof242 haf242 hif242 dX0_body_119 ?_
                  refine rb_goto 151 (by decide) dX0_body_120 ?_
                  refine rb_iconst (v := (1 : Int32)) (by decide) dX0_body_151 ?_
                  exact rb_iret rfl rfl (Kf242).1.1 (Kf242).1.2 dX0_body_152 (Kf242).2
            · skip
              refine rb_bipush (v := (-4 : Int32)) (by decide) dX0_body_62 ?_
              exact rb_iret rfl rfl (((KKx177).2 c179)).1.1 (((KKx177).2 c179)).1.2 dX0_body_64 (((KKx177).2 c179)).2
          · skip
            refine rb_iload rfl dX0_body_39 ?_
            refine rb_iconst (v := (0 : Int32)) (by decide) dX0_body_41 ?_
            refine rb_bipush (v := (16 : Int32)) (by decide) dX0_body_42 ?_
            obtain ⟨d244, n245, Q246, h1x247, hdx247, hnx247, Kx247⟩ := ((((KKx168).2 c170)).2 c171)
            refine rb_call st_X0_45 (rest := []) h1x247 rfl rfl mm_rn (Nat.le_of_ble_eq_true rfl) hdx247.1 hdx247.2 hnx247.1 hnx247.2 dX0_body_44 (fun o M248 hpx247 => ?_)
            obtain ⟨x247, eo, KKx247⟩ := Kx247 o M248 hpx247
            subst eo
            show rb_Bd κ mX0_body (n.1 + n2.1 + n8.1 + n166.1 + n245.1, n.2 + n2.2 + n8.2 + n166.2 + n245.2) M248 47 [some (.ref a0), some (.int a1), some (.int a2), some (.int a3), some (.int a4), none] [.int x247]
            refine rb_ifne 52 (by decide) dX0_body_47 (fun c249 => ?_) (fun c249 => ?_)
            · skip
              refine rb_aload_n 0 rfl rfl (rb_isR_ref _) dX0_body_52 ?_
              obtain ⟨v250, hrv250, hv250, Kv250⟩ := ((KKx247).1 c249)
              refine rc_get fl_X0_136_0 hrv250 dX0_body_53 ?_
              obtain ⟨q251, eq251, Kq251⟩ := Kv250
              subst eq251
              obtain ⟨d252, n253, Q254, h1x255, hdx255, hnx255, hox255, Kx255⟩ := Kq251
              refine rb_call st_X0_228_7 (rest := []) h1x255 rfl rfl (rc_rc rfl hox255) (Nat.le_of_ble_eq_true rfl) hdx255.1 hdx255.2 hnx255.1 hnx255.2 dX0_body_56 (fun o M256 hpx255 => ?_)
              obtain ⟨x255, eo, KKx255⟩ := Kx255 o M256 hpx255
              subst eo
              show rb_Bd κ mX0_body (n.1 + n2.1 + n8.1 + n166.1 + n245.1 + n253.1, n.2 + n2.2 + n8.2 + n166.2 + n245.2 + n253.2) M256 59 [some (.ref a0), some (.int a1), some (.int a2), some (.int a3), some (.int a4), none] [.int x255]
              refine rb_ifne 65 (by decide) dX0_body_59 (fun c257 => ?_) (fun c257 => ?_)
              · skip
                refine rb_aload_n 0 rfl rfl (rb_isR_ref _) dX0_body_65 ?_
                obtain ⟨v258, hrv258, hv258, Kv258⟩ := ((KKx255).1 c257)
                refine rc_get fl_X0_125_0 hrv258 dX0_body_66 ?_
                refine rb_iload_n 1 rfl rfl dX0_body_69 ?_
                obtain ⟨q259, eq259, Kq259⟩ := Kv258
                subst eq259
                obtain ⟨d260, n261, Q262, h1v263, hdv263, hnv263, hov263, Kv263⟩ := Kq259
                refine rb_call st_X0_218_7 (rest := []) h1v263 rfl rfl (rc_rc rfl hov263) (Nat.le_of_ble_eq_true rfl) hdv263.1 hdv263.2 hnv263.1 hnv263.2 dX0_body_70 (fun o M264 hpv263 => ?_)
                obtain ⟨v263, eo, hv263, KKv263⟩ := Kv263 o M264 hpv263
                subst eo
                show rb_Bd κ mX0_body (n.1 + n2.1 + n8.1 + n166.1 + n245.1 + n253.1 + n261.1, n.2 + n2.2 + n8.2 + n166.2 + n245.2 + n253.2 + n261.2) M264 73 [some (.ref a0), some (.int a1), some (.int a2), some (.int a3), some (.int a4), none] [v263]
                obtain ⟨q265, eq265, Kq265⟩ := KKv263
                subst eq265
                obtain ⟨ci266, ⟨fsci266, hoci266⟩, hcci266, Kci266⟩ := Kq265
                refine rb_cast q416 hoci266 hcci266 dX0_body_73 ?_
                refine rb_astore (ls' := [some (.ref a0), some (.int a1), some (.int a2), some (.int a3), some (.int a4), some (.ref q265)]) (by decide) rfl rfl (rb_isR_ref _) dX0_body_76 ?_
                refine rb_aload_n 0 rfl rfl (rb_isR_ref _) dX0_body_78 ?_
                refine rb_new nw_X0_24 (fs := [.null, .int 0, .int 0, .int 0, .null]) rfl (Kci266).1.1 (Kci266).1.2 dX0_body_79 ?_
                show rb_Bd κ mX0_body (n.1 + n2.1 + n8.1 + n166.1 + n245.1 + n253.1 + n261.1 + 1, n.2 + n2.2 + n8.2 + n166.2 + n245.2 + n253.2 + n261.2 + 5) (rb_nw M264 (rb_O 6 [.null, .int 0, .int 0, .int 0, .null])) 82 [some (.ref a0), some (.int a1), some (.int a2), some (.int a3), some (.int a4), some (.ref q265)] [.ref M264.1, .ref a0]
                refine rb_dup rfl dX0_body_82 ?_
                refine rb_aload rfl (rb_isR_ref _) dX0_body_83 ?_
                refine rb_iload_n 2 rfl rfl dX0_body_85 ?_
                refine rb_iload_n 2 rfl rfl dX0_body_86 ?_
                refine rb_iconst (v := (2 : Int32)) (by decide) dX0_body_87 ?_
                refine rb_icne 96 (by decide) dX0_body_88 (fun c267 => ?_) (fun c267 => ?_)
                · skip
                  refine rb_iload_n 3 rfl rfl dX0_body_96 ?_
                  refine rb_iload rfl dX0_body_97 ?_
                  obtain ⟨ci273, d268, n269, Q270, h1v271, hdv271, hnv271, hov271, Kv271⟩ := (((Kci266).2).1 c267)
                  refine rb_call (st_X0_235 ci273) (rest := [.ref M264.1, .ref a0]) h1v271 rfl rfl (rc_rc rfl hov271) (Nat.le_of_ble_eq_true rfl) hdv271.1 hdv271.2 hnv271.1 hnv271.2 dX0_body_99 (fun o M272 hpv271 => ?_)
                  obtain ⟨eo, KKv271⟩ := Kv271 o M272 hpv271
                  subst eo
                  show rb_Bd κ mX0_body (n.1 + n2.1 + n8.1 + n166.1 + n245.1 + n253.1 + n261.1 + 1 + n269.1, n.2 + n2.2 + n8.2 + n166.2 + n245.2 + n253.2 + n261.2 + 5 + n269.2) M272 102 [some (.ref a0), some (.int a1), some (.int a2), some (.int a3), some (.int a4), some (.ref q265)] [.ref M264.1, .ref a0]
                  obtain ⟨fs274, hMfs274, hlfs274, Kfs274⟩ := KKv271
                  refine rb_put fl_X0_238_0 (fun q hq => by cases hq; exact Or.inl rfl) (rb_nfR (rb_isR_ref _) _).1 (rb_nfR (rb_isR_ref _) _).2 hMfs274 hlfs274 dX0_body_102 ?_
                  refine rb_iload_n 2 rfl rfl dX0_body_105 ?_
                  refine rb_ifne 123 (by decide) dX0_body_106 (fun c275 => ?_) (fun c275 => ?_)
                  · skip
                    refine rb_iload_n 2 rfl rfl dX0_body_123 ?_
                    refine rb_iconst (v := (1 : Int32)) (by decide) dX0_body_124 ?_
                    refine rb_icne 142 (by decide) dX0_body_125 (fun c276 => ?_) (fun c276 => ?_)
                    · skip
                      refine rb_aload rfl (rb_isR_ref _) dX0_body_142 ?_
                      refine rb_aload_n 0 rfl rfl (rb_isR_ref _) dX0_body_144 ?_
                      obtain ⟨v277, hrv277, hv277, Kv277⟩ := ((((Kfs274).1 c275)).1 c276)
                      refine rc_get fl_X0_238_0 hrv277 dX0_body_145 ?_
                      obtain ⟨fs278, hMfs278, hlfs278, Kfs278⟩ := Kv277
                      refine rb_put fl_X0_247_5 (fun q hq => by cases hq; exact Or.inl rfl) (rb_nfR hv277 _).1 (rb_nfR hv277 _).2 hMfs278 hlfs278 dX0_body_148 ?_
                      refine rb_iconst (v := (1 : Int32)) (by decide) dX0_body_151 ?_
                      exact rb_iret rfl rfl (Kfs278).1.1 (Kfs278).1.2 dX0_body_152 (Kfs278).2
                    · skip
                      refine rb_aload rfl (rb_isR_ref _) dX0_body_128 ?_
                      obtain ⟨v279, hrv279, hv279, Kv279⟩ := ((((Kfs274).1 c275)).2 c276)
                      refine rc_get fl_X0_244_5 hrv279 dX0_body_130 ?_
                      refine rb_iload_n 3 rfl rfl dX0_body_133 ?_
                      refine rb_aload_n 0 rfl rfl (rb_isR_ref _) dX0_body_134 ?_
                      obtain ⟨v280, hrv280, hv280, Kv280⟩ := Kv279
                      refine rc_get fl_X0_238_0 hrv280 dX0_body_135 ?_
                      obtain ⟨q281, eq281, Kq281⟩ := Kv280
                      subst eq281
                      obtain ⟨q282, eq282, Kq282⟩ := Kq281
                      subst eq282
                      obtain ⟨t283, N284, ci286, f285, hMf285, htf285, hif285, ⟨fsf285, hof285⟩, haf285, Kf285⟩ := Kq282
                      refine rb_aast hMf285 htf285.1 htf285.2 hof285 haf285 hif285 dX0_body_138 ?_
                      refine rb_goto 151 (by decide) dX0_body_139 ?_
                      refine rb_iconst (v := (1 : Int32)) (by decide) dX0_body_151 ?_
                      exact rb_iret rfl rfl (Kf285).1.1 (Kf285).1.2 dX0_body_152 (Kf285).2
                  · skip
                    refine rb_aload rfl (rb_isR_ref _) dX0_body_109 ?_
                    obtain ⟨v287, hrv287, hv287, Kv287⟩ := ((Kfs274).2 c275)
                    refine rc_get fl_X0_241_5 hrv287 dX0_body_111 ?_
                    refine rb_iload_n 3 rfl rfl dX0_body_114 ?_
                    refine rb_aload_n 0 rfl rfl (rb_isR_ref _) dX0_body_115 ?_
                    obtain ⟨v288, hrv288, hv288, Kv288⟩ := Kv287
                    refine rc_get fl_X0_238_0 hrv288 dX0_body_116 ?_
                    obtain ⟨q289, eq289, Kq289⟩ := Kv288
                    subst eq289
                    obtain ⟨q290, eq290, Kq290⟩ := Kq289
                    subst eq290
                    obtain ⟨t291, N292, ci294, f293, hMf293, htf293, hif293, ⟨fsf293, hof293⟩, haf293, Kf293⟩ := Kq290
                    refine rb_aast hMf293 htf293.1 htf293.2 hof293 haf293 hif293 dX0_body_119 ?_
                    refine rb_goto 151 (by decide) dX0_body_120 ?_
                    refine rb_iconst (v := (1 : Int32)) (by decide) dX0_body_151 ?_
                    exact rb_iret rfl rfl (Kf293).1.1 (Kf293).1.2 dX0_body_152 (Kf293).2
                · skip
                  refine rb_bipush (v := (-9 : Int32)) (by decide) dX0_body_91 ?_
                  refine rb_goto 97 (by decide) dX0_body_93 ?_
                  refine rb_iload rfl dX0_body_97 ?_
                  obtain ⟨ci300, d295, n296, Q297, h1v298, hdv298, hnv298, hov298, Kv298⟩ := (((Kci266).2).2 c267)
                  refine rb_call (st_X0_235 ci300) (rest := [.ref M264.1, .ref a0]) h1v298 rfl rfl (rc_rc rfl hov298) (Nat.le_of_ble_eq_true rfl) hdv298.1 hdv298.2 hnv298.1 hnv298.2 dX0_body_99 (fun o M299 hpv298 => ?_)
                  obtain ⟨eo, KKv298⟩ := Kv298 o M299 hpv298
                  subst eo
                  show rb_Bd κ mX0_body (n.1 + n2.1 + n8.1 + n166.1 + n245.1 + n253.1 + n261.1 + 1 + n296.1, n.2 + n2.2 + n8.2 + n166.2 + n245.2 + n253.2 + n261.2 + 5 + n296.2) M299 102 [some (.ref a0), some (.int a1), some (.int a2), some (.int a3), some (.int a4), some (.ref q265)] [.ref M264.1, .ref a0]
                  obtain ⟨fs301, hMfs301, hlfs301, Kfs301⟩ := KKv298
                  refine rb_put fl_X0_238_0 (fun q hq => by cases hq; exact Or.inl rfl) (rb_nfR (rb_isR_ref _) _).1 (rb_nfR (rb_isR_ref _) _).2 hMfs301 hlfs301 dX0_body_102 ?_
                  refine rb_iload_n 2 rfl rfl dX0_body_105 ?_
                  refine rb_ifne 123 (by decide) dX0_body_106 (fun c302 => ?_) (fun c302 => ?_)
                  · skip
                    refine rb_iload_n 2 rfl rfl dX0_body_123 ?_
                    refine rb_iconst (v := (1 : Int32)) (by decide) dX0_body_124 ?_
                    refine rb_icne 142 (by decide) dX0_body_125 (fun c303 => ?_) (fun c303 => ?_)
                    · skip
                      refine rb_aload rfl (rb_isR_ref _) dX0_body_142 ?_
                      refine rb_aload_n 0 rfl rfl (rb_isR_ref _) dX0_body_144 ?_
                      obtain ⟨v304, hrv304, hv304, Kv304⟩ := ((((Kfs301).1 c302)).1 c303)
                      refine rc_get fl_X0_238_0 hrv304 dX0_body_145 ?_
                      obtain ⟨fs305, hMfs305, hlfs305, Kfs305⟩ := Kv304
                      refine rb_put fl_X0_247_5 (fun q hq => by cases hq; exact Or.inl rfl) (rb_nfR hv304 _).1 (rb_nfR hv304 _).2 hMfs305 hlfs305 dX0_body_148 ?_
                      refine rb_iconst (v := (1 : Int32)) (by decide) dX0_body_151 ?_
                      exact rb_iret rfl rfl (Kfs305).1.1 (Kfs305).1.2 dX0_body_152 (Kfs305).2
                    · skip
                      refine rb_aload rfl (rb_isR_ref _) dX0_body_128 ?_
                      obtain ⟨v306, hrv306, hv306, Kv306⟩ := ((((Kfs301).1 c302)).2 c303)
                      refine rc_get fl_X0_244_5 hrv306 dX0_body_130 ?_
                      refine rb_iload_n 3 rfl rfl dX0_body_133 ?_
                      refine rb_aload_n 0 rfl rfl (rb_isR_ref _) dX0_body_134 ?_
                      obtain ⟨v307, hrv307, hv307, Kv307⟩ := Kv306
                      refine rc_get fl_X0_238_0 hrv307 dX0_body_135 ?_
                      obtain ⟨q308, eq308, Kq308⟩ := Kv307
                      subst eq308
                      obtain ⟨q309, eq309, Kq309⟩ := Kq308
                      subst eq309
                      obtain ⟨t310, N311, ci313, f312, hMf312, htf312, hif312, ⟨fsf312, hof312⟩, haf312, Kf312⟩ := Kq309
                      refine rb_aast hMf312 htf312.1 htf312.2 hof312 haf312 hif312 dX0_body_138 ?_
                      refine rb_goto 151 (by decide) dX0_body_139 ?_
                      refine rb_iconst (v := (1 : Int32)) (by decide) dX0_body_151 ?_
                      exact rb_iret rfl rfl (Kf312).1.1 (Kf312).1.2 dX0_body_152 (Kf312).2
                  · skip
                    refine rb_aload rfl (rb_isR_ref _) dX0_body_109 ?_
                    obtain ⟨v314, hrv314, hv314, Kv314⟩ := ((Kfs301).2 c302)
                    refine rc_get fl_X0_241_5 hrv314 dX0_body_111 ?_
                    refine rb_iload_n 3 rfl rfl dX0_body_114 ?_
                    refine rb_aload_n 0 rfl rfl (rb_isR_ref _) dX0_body_115 ?_
                    obtain ⟨v315, hrv315, hv315, Kv315⟩ := Kv314
                    refine rc_get fl_X0_238_0 hrv315 dX0_body_116 ?_
                    obtain ⟨q316, eq316, Kq316⟩ := Kv315
                    subst eq316
                    obtain ⟨q317, eq317, Kq317⟩ := Kq316
                    subst eq317
                    obtain ⟨t318, N319, ci321, f320, hMf320, htf320, hif320, ⟨fsf320, hof320⟩, haf320, Kf320⟩ := Kq317
                    refine rb_aast hMf320 htf320.1 htf320.2 hof320 haf320 hif320 dX0_body_119 ?_
                    refine rb_goto 151 (by decide) dX0_body_120 ?_
                    refine rb_iconst (v := (1 : Int32)) (by decide) dX0_body_151 ?_
                    exact rb_iret rfl rfl (Kf320).1.1 (Kf320).1.2 dX0_body_152 (Kf320).2
              · skip
                refine rb_bipush (v := (-4 : Int32)) (by decide) dX0_body_62 ?_
                exact rb_iret rfl rfl (((KKx255).2 c257)).1.1 (((KKx255).2 c257)).1.2 dX0_body_64 (((KKx255).2 c257)).2
            · skip
              refine rb_iconst (v := (-1 : Int32)) (by decide) dX0_body_50 ?_
              exact rb_iret rfl rfl (((KKx247).2 c249)).1.1 (((KKx247).2 c249)).1.2 dX0_body_51 (((KKx247).2 c249)).2
theorem sgX0_make_0 {κ : rb_K} {n : Nat × Nat} {M : rb_H} {a0 : Nat} {a1 : Int32} {a2 : Int32} {a3 : Int32} (K : ((((a1).toInt < 0 ∨ 18 < (a1).toInt) → (rb_rom κ (n.1 + 1, n.2 + 4) ∧ (∃ (ci7 : Nat) (d2 : Nat) (n3 : Nat × Nat) (Q4 : Outcome → rb_H → Prop), rb_Ct κ.1 yX26_init wX26_init d2 n3 [.ref M.1, .ref a0, .int a2, .int a3] (rb_nw M (rb_O 26 [.int 0, .int 0, .null, .null])) Q4 ∧ rb_dp κ d2 ∧ rb_rom κ (n.1 + 1 + n3.1, n.2 + 4 + n3.2) ∧ rb_ob (rb_nw M (rb_O 26 [.int 0, .int 0, .null, .null])) M.1 ci7 ∧ ∀ (o : Outcome) (M6 : rb_H), Q4 o M6 → (o = .returned none ∧ (rb_fin κ (n.1 + 1 + n3.1, n.2 + 4 + n3.2) ∧ κ.2.2.1 (.returned (some (.ref M.1))) M6))))) ∧ ((a1).toInt = 0 → (rb_rom κ (n.1 + 1, n.2 + 4) ∧ (∃ (ci13 : Nat) (d8 : Nat) (n9 : Nat × Nat) (Q10 : Outcome → rb_H → Prop), rb_Ct κ.1 yX8_init wX8_init d8 n9 [.ref M.1, .ref a0, .int a2] (rb_nw M (rb_O 8 [.int 0, .int 0, .null, .null])) Q10 ∧ rb_dp κ d8 ∧ rb_rom κ (n.1 + 1 + n9.1, n.2 + 4 + n9.2) ∧ rb_ob (rb_nw M (rb_O 8 [.int 0, .int 0, .null, .null])) M.1 ci13 ∧ ∀ (o : Outcome) (M12 : rb_H), Q10 o M12 → (o = .returned none ∧ (rb_fin κ (n.1 + 1 + n9.1, n.2 + 4 + n9.2) ∧ κ.2.2.1 (.returned (some (.ref M.1))) M12))))) ∧ ((a1).toInt = 1 → (rb_rom κ (n.1 + 1, n.2 + 4) ∧ (∃ (ci19 : Nat) (d14 : Nat) (n15 : Nat × Nat) (Q16 : Outcome → rb_H → Prop), rb_Ct κ.1 yX9_init wX9_init d14 n15 [.ref M.1, .ref a0] (rb_nw M (rb_O 9 [.int 0, .int 0, .null, .null])) Q16 ∧ rb_dp κ d14 ∧ rb_rom κ (n.1 + 1 + n15.1, n.2 + 4 + n15.2) ∧ rb_ob (rb_nw M (rb_O 9 [.int 0, .int 0, .null, .null])) M.1 ci19 ∧ ∀ (o : Outcome) (M18 : rb_H), Q16 o M18 → (o = .returned none ∧ (rb_fin κ (n.1 + 1 + n15.1, n.2 + 4 + n15.2) ∧ κ.2.2.1 (.returned (some (.ref M.1))) M18))))) ∧ ((a1).toInt = 2 → (rb_rom κ (n.1 + 1, n.2 + 4) ∧ (∃ (ci25 : Nat) (d20 : Nat) (n21 : Nat × Nat) (Q22 : Outcome → rb_H → Prop), rb_Ct κ.1 yX10_init wX10_init d20 n21 [.ref M.1, .ref a0, .int a2] (rb_nw M (rb_O 10 [.int 0, .int 0, .null, .null])) Q22 ∧ rb_dp κ d20 ∧ rb_rom κ (n.1 + 1 + n21.1, n.2 + 4 + n21.2) ∧ rb_ob (rb_nw M (rb_O 10 [.int 0, .int 0, .null, .null])) M.1 ci25 ∧ ∀ (o : Outcome) (M24 : rb_H), Q22 o M24 → (o = .returned none ∧ (rb_fin κ (n.1 + 1 + n21.1, n.2 + 4 + n21.2) ∧ κ.2.2.1 (.returned (some (.ref M.1))) M24))))) ∧ ((a1).toInt = 3 → (rb_rom κ (n.1 + 1, n.2 + 5) ∧ (∃ (ci31 : Nat) (d26 : Nat) (n27 : Nat × Nat) (Q28 : Outcome → rb_H → Prop), rb_Ct κ.1 yX11_init wX11_init d26 n27 [.ref M.1, .ref a0, .int a2] (rb_nw M (rb_O 11 [.int 0, .int 0, .null, .null, .null])) Q28 ∧ rb_dp κ d26 ∧ rb_rom κ (n.1 + 1 + n27.1, n.2 + 5 + n27.2) ∧ rb_ob (rb_nw M (rb_O 11 [.int 0, .int 0, .null, .null, .null])) M.1 ci31 ∧ ∀ (o : Outcome) (M30 : rb_H), Q28 o M30 → (o = .returned none ∧ (rb_fin κ (n.1 + 1 + n27.1, n.2 + 5 + n27.2) ∧ κ.2.2.1 (.returned (some (.ref M.1))) M30))))) ∧ ((a1).toInt = 4 → (rb_rom κ (n.1 + 1, n.2 + 4) ∧ (∃ (ci37 : Nat) (d32 : Nat) (n33 : Nat × Nat) (Q34 : Outcome → rb_H → Prop), rb_Ct κ.1 yX12_init wX12_init d32 n33 [.ref M.1, .ref a0, .int a2] (rb_nw M (rb_O 12 [.int 0, .int 0, .null, .null])) Q34 ∧ rb_dp κ d32 ∧ rb_rom κ (n.1 + 1 + n33.1, n.2 + 4 + n33.2) ∧ rb_ob (rb_nw M (rb_O 12 [.int 0, .int 0, .null, .null])) M.1 ci37 ∧ ∀ (o : Outcome) (M36 : rb_H), Q34 o M36 → (o = .returned none ∧ (rb_fin κ (n.1 + 1 + n33.1, n.2 + 4 + n33.2) ∧ κ.2.2.1 (.returned (some (.ref M.1))) M36))))) ∧ ((a1).toInt = 5 → (rb_rom κ (n.1 + 1, n.2 + 5) ∧ (∃ (ci43 : Nat) (d38 : Nat) (n39 : Nat × Nat) (Q40 : Outcome → rb_H → Prop), rb_Ct κ.1 yX13_init wX13_init d38 n39 [.ref M.1, .ref a0, .int a2] (rb_nw M (rb_O 13 [.int 0, .int 0, .null, .null, .null])) Q40 ∧ rb_dp κ d38 ∧ rb_rom κ (n.1 + 1 + n39.1, n.2 + 5 + n39.2) ∧ rb_ob (rb_nw M (rb_O 13 [.int 0, .int 0, .null, .null, .null])) M.1 ci43 ∧ ∀ (o : Outcome) (M42 : rb_H), Q40 o M42 → (o = .returned none ∧ (rb_fin κ (n.1 + 1 + n39.1, n.2 + 5 + n39.2) ∧ κ.2.2.1 (.returned (some (.ref M.1))) M42))))) ∧ ((a1).toInt = 6 → (rb_rom κ (n.1 + 1, n.2 + 5) ∧ (∃ (ci49 : Nat) (d44 : Nat) (n45 : Nat × Nat) (Q46 : Outcome → rb_H → Prop), rb_Ct κ.1 yX14_init wX14_init d44 n45 [.ref M.1, .ref a0, .int a2] (rb_nw M (rb_O 14 [.int 0, .int 0, .null, .null, .null])) Q46 ∧ rb_dp κ d44 ∧ rb_rom κ (n.1 + 1 + n45.1, n.2 + 5 + n45.2) ∧ rb_ob (rb_nw M (rb_O 14 [.int 0, .int 0, .null, .null, .null])) M.1 ci49 ∧ ∀ (o : Outcome) (M48 : rb_H), Q46 o M48 → (o = .returned none ∧ (rb_fin κ (n.1 + 1 + n45.1, n.2 + 5 + n45.2) ∧ κ.2.2.1 (.returned (some (.ref M.1))) M48))))) ∧ ((a1).toInt = 7 → (rb_rom κ (n.1 + 1, n.2 + 5) ∧ ((¬ a1 = (8 : Int32) → (∃ (ci56 : Nat) (d51 : Nat) (n52 : Nat × Nat) (Q53 : Outcome → rb_H → Prop), rb_Ct κ.1 yX15_init wX15_init d51 n52 [.ref M.1, .ref a0, .int a2, .int (0 : Int32)] (rb_nw M (rb_O 15 [.int 0, .int 0, .null, .int 0, .null])) Q53 ∧ rb_dp κ d51 ∧ rb_rom κ (n.1 + 1 + n52.1, n.2 + 5 + n52.2) ∧ rb_ob (rb_nw M (rb_O 15 [.int 0, .int 0, .null, .int 0, .null])) M.1 ci56 ∧ ∀ (o : Outcome) (M55 : rb_H), Q53 o M55 → (o = .returned none ∧ (rb_fin κ (n.1 + 1 + n52.1, n.2 + 5 + n52.2) ∧ κ.2.2.1 (.returned (some (.ref M.1))) M55)))) ∧ (a1 = (8 : Int32) → (∃ (ci62 : Nat) (d57 : Nat) (n58 : Nat × Nat) (Q59 : Outcome → rb_H → Prop), rb_Ct κ.1 yX15_init wX15_init d57 n58 [.ref M.1, .ref a0, .int a2, .int (1 : Int32)] (rb_nw M (rb_O 15 [.int 0, .int 0, .null, .int 0, .null])) Q59 ∧ rb_dp κ d57 ∧ rb_rom κ (n.1 + 1 + n58.1, n.2 + 5 + n58.2) ∧ rb_ob (rb_nw M (rb_O 15 [.int 0, .int 0, .null, .int 0, .null])) M.1 ci62 ∧ ∀ (o : Outcome) (M61 : rb_H), Q59 o M61 → (o = .returned none ∧ (rb_fin κ (n.1 + 1 + n58.1, n.2 + 5 + n58.2) ∧ κ.2.2.1 (.returned (some (.ref M.1))) M61))))))) ∧ ((a1).toInt = 8 → (rb_rom κ (n.1 + 1, n.2 + 5) ∧ ((¬ a1 = (8 : Int32) → (∃ (ci69 : Nat) (d64 : Nat) (n65 : Nat × Nat) (Q66 : Outcome → rb_H → Prop), rb_Ct κ.1 yX15_init wX15_init d64 n65 [.ref M.1, .ref a0, .int a2, .int (0 : Int32)] (rb_nw M (rb_O 15 [.int 0, .int 0, .null, .int 0, .null])) Q66 ∧ rb_dp κ d64 ∧ rb_rom κ (n.1 + 1 + n65.1, n.2 + 5 + n65.2) ∧ rb_ob (rb_nw M (rb_O 15 [.int 0, .int 0, .null, .int 0, .null])) M.1 ci69 ∧ ∀ (o : Outcome) (M68 : rb_H), Q66 o M68 → (o = .returned none ∧ (rb_fin κ (n.1 + 1 + n65.1, n.2 + 5 + n65.2) ∧ κ.2.2.1 (.returned (some (.ref M.1))) M68)))) ∧ (a1 = (8 : Int32) → (∃ (ci75 : Nat) (d70 : Nat) (n71 : Nat × Nat) (Q72 : Outcome → rb_H → Prop), rb_Ct κ.1 yX15_init wX15_init d70 n71 [.ref M.1, .ref a0, .int a2, .int (1 : Int32)] (rb_nw M (rb_O 15 [.int 0, .int 0, .null, .int 0, .null])) Q72 ∧ rb_dp κ d70 ∧ rb_rom κ (n.1 + 1 + n71.1, n.2 + 5 + n71.2) ∧ rb_ob (rb_nw M (rb_O 15 [.int 0, .int 0, .null, .int 0, .null])) M.1 ci75 ∧ ∀ (o : Outcome) (M74 : rb_H), Q72 o M74 → (o = .returned none ∧ (rb_fin κ (n.1 + 1 + n71.1, n.2 + 5 + n71.2) ∧ κ.2.2.1 (.returned (some (.ref M.1))) M74))))))) ∧ ((a1).toInt = 9 → (rb_rom κ (n.1 + 1, n.2 + 4) ∧ (∃ (ci81 : Nat) (d76 : Nat) (n77 : Nat × Nat) (Q78 : Outcome → rb_H → Prop), rb_Ct κ.1 yX16_init wX16_init d76 n77 [.ref M.1, .ref a0] (rb_nw M (rb_O 16 [.int 0, .int 0, .null, .null])) Q78 ∧ rb_dp κ d76 ∧ rb_rom κ (n.1 + 1 + n77.1, n.2 + 4 + n77.2) ∧ rb_ob (rb_nw M (rb_O 16 [.int 0, .int 0, .null, .null])) M.1 ci81 ∧ ∀ (o : Outcome) (M80 : rb_H), Q78 o M80 → (o = .returned none ∧ (rb_fin κ (n.1 + 1 + n77.1, n.2 + 4 + n77.2) ∧ κ.2.2.1 (.returned (some (.ref M.1))) M80))))) ∧ ((a1).toInt = 10 → (rb_rom κ (n.1 + 1, n.2 + 4) ∧ (∃ (ci87 : Nat) (d82 : Nat) (n83 : Nat × Nat) (Q84 : Outcome → rb_H → Prop), rb_Ct κ.1 yX17_init wX17_init d82 n83 [.ref M.1, .ref a0, .int a2, .int (0 : Int32)] (rb_nw M (rb_O 17 [.int 0, .int 0, .null, .null])) Q84 ∧ rb_dp κ d82 ∧ rb_rom κ (n.1 + 1 + n83.1, n.2 + 4 + n83.2) ∧ rb_ob (rb_nw M (rb_O 17 [.int 0, .int 0, .null, .null])) M.1 ci87 ∧ ∀ (o : Outcome) (M86 : rb_H), Q84 o M86 → (o = .returned none ∧ (rb_fin κ (n.1 + 1 + n83.1, n.2 + 4 + n83.2) ∧ κ.2.2.1 (.returned (some (.ref M.1))) M86))))) ∧ ((a1).toInt = 11 → (rb_rom κ (n.1 + 1, n.2 + 5) ∧ (∃ (ci93 : Nat) (d88 : Nat) (n89 : Nat × Nat) (Q90 : Outcome → rb_H → Prop), rb_Ct κ.1 yX18_init wX18_init d88 n89 [.ref M.1, .ref a0, .int a2] (rb_nw M (rb_O 18 [.int 0, .int 0, .null, .null, .null])) Q90 ∧ rb_dp κ d88 ∧ rb_rom κ (n.1 + 1 + n89.1, n.2 + 5 + n89.2) ∧ rb_ob (rb_nw M (rb_O 18 [.int 0, .int 0, .null, .null, .null])) M.1 ci93 ∧ ∀ (o : Outcome) (M92 : rb_H), Q90 o M92 → (o = .returned none ∧ (rb_fin κ (n.1 + 1 + n89.1, n.2 + 5 + n89.2) ∧ κ.2.2.1 (.returned (some (.ref M.1))) M92))))) ∧ ((a1).toInt = 12 → (rb_rom κ (n.1 + 1, n.2 + 4) ∧ (∃ (ci99 : Nat) (d94 : Nat) (n95 : Nat × Nat) (Q96 : Outcome → rb_H → Prop), rb_Ct κ.1 yX19_init wX19_init d94 n95 [.ref M.1, .ref a0, .int a2] (rb_nw M (rb_O 19 [.int 0, .int 0, .null, .null])) Q96 ∧ rb_dp κ d94 ∧ rb_rom κ (n.1 + 1 + n95.1, n.2 + 4 + n95.2) ∧ rb_ob (rb_nw M (rb_O 19 [.int 0, .int 0, .null, .null])) M.1 ci99 ∧ ∀ (o : Outcome) (M98 : rb_H), Q96 o M98 → (o = .returned none ∧ (rb_fin κ (n.1 + 1 + n95.1, n.2 + 4 + n95.2) ∧ κ.2.2.1 (.returned (some (.ref M.1))) M98))))) ∧ ((a1).toInt = 13 → (rb_rom κ (n.1 + 1, n.2 + 4) ∧ (∃ (ci105 : Nat) (d100 : Nat) (n101 : Nat × Nat) (Q102 : Outcome → rb_H → Prop), rb_Ct κ.1 yX20_init wX20_init d100 n101 [.ref M.1, .ref a0, .int a2] (rb_nw M (rb_O 20 [.int 0, .int 0, .null, .null])) Q102 ∧ rb_dp κ d100 ∧ rb_rom κ (n.1 + 1 + n101.1, n.2 + 4 + n101.2) ∧ rb_ob (rb_nw M (rb_O 20 [.int 0, .int 0, .null, .null])) M.1 ci105 ∧ ∀ (o : Outcome) (M104 : rb_H), Q102 o M104 → (o = .returned none ∧ (rb_fin κ (n.1 + 1 + n101.1, n.2 + 4 + n101.2) ∧ κ.2.2.1 (.returned (some (.ref M.1))) M104))))) ∧ ((a1).toInt = 14 → (rb_rom κ (n.1 + 1, n.2 + 4) ∧ (∃ (ci111 : Nat) (d106 : Nat) (n107 : Nat × Nat) (Q108 : Outcome → rb_H → Prop), rb_Ct κ.1 yX21_init wX21_init d106 n107 [.ref M.1, .ref a0] (rb_nw M (rb_O 21 [.int 0, .int 0, .null, .null])) Q108 ∧ rb_dp κ d106 ∧ rb_rom κ (n.1 + 1 + n107.1, n.2 + 4 + n107.2) ∧ rb_ob (rb_nw M (rb_O 21 [.int 0, .int 0, .null, .null])) M.1 ci111 ∧ ∀ (o : Outcome) (M110 : rb_H), Q108 o M110 → (o = .returned none ∧ (rb_fin κ (n.1 + 1 + n107.1, n.2 + 4 + n107.2) ∧ κ.2.2.1 (.returned (some (.ref M.1))) M110))))) ∧ ((a1).toInt = 15 → (rb_rom κ (n.1 + 1, n.2 + 4) ∧ (∃ (ci117 : Nat) (d112 : Nat) (n113 : Nat × Nat) (Q114 : Outcome → rb_H → Prop), rb_Ct κ.1 yX22_init wX22_init d112 n113 [.ref M.1, .ref a0, .int a2, .int (0 : Int32)] (rb_nw M (rb_O 22 [.int 0, .int 0, .null, .null])) Q114 ∧ rb_dp κ d112 ∧ rb_rom κ (n.1 + 1 + n113.1, n.2 + 4 + n113.2) ∧ rb_ob (rb_nw M (rb_O 22 [.int 0, .int 0, .null, .null])) M.1 ci117 ∧ ∀ (o : Outcome) (M116 : rb_H), Q114 o M116 → (o = .returned none ∧ (rb_fin κ (n.1 + 1 + n113.1, n.2 + 4 + n113.2) ∧ κ.2.2.1 (.returned (some (.ref M.1))) M116))))) ∧ ((a1).toInt = 16 → (rb_rom κ (n.1 + 1, n.2 + 5) ∧ (∃ (ci123 : Nat) (d118 : Nat) (n119 : Nat × Nat) (Q120 : Outcome → rb_H → Prop), rb_Ct κ.1 yX23_init wX23_init d118 n119 [.ref M.1, .ref a0, .int a2, .int a3] (rb_nw M (rb_O 23 [.int 0, .int 0, .null, .null, .null])) Q120 ∧ rb_dp κ d118 ∧ rb_rom κ (n.1 + 1 + n119.1, n.2 + 5 + n119.2) ∧ rb_ob (rb_nw M (rb_O 23 [.int 0, .int 0, .null, .null, .null])) M.1 ci123 ∧ ∀ (o : Outcome) (M122 : rb_H), Q120 o M122 → (o = .returned none ∧ (rb_fin κ (n.1 + 1 + n119.1, n.2 + 5 + n119.2) ∧ κ.2.2.1 (.returned (some (.ref M.1))) M122))))) ∧ ((a1).toInt = 17 → (rb_rom κ (n.1 + 1, n.2 + 6) ∧ (∃ (ci129 : Nat) (d124 : Nat) (n125 : Nat × Nat) (Q126 : Outcome → rb_H → Prop), rb_Ct κ.1 yX24_init wX24_init d124 n125 [.ref M.1, .ref a0, .int a2, .int a3] (rb_nw M (rb_O 24 [.int 0, .int 0, .null, .null, .null, .null])) Q126 ∧ rb_dp κ d124 ∧ rb_rom κ (n.1 + 1 + n125.1, n.2 + 6 + n125.2) ∧ rb_ob (rb_nw M (rb_O 24 [.int 0, .int 0, .null, .null, .null, .null])) M.1 ci129 ∧ ∀ (o : Outcome) (M128 : rb_H), Q126 o M128 → (o = .returned none ∧ (rb_fin κ (n.1 + 1 + n125.1, n.2 + 6 + n125.2) ∧ κ.2.2.1 (.returned (some (.ref M.1))) M128))))) ∧ ((a1).toInt = 18 → (rb_rom κ (n.1 + 1, n.2 + 5) ∧ (∃ (ci135 : Nat) (d130 : Nat) (n131 : Nat × Nat) (Q132 : Outcome → rb_H → Prop), rb_Ct κ.1 yX25_init wX25_init d130 n131 [.ref M.1, .ref a0, .int a2, .int a3] (rb_nw M (rb_O 25 [.int 0, .int 0, .null, .null, .null])) Q132 ∧ rb_dp κ d130 ∧ rb_rom κ (n.1 + 1 + n131.1, n.2 + 5 + n131.2) ∧ rb_ob (rb_nw M (rb_O 25 [.int 0, .int 0, .null, .null, .null])) M.1 ci135 ∧ ∀ (o : Outcome) (M134 : rb_H), Q132 o M134 → (o = .returned none ∧ (rb_fin κ (n.1 + 1 + n131.1, n.2 + 5 + n131.2) ∧ κ.2.2.1 (.returned (some (.ref M.1))) M134))))))) : rb_Bd κ mX0_make n M 0 [some (.ref a0), some (.int a1), some (.int a2), some (.int a3)] [] := by
  refine rb_iload_n 1 rfl rfl dX0_make_0 ?_
  rcases mm_sw18 (a1).toInt 0 with c1 | c1 | c1 | c1 | c1 | c1 | c1 | c1 | c1 | c1 | c1 | c1 | c1 | c1 | c1 | c1 | c1 | c1 | c1 | c1
  · skip
    refine rb_tableOut 285 (by omega) (by decide) dX0_make_1 ?_
    refine rb_new nw_X0_112 (fs := [.int 0, .int 0, .null, .null]) rfl (((K).1 (by omega))).1.1 (((K).1 (by omega))).1.2 dX0_make_285 ?_
    show rb_Bd κ mX0_make (n.1 + 1, n.2 + 4) (rb_nw M (rb_O 26 [.int 0, .int 0, .null, .null])) 288 [some (.ref a0), some (.int a1), some (.int a2), some (.int a3)] [.ref M.1]
    refine rb_dup rfl dX0_make_288 ?_
    refine rb_aload_n 0 rfl rfl (rb_isR_ref _) dX0_make_289 ?_
    refine rb_iload_n 2 rfl rfl dX0_make_290 ?_
    refine rb_iload_n 3 rfl rfl dX0_make_291 ?_
    obtain ⟨ci7, d2, n3, Q4, h1v5, hdv5, hnv5, hov5, Kv5⟩ := (((K).1 (by omega))).2
    refine rb_call (st_X0_114 ci7) (rest := [.ref M.1]) h1v5 rfl rfl (rc_rc rfl hov5) (Nat.le_of_ble_eq_true rfl) hdv5.1 hdv5.2 hnv5.1 hnv5.2 dX0_make_292 (fun o M6 hpv5 => ?_)
    obtain ⟨eo, KKv5⟩ := Kv5 o M6 hpv5
    subst eo
    show rb_Bd κ mX0_make (n.1 + 1 + n3.1, n.2 + 4 + n3.2) M6 295 [some (.ref a0), some (.int a1), some (.int a2), some (.int a3)] [.ref M.1]
    exact rb_aret rfl (Or.inl ⟨_, rfl⟩) (rb_isR_ref _) (KKv5).1.1 (KKv5).1.2 dX0_make_295 (KKv5).2
  · skip
    refine rb_tableIn 92 (by omega) (by omega) (off := 91) (by rw [c1]; rfl) (by decide) dX0_make_1 ?_
    refine rb_new nw_X0_49 (fs := [.int 0, .int 0, .null, .null]) rfl (((K).2.1 c1)).1.1 (((K).2.1 c1)).1.2 dX0_make_92 ?_
    show rb_Bd κ mX0_make (n.1 + 1, n.2 + 4) (rb_nw M (rb_O 8 [.int 0, .int 0, .null, .null])) 95 [some (.ref a0), some (.int a1), some (.int a2), some (.int a3)] [.ref M.1]
    refine rb_dup rfl dX0_make_95 ?_
    refine rb_aload_n 0 rfl rfl (rb_isR_ref _) dX0_make_96 ?_
    refine rb_iload_n 2 rfl rfl dX0_make_97 ?_
    obtain ⟨ci13, d8, n9, Q10, h1v11, hdv11, hnv11, hov11, Kv11⟩ := (((K).2.1 c1)).2
    refine rb_call (st_X0_51 ci13) (rest := [.ref M.1]) h1v11 rfl rfl (rc_rc rfl hov11) (Nat.le_of_ble_eq_true rfl) hdv11.1 hdv11.2 hnv11.1 hnv11.2 dX0_make_98 (fun o M12 hpv11 => ?_)
    obtain ⟨eo, KKv11⟩ := Kv11 o M12 hpv11
    subst eo
    show rb_Bd κ mX0_make (n.1 + 1 + n9.1, n.2 + 4 + n9.2) M12 101 [some (.ref a0), some (.int a1), some (.int a2), some (.int a3)] [.ref M.1]
    exact rb_aret rfl (Or.inl ⟨_, rfl⟩) (rb_isR_ref _) (KKv11).1.1 (KKv11).1.2 dX0_make_101 (KKv11).2
  · skip
    refine rb_tableIn 102 (by omega) (by omega) (off := 101) (by rw [c1]; rfl) (by decide) dX0_make_1 ?_
    refine rb_new nw_X0_55 (fs := [.int 0, .int 0, .null, .null]) rfl (((K).2.2.1 c1)).1.1 (((K).2.2.1 c1)).1.2 dX0_make_102 ?_
    show rb_Bd κ mX0_make (n.1 + 1, n.2 + 4) (rb_nw M (rb_O 9 [.int 0, .int 0, .null, .null])) 105 [some (.ref a0), some (.int a1), some (.int a2), some (.int a3)] [.ref M.1]
    refine rb_dup rfl dX0_make_105 ?_
    refine rb_aload_n 0 rfl rfl (rb_isR_ref _) dX0_make_106 ?_
    obtain ⟨ci19, d14, n15, Q16, h1v17, hdv17, hnv17, hov17, Kv17⟩ := (((K).2.2.1 c1)).2
    refine rb_call (st_X0_57 ci19) (rest := [.ref M.1]) h1v17 rfl rfl (rc_rc rfl hov17) (Nat.le_of_ble_eq_true rfl) hdv17.1 hdv17.2 hnv17.1 hnv17.2 dX0_make_107 (fun o M18 hpv17 => ?_)
    obtain ⟨eo, KKv17⟩ := Kv17 o M18 hpv17
    subst eo
    show rb_Bd κ mX0_make (n.1 + 1 + n15.1, n.2 + 4 + n15.2) M18 110 [some (.ref a0), some (.int a1), some (.int a2), some (.int a3)] [.ref M.1]
    exact rb_aret rfl (Or.inl ⟨_, rfl⟩) (rb_isR_ref _) (KKv17).1.1 (KKv17).1.2 dX0_make_110 (KKv17).2
  · skip
    refine rb_tableIn 111 (by omega) (by omega) (off := 110) (by rw [c1]; rfl) (by decide) dX0_make_1 ?_
    refine rb_new nw_X0_60 (fs := [.int 0, .int 0, .null, .null]) rfl (((K).2.2.2.1 c1)).1.1 (((K).2.2.2.1 c1)).1.2 dX0_make_111 ?_
    show rb_Bd κ mX0_make (n.1 + 1, n.2 + 4) (rb_nw M (rb_O 10 [.int 0, .int 0, .null, .null])) 114 [some (.ref a0), some (.int a1), some (.int a2), some (.int a3)] [.ref M.1]
    refine rb_dup rfl dX0_make_114 ?_
    refine rb_aload_n 0 rfl rfl (rb_isR_ref _) dX0_make_115 ?_
    refine rb_iload_n 2 rfl rfl dX0_make_116 ?_
    obtain ⟨ci25, d20, n21, Q22, h1v23, hdv23, hnv23, hov23, Kv23⟩ := (((K).2.2.2.1 c1)).2
    refine rb_call (st_X0_62 ci25) (rest := [.ref M.1]) h1v23 rfl rfl (rc_rc rfl hov23) (Nat.le_of_ble_eq_true rfl) hdv23.1 hdv23.2 hnv23.1 hnv23.2 dX0_make_117 (fun o M24 hpv23 => ?_)
    obtain ⟨eo, KKv23⟩ := Kv23 o M24 hpv23
    subst eo
    show rb_Bd κ mX0_make (n.1 + 1 + n21.1, n.2 + 4 + n21.2) M24 120 [some (.ref a0), some (.int a1), some (.int a2), some (.int a3)] [.ref M.1]
    exact rb_aret rfl (Or.inl ⟨_, rfl⟩) (rb_isR_ref _) (KKv23).1.1 (KKv23).1.2 dX0_make_120 (KKv23).2
  · skip
    refine rb_tableIn 121 (by omega) (by omega) (off := 120) (by rw [c1]; rfl) (by decide) dX0_make_1 ?_
    refine rb_new nw_X0_63 (fs := [.int 0, .int 0, .null, .null, .null]) rfl (((K).2.2.2.2.1 c1)).1.1 (((K).2.2.2.2.1 c1)).1.2 dX0_make_121 ?_
    show rb_Bd κ mX0_make (n.1 + 1, n.2 + 5) (rb_nw M (rb_O 11 [.int 0, .int 0, .null, .null, .null])) 124 [some (.ref a0), some (.int a1), some (.int a2), some (.int a3)] [.ref M.1]
    refine rb_dup rfl dX0_make_124 ?_
    refine rb_aload_n 0 rfl rfl (rb_isR_ref _) dX0_make_125 ?_
    refine rb_iload_n 2 rfl rfl dX0_make_126 ?_
    obtain ⟨ci31, d26, n27, Q28, h1v29, hdv29, hnv29, hov29, Kv29⟩ := (((K).2.2.2.2.1 c1)).2
    refine rb_call (st_X0_65 ci31) (rest := [.ref M.1]) h1v29 rfl rfl (rc_rc rfl hov29) (Nat.le_of_ble_eq_true rfl) hdv29.1 hdv29.2 hnv29.1 hnv29.2 dX0_make_127 (fun o M30 hpv29 => ?_)
    obtain ⟨eo, KKv29⟩ := Kv29 o M30 hpv29
    subst eo
    show rb_Bd κ mX0_make (n.1 + 1 + n27.1, n.2 + 5 + n27.2) M30 130 [some (.ref a0), some (.int a1), some (.int a2), some (.int a3)] [.ref M.1]
    exact rb_aret rfl (Or.inl ⟨_, rfl⟩) (rb_isR_ref _) (KKv29).1.1 (KKv29).1.2 dX0_make_130 (KKv29).2
  · skip
    refine rb_tableIn 131 (by omega) (by omega) (off := 130) (by rw [c1]; rfl) (by decide) dX0_make_1 ?_
    refine rb_new nw_X0_66 (fs := [.int 0, .int 0, .null, .null]) rfl (((K).2.2.2.2.2.1 c1)).1.1 (((K).2.2.2.2.2.1 c1)).1.2 dX0_make_131 ?_
    show rb_Bd κ mX0_make (n.1 + 1, n.2 + 4) (rb_nw M (rb_O 12 [.int 0, .int 0, .null, .null])) 134 [some (.ref a0), some (.int a1), some (.int a2), some (.int a3)] [.ref M.1]
    refine rb_dup rfl dX0_make_134 ?_
    refine rb_aload_n 0 rfl rfl (rb_isR_ref _) dX0_make_135 ?_
    refine rb_iload_n 2 rfl rfl dX0_make_136 ?_
    obtain ⟨ci37, d32, n33, Q34, h1v35, hdv35, hnv35, hov35, Kv35⟩ := (((K).2.2.2.2.2.1 c1)).2
    refine rb_call (st_X0_68 ci37) (rest := [.ref M.1]) h1v35 rfl rfl (rc_rc rfl hov35) (Nat.le_of_ble_eq_true rfl) hdv35.1 hdv35.2 hnv35.1 hnv35.2 dX0_make_137 (fun o M36 hpv35 => ?_)
    obtain ⟨eo, KKv35⟩ := Kv35 o M36 hpv35
    subst eo
    show rb_Bd κ mX0_make (n.1 + 1 + n33.1, n.2 + 4 + n33.2) M36 140 [some (.ref a0), some (.int a1), some (.int a2), some (.int a3)] [.ref M.1]
    exact rb_aret rfl (Or.inl ⟨_, rfl⟩) (rb_isR_ref _) (KKv35).1.1 (KKv35).1.2 dX0_make_140 (KKv35).2
  · skip
    refine rb_tableIn 141 (by omega) (by omega) (off := 140) (by rw [c1]; rfl) (by decide) dX0_make_1 ?_
    refine rb_new nw_X0_69 (fs := [.int 0, .int 0, .null, .null, .null]) rfl (((K).2.2.2.2.2.2.1 c1)).1.1 (((K).2.2.2.2.2.2.1 c1)).1.2 dX0_make_141 ?_
    show rb_Bd κ mX0_make (n.1 + 1, n.2 + 5) (rb_nw M (rb_O 13 [.int 0, .int 0, .null, .null, .null])) 144 [some (.ref a0), some (.int a1), some (.int a2), some (.int a3)] [.ref M.1]
    refine rb_dup rfl dX0_make_144 ?_
    refine rb_aload_n 0 rfl rfl (rb_isR_ref _) dX0_make_145 ?_
    refine rb_iload_n 2 rfl rfl dX0_make_146 ?_
    obtain ⟨ci43, d38, n39, Q40, h1v41, hdv41, hnv41, hov41, Kv41⟩ := (((K).2.2.2.2.2.2.1 c1)).2
    refine rb_call (st_X0_71 ci43) (rest := [.ref M.1]) h1v41 rfl rfl (rc_rc rfl hov41) (Nat.le_of_ble_eq_true rfl) hdv41.1 hdv41.2 hnv41.1 hnv41.2 dX0_make_147 (fun o M42 hpv41 => ?_)
    obtain ⟨eo, KKv41⟩ := Kv41 o M42 hpv41
    subst eo
    show rb_Bd κ mX0_make (n.1 + 1 + n39.1, n.2 + 5 + n39.2) M42 150 [some (.ref a0), some (.int a1), some (.int a2), some (.int a3)] [.ref M.1]
    exact rb_aret rfl (Or.inl ⟨_, rfl⟩) (rb_isR_ref _) (KKv41).1.1 (KKv41).1.2 dX0_make_150 (KKv41).2
  · skip
    refine rb_tableIn 151 (by omega) (by omega) (off := 150) (by rw [c1]; rfl) (by decide) dX0_make_1 ?_
    refine rb_new nw_X0_72 (fs := [.int 0, .int 0, .null, .null, .null]) rfl (((K).2.2.2.2.2.2.2.1 c1)).1.1 (((K).2.2.2.2.2.2.2.1 c1)).1.2 dX0_make_151 ?_
    show rb_Bd κ mX0_make (n.1 + 1, n.2 + 5) (rb_nw M (rb_O 14 [.int 0, .int 0, .null, .null, .null])) 154 [some (.ref a0), some (.int a1), some (.int a2), some (.int a3)] [.ref M.1]
    refine rb_dup rfl dX0_make_154 ?_
    refine rb_aload_n 0 rfl rfl (rb_isR_ref _) dX0_make_155 ?_
    refine rb_iload_n 2 rfl rfl dX0_make_156 ?_
    obtain ⟨ci49, d44, n45, Q46, h1v47, hdv47, hnv47, hov47, Kv47⟩ := (((K).2.2.2.2.2.2.2.1 c1)).2
    refine rb_call (st_X0_74 ci49) (rest := [.ref M.1]) h1v47 rfl rfl (rc_rc rfl hov47) (Nat.le_of_ble_eq_true rfl) hdv47.1 hdv47.2 hnv47.1 hnv47.2 dX0_make_157 (fun o M48 hpv47 => ?_)
    obtain ⟨eo, KKv47⟩ := Kv47 o M48 hpv47
    subst eo
    show rb_Bd κ mX0_make (n.1 + 1 + n45.1, n.2 + 5 + n45.2) M48 160 [some (.ref a0), some (.int a1), some (.int a2), some (.int a3)] [.ref M.1]
    exact rb_aret rfl (Or.inl ⟨_, rfl⟩) (rb_isR_ref _) (KKv47).1.1 (KKv47).1.2 dX0_make_160 (KKv47).2
  · skip
    refine rb_tableIn 161 (by omega) (by omega) (off := 160) (by rw [c1]; rfl) (by decide) dX0_make_1 ?_
    refine rb_new nw_X0_75 (fs := [.int 0, .int 0, .null, .int 0, .null]) rfl (((K).2.2.2.2.2.2.2.2.1 c1)).1.1 (((K).2.2.2.2.2.2.2.2.1 c1)).1.2 dX0_make_161 ?_
    show rb_Bd κ mX0_make (n.1 + 1, n.2 + 5) (rb_nw M (rb_O 15 [.int 0, .int 0, .null, .int 0, .null])) 164 [some (.ref a0), some (.int a1), some (.int a2), some (.int a3)] [.ref M.1]
    refine rb_dup rfl dX0_make_164 ?_
    refine rb_aload_n 0 rfl rfl (rb_isR_ref _) dX0_make_165 ?_
    refine rb_iload_n 2 rfl rfl dX0_make_166 ?_
    refine rb_iload_n 1 rfl rfl dX0_make_167 ?_
    refine rb_bipush (v := (8 : Int32)) (by decide) dX0_make_168 ?_
    refine rb_icne 177 (by decide) dX0_make_170 (fun c50 => ?_) (fun c50 => ?_)
    · skip
      refine rb_iconst (v := (0 : Int32)) (by decide) dX0_make_177 ?_
      obtain ⟨ci56, d51, n52, Q53, h1v54, hdv54, hnv54, hov54, Kv54⟩ := (((((K).2.2.2.2.2.2.2.2.1 c1)).2).1 c50)
      refine rb_call (st_X0_77 ci56) (rest := [.ref M.1]) h1v54 rfl rfl (rc_rc rfl hov54) (Nat.le_of_ble_eq_true rfl) hdv54.1 hdv54.2 hnv54.1 hnv54.2 dX0_make_178 (fun o M55 hpv54 => ?_)
      obtain ⟨eo, KKv54⟩ := Kv54 o M55 hpv54
      subst eo
      show rb_Bd κ mX0_make (n.1 + 1 + n52.1, n.2 + 5 + n52.2) M55 181 [some (.ref a0), some (.int a1), some (.int a2), some (.int a3)] [.ref M.1]
      exact rb_aret rfl (Or.inl ⟨_, rfl⟩) (rb_isR_ref _) (KKv54).1.1 (KKv54).1.2 dX0_make_181 (KKv54).2
    · skip
      refine rb_iconst (v := (1 : Int32)) (by decide) dX0_make_173 ?_
      refine rb_goto 178 (by decide) dX0_make_174 ?_
      obtain ⟨ci62, d57, n58, Q59, h1v60, hdv60, hnv60, hov60, Kv60⟩ := (((((K).2.2.2.2.2.2.2.2.1 c1)).2).2 c50)
      refine rb_call (st_X0_77 ci62) (rest := [.ref M.1]) h1v60 rfl rfl (rc_rc rfl hov60) (Nat.le_of_ble_eq_true rfl) hdv60.1 hdv60.2 hnv60.1 hnv60.2 dX0_make_178 (fun o M61 hpv60 => ?_)
      obtain ⟨eo, KKv60⟩ := Kv60 o M61 hpv60
      subst eo
      show rb_Bd κ mX0_make (n.1 + 1 + n58.1, n.2 + 5 + n58.2) M61 181 [some (.ref a0), some (.int a1), some (.int a2), some (.int a3)] [.ref M.1]
      exact rb_aret rfl (Or.inl ⟨_, rfl⟩) (rb_isR_ref _) (KKv60).1.1 (KKv60).1.2 dX0_make_181 (KKv60).2
  · skip
    refine rb_tableIn 161 (by omega) (by omega) (off := 160) (by rw [c1]; rfl) (by decide) dX0_make_1 ?_
    refine rb_new nw_X0_75 (fs := [.int 0, .int 0, .null, .int 0, .null]) rfl (((K).2.2.2.2.2.2.2.2.2.1 c1)).1.1 (((K).2.2.2.2.2.2.2.2.2.1 c1)).1.2 dX0_make_161 ?_
    show rb_Bd κ mX0_make (n.1 + 1, n.2 + 5) (rb_nw M (rb_O 15 [.int 0, .int 0, .null, .int 0, .null])) 164 [some (.ref a0), some (.int a1), some (.int a2), some (.int a3)] [.ref M.1]
    refine rb_dup rfl dX0_make_164 ?_
    refine rb_aload_n 0 rfl rfl (rb_isR_ref _) dX0_make_165 ?_
    refine rb_iload_n 2 rfl rfl dX0_make_166 ?_
    refine rb_iload_n 1 rfl rfl dX0_make_167 ?_
    refine rb_bipush (v := (8 : Int32)) (by decide) dX0_make_168 ?_
    refine rb_icne 177 (by decide) dX0_make_170 (fun c63 => ?_) (fun c63 => ?_)
    · skip
      refine rb_iconst (v := (0 : Int32)) (by decide) dX0_make_177 ?_
      obtain ⟨ci69, d64, n65, Q66, h1v67, hdv67, hnv67, hov67, Kv67⟩ := (((((K).2.2.2.2.2.2.2.2.2.1 c1)).2).1 c63)
      refine rb_call (st_X0_77 ci69) (rest := [.ref M.1]) h1v67 rfl rfl (rc_rc rfl hov67) (Nat.le_of_ble_eq_true rfl) hdv67.1 hdv67.2 hnv67.1 hnv67.2 dX0_make_178 (fun o M68 hpv67 => ?_)
      obtain ⟨eo, KKv67⟩ := Kv67 o M68 hpv67
      subst eo
      show rb_Bd κ mX0_make (n.1 + 1 + n65.1, n.2 + 5 + n65.2) M68 181 [some (.ref a0), some (.int a1), some (.int a2), some (.int a3)] [.ref M.1]
      exact rb_aret rfl (Or.inl ⟨_, rfl⟩) (rb_isR_ref _) (KKv67).1.1 (KKv67).1.2 dX0_make_181 (KKv67).2
    · skip
      refine rb_iconst (v := (1 : Int32)) (by decide) dX0_make_173 ?_
      refine rb_goto 178 (by decide) dX0_make_174 ?_
      obtain ⟨ci75, d70, n71, Q72, h1v73, hdv73, hnv73, hov73, Kv73⟩ := (((((K).2.2.2.2.2.2.2.2.2.1 c1)).2).2 c63)
      refine rb_call (st_X0_77 ci75) (rest := [.ref M.1]) h1v73 rfl rfl (rc_rc rfl hov73) (Nat.le_of_ble_eq_true rfl) hdv73.1 hdv73.2 hnv73.1 hnv73.2 dX0_make_178 (fun o M74 hpv73 => ?_)
      obtain ⟨eo, KKv73⟩ := Kv73 o M74 hpv73
      subst eo
      show rb_Bd κ mX0_make (n.1 + 1 + n71.1, n.2 + 5 + n71.2) M74 181 [some (.ref a0), some (.int a1), some (.int a2), some (.int a3)] [.ref M.1]
      exact rb_aret rfl (Or.inl ⟨_, rfl⟩) (rb_isR_ref _) (KKv73).1.1 (KKv73).1.2 dX0_make_181 (KKv73).2
  · skip
    refine rb_tableIn 182 (by omega) (by omega) (off := 181) (by rw [c1]; rfl) (by decide) dX0_make_1 ?_
    refine rb_new nw_X0_80 (fs := [.int 0, .int 0, .null, .null]) rfl (((K).2.2.2.2.2.2.2.2.2.2.1 c1)).1.1 (((K).2.2.2.2.2.2.2.2.2.2.1 c1)).1.2 dX0_make_182 ?_
    show rb_Bd κ mX0_make (n.1 + 1, n.2 + 4) (rb_nw M (rb_O 16 [.int 0, .int 0, .null, .null])) 185 [some (.ref a0), some (.int a1), some (.int a2), some (.int a3)] [.ref M.1]
    refine rb_dup rfl dX0_make_185 ?_
    refine rb_aload_n 0 rfl rfl (rb_isR_ref _) dX0_make_186 ?_
    obtain ⟨ci81, d76, n77, Q78, h1v79, hdv79, hnv79, hov79, Kv79⟩ := (((K).2.2.2.2.2.2.2.2.2.2.1 c1)).2
    refine rb_call (st_X0_82 ci81) (rest := [.ref M.1]) h1v79 rfl rfl (rc_rc rfl hov79) (Nat.le_of_ble_eq_true rfl) hdv79.1 hdv79.2 hnv79.1 hnv79.2 dX0_make_187 (fun o M80 hpv79 => ?_)
    obtain ⟨eo, KKv79⟩ := Kv79 o M80 hpv79
    subst eo
    show rb_Bd κ mX0_make (n.1 + 1 + n77.1, n.2 + 4 + n77.2) M80 190 [some (.ref a0), some (.int a1), some (.int a2), some (.int a3)] [.ref M.1]
    exact rb_aret rfl (Or.inl ⟨_, rfl⟩) (rb_isR_ref _) (KKv79).1.1 (KKv79).1.2 dX0_make_190 (KKv79).2
  · skip
    refine rb_tableIn 191 (by omega) (by omega) (off := 190) (by rw [c1]; rfl) (by decide) dX0_make_1 ?_
    refine rb_new nw_X0_83 (fs := [.int 0, .int 0, .null, .null]) rfl (((K).2.2.2.2.2.2.2.2.2.2.2.1 c1)).1.1 (((K).2.2.2.2.2.2.2.2.2.2.2.1 c1)).1.2 dX0_make_191 ?_
    show rb_Bd κ mX0_make (n.1 + 1, n.2 + 4) (rb_nw M (rb_O 17 [.int 0, .int 0, .null, .null])) 194 [some (.ref a0), some (.int a1), some (.int a2), some (.int a3)] [.ref M.1]
    refine rb_dup rfl dX0_make_194 ?_
    refine rb_aload_n 0 rfl rfl (rb_isR_ref _) dX0_make_195 ?_
    refine rb_iload_n 2 rfl rfl dX0_make_196 ?_
    refine rb_iconst (v := (0 : Int32)) (by decide) dX0_make_197 ?_
    obtain ⟨ci87, d82, n83, Q84, h1v85, hdv85, hnv85, hov85, Kv85⟩ := (((K).2.2.2.2.2.2.2.2.2.2.2.1 c1)).2
    refine rb_call (st_X0_85 ci87) (rest := [.ref M.1]) h1v85 rfl rfl (rc_rc rfl hov85) (Nat.le_of_ble_eq_true rfl) hdv85.1 hdv85.2 hnv85.1 hnv85.2 dX0_make_198 (fun o M86 hpv85 => ?_)
    obtain ⟨eo, KKv85⟩ := Kv85 o M86 hpv85
    subst eo
    show rb_Bd κ mX0_make (n.1 + 1 + n83.1, n.2 + 4 + n83.2) M86 201 [some (.ref a0), some (.int a1), some (.int a2), some (.int a3)] [.ref M.1]
    exact rb_aret rfl (Or.inl ⟨_, rfl⟩) (rb_isR_ref _) (KKv85).1.1 (KKv85).1.2 dX0_make_201 (KKv85).2
  · skip
    refine rb_tableIn 202 (by omega) (by omega) (off := 201) (by rw [c1]; rfl) (by decide) dX0_make_1 ?_
    refine rb_new nw_X0_88 (fs := [.int 0, .int 0, .null, .null, .null]) rfl (((K).2.2.2.2.2.2.2.2.2.2.2.2.1 c1)).1.1 (((K).2.2.2.2.2.2.2.2.2.2.2.2.1 c1)).1.2 dX0_make_202 ?_
    show rb_Bd κ mX0_make (n.1 + 1, n.2 + 5) (rb_nw M (rb_O 18 [.int 0, .int 0, .null, .null, .null])) 205 [some (.ref a0), some (.int a1), some (.int a2), some (.int a3)] [.ref M.1]
    refine rb_dup rfl dX0_make_205 ?_
    refine rb_aload_n 0 rfl rfl (rb_isR_ref _) dX0_make_206 ?_
    refine rb_iload_n 2 rfl rfl dX0_make_207 ?_
    obtain ⟨ci93, d88, n89, Q90, h1v91, hdv91, hnv91, hov91, Kv91⟩ := (((K).2.2.2.2.2.2.2.2.2.2.2.2.1 c1)).2
    refine rb_call (st_X0_90 ci93) (rest := [.ref M.1]) h1v91 rfl rfl (rc_rc rfl hov91) (Nat.le_of_ble_eq_true rfl) hdv91.1 hdv91.2 hnv91.1 hnv91.2 dX0_make_208 (fun o M92 hpv91 => ?_)
    obtain ⟨eo, KKv91⟩ := Kv91 o M92 hpv91
    subst eo
    show rb_Bd κ mX0_make (n.1 + 1 + n89.1, n.2 + 5 + n89.2) M92 211 [some (.ref a0), some (.int a1), some (.int a2), some (.int a3)] [.ref M.1]
    exact rb_aret rfl (Or.inl ⟨_, rfl⟩) (rb_isR_ref _) (KKv91).1.1 (KKv91).1.2 dX0_make_211 (KKv91).2
  · skip
    refine rb_tableIn 212 (by omega) (by omega) (off := 211) (by rw [c1]; rfl) (by decide) dX0_make_1 ?_
    refine rb_new nw_X0_91 (fs := [.int 0, .int 0, .null, .null]) rfl (((K).2.2.2.2.2.2.2.2.2.2.2.2.2.1 c1)).1.1 (((K).2.2.2.2.2.2.2.2.2.2.2.2.2.1 c1)).1.2 dX0_make_212 ?_
    show rb_Bd κ mX0_make (n.1 + 1, n.2 + 4) (rb_nw M (rb_O 19 [.int 0, .int 0, .null, .null])) 215 [some (.ref a0), some (.int a1), some (.int a2), some (.int a3)] [.ref M.1]
    refine rb_dup rfl dX0_make_215 ?_
    refine rb_aload_n 0 rfl rfl (rb_isR_ref _) dX0_make_216 ?_
    refine rb_iload_n 2 rfl rfl dX0_make_217 ?_
    obtain ⟨ci99, d94, n95, Q96, h1v97, hdv97, hnv97, hov97, Kv97⟩ := (((K).2.2.2.2.2.2.2.2.2.2.2.2.2.1 c1)).2
    refine rb_call (st_X0_93 ci99) (rest := [.ref M.1]) h1v97 rfl rfl (rc_rc rfl hov97) (Nat.le_of_ble_eq_true rfl) hdv97.1 hdv97.2 hnv97.1 hnv97.2 dX0_make_218 (fun o M98 hpv97 => ?_)
    obtain ⟨eo, KKv97⟩ := Kv97 o M98 hpv97
    subst eo
    show rb_Bd κ mX0_make (n.1 + 1 + n95.1, n.2 + 4 + n95.2) M98 221 [some (.ref a0), some (.int a1), some (.int a2), some (.int a3)] [.ref M.1]
    exact rb_aret rfl (Or.inl ⟨_, rfl⟩) (rb_isR_ref _) (KKv97).1.1 (KKv97).1.2 dX0_make_221 (KKv97).2
  · skip
    refine rb_tableIn 222 (by omega) (by omega) (off := 221) (by rw [c1]; rfl) (by decide) dX0_make_1 ?_
    refine rb_new nw_X0_94 (fs := [.int 0, .int 0, .null, .null]) rfl (((K).2.2.2.2.2.2.2.2.2.2.2.2.2.2.1 c1)).1.1 (((K).2.2.2.2.2.2.2.2.2.2.2.2.2.2.1 c1)).1.2 dX0_make_222 ?_
    show rb_Bd κ mX0_make (n.1 + 1, n.2 + 4) (rb_nw M (rb_O 20 [.int 0, .int 0, .null, .null])) 225 [some (.ref a0), some (.int a1), some (.int a2), some (.int a3)] [.ref M.1]
    refine rb_dup rfl dX0_make_225 ?_
    refine rb_aload_n 0 rfl rfl (rb_isR_ref _) dX0_make_226 ?_
    refine rb_iload_n 2 rfl rfl dX0_make_227 ?_
    obtain ⟨ci105, d100, n101, Q102, h1v103, hdv103, hnv103, hov103, Kv103⟩ := (((K).2.2.2.2.2.2.2.2.2.2.2.2.2.2.1 c1)).2
    refine rb_call (st_X0_96 ci105) (rest := [.ref M.1]) h1v103 rfl rfl (rc_rc rfl hov103) (Nat.le_of_ble_eq_true rfl) hdv103.1 hdv103.2 hnv103.1 hnv103.2 dX0_make_228 (fun o M104 hpv103 => ?_)
    obtain ⟨eo, KKv103⟩ := Kv103 o M104 hpv103
    subst eo
    show rb_Bd κ mX0_make (n.1 + 1 + n101.1, n.2 + 4 + n101.2) M104 231 [some (.ref a0), some (.int a1), some (.int a2), some (.int a3)] [.ref M.1]
    exact rb_aret rfl (Or.inl ⟨_, rfl⟩) (rb_isR_ref _) (KKv103).1.1 (KKv103).1.2 dX0_make_231 (KKv103).2
  · skip
    refine rb_tableIn 232 (by omega) (by omega) (off := 231) (by rw [c1]; rfl) (by decide) dX0_make_1 ?_
    refine rb_new nw_X0_97 (fs := [.int 0, .int 0, .null, .null]) rfl (((K).2.2.2.2.2.2.2.2.2.2.2.2.2.2.2.1 c1)).1.1 (((K).2.2.2.2.2.2.2.2.2.2.2.2.2.2.2.1 c1)).1.2 dX0_make_232 ?_
    show rb_Bd κ mX0_make (n.1 + 1, n.2 + 4) (rb_nw M (rb_O 21 [.int 0, .int 0, .null, .null])) 235 [some (.ref a0), some (.int a1), some (.int a2), some (.int a3)] [.ref M.1]
    refine rb_dup rfl dX0_make_235 ?_
    refine rb_aload_n 0 rfl rfl (rb_isR_ref _) dX0_make_236 ?_
    obtain ⟨ci111, d106, n107, Q108, h1v109, hdv109, hnv109, hov109, Kv109⟩ := (((K).2.2.2.2.2.2.2.2.2.2.2.2.2.2.2.1 c1)).2
    refine rb_call (st_X0_99 ci111) (rest := [.ref M.1]) h1v109 rfl rfl (rc_rc rfl hov109) (Nat.le_of_ble_eq_true rfl) hdv109.1 hdv109.2 hnv109.1 hnv109.2 dX0_make_237 (fun o M110 hpv109 => ?_)
    obtain ⟨eo, KKv109⟩ := Kv109 o M110 hpv109
    subst eo
    show rb_Bd κ mX0_make (n.1 + 1 + n107.1, n.2 + 4 + n107.2) M110 240 [some (.ref a0), some (.int a1), some (.int a2), some (.int a3)] [.ref M.1]
    exact rb_aret rfl (Or.inl ⟨_, rfl⟩) (rb_isR_ref _) (KKv109).1.1 (KKv109).1.2 dX0_make_240 (KKv109).2
  · skip
    refine rb_tableIn 241 (by omega) (by omega) (off := 240) (by rw [c1]; rfl) (by decide) dX0_make_1 ?_
    refine rb_new nw_X0_100 (fs := [.int 0, .int 0, .null, .null]) rfl (((K).2.2.2.2.2.2.2.2.2.2.2.2.2.2.2.2.1 c1)).1.1 (((K).2.2.2.2.2.2.2.2.2.2.2.2.2.2.2.2.1 c1)).1.2 dX0_make_241 ?_
    show rb_Bd κ mX0_make (n.1 + 1, n.2 + 4) (rb_nw M (rb_O 22 [.int 0, .int 0, .null, .null])) 244 [some (.ref a0), some (.int a1), some (.int a2), some (.int a3)] [.ref M.1]
    refine rb_dup rfl dX0_make_244 ?_
    refine rb_aload_n 0 rfl rfl (rb_isR_ref _) dX0_make_245 ?_
    refine rb_iload_n 2 rfl rfl dX0_make_246 ?_
    refine rb_iconst (v := (0 : Int32)) (by decide) dX0_make_247 ?_
    obtain ⟨ci117, d112, n113, Q114, h1v115, hdv115, hnv115, hov115, Kv115⟩ := (((K).2.2.2.2.2.2.2.2.2.2.2.2.2.2.2.2.1 c1)).2
    refine rb_call (st_X0_102 ci117) (rest := [.ref M.1]) h1v115 rfl rfl (rc_rc rfl hov115) (Nat.le_of_ble_eq_true rfl) hdv115.1 hdv115.2 hnv115.1 hnv115.2 dX0_make_248 (fun o M116 hpv115 => ?_)
    obtain ⟨eo, KKv115⟩ := Kv115 o M116 hpv115
    subst eo
    show rb_Bd κ mX0_make (n.1 + 1 + n113.1, n.2 + 4 + n113.2) M116 251 [some (.ref a0), some (.int a1), some (.int a2), some (.int a3)] [.ref M.1]
    exact rb_aret rfl (Or.inl ⟨_, rfl⟩) (rb_isR_ref _) (KKv115).1.1 (KKv115).1.2 dX0_make_251 (KKv115).2
  · skip
    refine rb_tableIn 252 (by omega) (by omega) (off := 251) (by rw [c1]; rfl) (by decide) dX0_make_1 ?_
    refine rb_new nw_X0_103 (fs := [.int 0, .int 0, .null, .null, .null]) rfl (((K).2.2.2.2.2.2.2.2.2.2.2.2.2.2.2.2.2.1 c1)).1.1 (((K).2.2.2.2.2.2.2.2.2.2.2.2.2.2.2.2.2.1 c1)).1.2 dX0_make_252 ?_
    show rb_Bd κ mX0_make (n.1 + 1, n.2 + 5) (rb_nw M (rb_O 23 [.int 0, .int 0, .null, .null, .null])) 255 [some (.ref a0), some (.int a1), some (.int a2), some (.int a3)] [.ref M.1]
    refine rb_dup rfl dX0_make_255 ?_
    refine rb_aload_n 0 rfl rfl (rb_isR_ref _) dX0_make_256 ?_
    refine rb_iload_n 2 rfl rfl dX0_make_257 ?_
    refine rb_iload_n 3 rfl rfl dX0_make_258 ?_
    obtain ⟨ci123, d118, n119, Q120, h1v121, hdv121, hnv121, hov121, Kv121⟩ := (((K).2.2.2.2.2.2.2.2.2.2.2.2.2.2.2.2.2.1 c1)).2
    refine rb_call (st_X0_105 ci123) (rest := [.ref M.1]) h1v121 rfl rfl (rc_rc rfl hov121) (Nat.le_of_ble_eq_true rfl) hdv121.1 hdv121.2 hnv121.1 hnv121.2 dX0_make_259 (fun o M122 hpv121 => ?_)
    obtain ⟨eo, KKv121⟩ := Kv121 o M122 hpv121
    subst eo
    show rb_Bd κ mX0_make (n.1 + 1 + n119.1, n.2 + 5 + n119.2) M122 262 [some (.ref a0), some (.int a1), some (.int a2), some (.int a3)] [.ref M.1]
    exact rb_aret rfl (Or.inl ⟨_, rfl⟩) (rb_isR_ref _) (KKv121).1.1 (KKv121).1.2 dX0_make_262 (KKv121).2
  · skip
    refine rb_tableIn 263 (by omega) (by omega) (off := 262) (by rw [c1]; rfl) (by decide) dX0_make_1 ?_
    refine rb_new nw_X0_106 (fs := [.int 0, .int 0, .null, .null, .null, .null]) rfl (((K).2.2.2.2.2.2.2.2.2.2.2.2.2.2.2.2.2.2.1 c1)).1.1 (((K).2.2.2.2.2.2.2.2.2.2.2.2.2.2.2.2.2.2.1 c1)).1.2 dX0_make_263 ?_
    show rb_Bd κ mX0_make (n.1 + 1, n.2 + 6) (rb_nw M (rb_O 24 [.int 0, .int 0, .null, .null, .null, .null])) 266 [some (.ref a0), some (.int a1), some (.int a2), some (.int a3)] [.ref M.1]
    refine rb_dup rfl dX0_make_266 ?_
    refine rb_aload_n 0 rfl rfl (rb_isR_ref _) dX0_make_267 ?_
    refine rb_iload_n 2 rfl rfl dX0_make_268 ?_
    refine rb_iload_n 3 rfl rfl dX0_make_269 ?_
    obtain ⟨ci129, d124, n125, Q126, h1v127, hdv127, hnv127, hov127, Kv127⟩ := (((K).2.2.2.2.2.2.2.2.2.2.2.2.2.2.2.2.2.2.1 c1)).2
    refine rb_call (st_X0_108 ci129) (rest := [.ref M.1]) h1v127 rfl rfl (rc_rc rfl hov127) (Nat.le_of_ble_eq_true rfl) hdv127.1 hdv127.2 hnv127.1 hnv127.2 dX0_make_270 (fun o M128 hpv127 => ?_)
    obtain ⟨eo, KKv127⟩ := Kv127 o M128 hpv127
    subst eo
    show rb_Bd κ mX0_make (n.1 + 1 + n125.1, n.2 + 6 + n125.2) M128 273 [some (.ref a0), some (.int a1), some (.int a2), some (.int a3)] [.ref M.1]
    exact rb_aret rfl (Or.inl ⟨_, rfl⟩) (rb_isR_ref _) (KKv127).1.1 (KKv127).1.2 dX0_make_273 (KKv127).2
  · skip
    refine rb_tableIn 274 (by omega) (by omega) (off := 273) (by rw [c1]; rfl) (by decide) dX0_make_1 ?_
    refine rb_new nw_X0_109 (fs := [.int 0, .int 0, .null, .null, .null]) rfl (((K).2.2.2.2.2.2.2.2.2.2.2.2.2.2.2.2.2.2.2 c1)).1.1 (((K).2.2.2.2.2.2.2.2.2.2.2.2.2.2.2.2.2.2.2 c1)).1.2 dX0_make_274 ?_
    show rb_Bd κ mX0_make (n.1 + 1, n.2 + 5) (rb_nw M (rb_O 25 [.int 0, .int 0, .null, .null, .null])) 277 [some (.ref a0), some (.int a1), some (.int a2), some (.int a3)] [.ref M.1]
    refine rb_dup rfl dX0_make_277 ?_
    refine rb_aload_n 0 rfl rfl (rb_isR_ref _) dX0_make_278 ?_
    refine rb_iload_n 2 rfl rfl dX0_make_279 ?_
    refine rb_iload_n 3 rfl rfl dX0_make_280 ?_
    obtain ⟨ci135, d130, n131, Q132, h1v133, hdv133, hnv133, hov133, Kv133⟩ := (((K).2.2.2.2.2.2.2.2.2.2.2.2.2.2.2.2.2.2.2 c1)).2
    refine rb_call (st_X0_111 ci135) (rest := [.ref M.1]) h1v133 rfl rfl (rc_rc rfl hov133) (Nat.le_of_ble_eq_true rfl) hdv133.1 hdv133.2 hnv133.1 hnv133.2 dX0_make_281 (fun o M134 hpv133 => ?_)
    obtain ⟨eo, KKv133⟩ := Kv133 o M134 hpv133
    subst eo
    show rb_Bd κ mX0_make (n.1 + 1 + n131.1, n.2 + 5 + n131.2) M134 284 [some (.ref a0), some (.int a1), some (.int a2), some (.int a3)] [.ref M.1]
    exact rb_aret rfl (Or.inl ⟨_, rfl⟩) (rb_isR_ref _) (KKv133).1.1 (KKv133).1.2 dX0_make_284 (KKv133).2
theorem sgX0_isNumber_0 {κ : rb_K} {n : Nat × Nat} {M : rb_H} {a0 : Int32} (K : (∃ (d1 : Nat) (n2 : Nat × Nat) (Q3 : Outcome → rb_H → Prop), rb_Ct κ.1 yX0_in wX0_in d1 n2 [.int a0, .int (-1000 : Int32), .int (1000 : Int32)] M Q3 ∧ rb_dp κ d1 ∧ rb_rom κ (n.1 + n2.1, n.2 + n2.2) ∧ ∀ (o : Outcome) (M5 : rb_H), Q3 o M5 → (∃ (x4 : Int32), o = .returned (some (.int x4)) ∧ (narrow .boolean (.int x4) = .int x4 ∧ rb_fin κ (n.1 + n2.1, n.2 + n2.2) ∧ κ.2.2.1 (.returned (some (.int x4))) M5)))) : rb_Bd κ mX0_isNumber n M 0 [some (.int a0)] [] := by
  refine rb_iload_n 0 rfl rfl dX0_isNumber_0 ?_
  refine rb_sipush (v := (-1000 : Int32)) (by decide) dX0_isNumber_1 ?_
  refine rb_sipush (v := (1000 : Int32)) (by decide) dX0_isNumber_4 ?_
  obtain ⟨d1, n2, Q3, h1x4, hdx4, hnx4, Kx4⟩ := K
  refine rb_call st_X0_45 (rest := []) h1x4 rfl rfl mm_rn (Nat.le_of_ble_eq_true rfl) hdx4.1 hdx4.2 hnx4.1 hnx4.2 dX0_isNumber_7 (fun o M5 hpx4 => ?_)
  obtain ⟨x4, eo, KKx4⟩ := Kx4 o M5 hpx4
  subst eo
  show rb_Bd κ mX0_isNumber (n.1 + n2.1, n.2 + n2.2) M5 10 [some (.int a0)] [.int x4]
  exact rb_iret rfl (KKx4).1 (KKx4).2.1.1 (KKx4).2.1.2 dX0_isNumber_10 (KKx4).2.2
theorem sgX0_wish_0 {κ : rb_K} {n : Nat × Nat} {M : rb_H} {a0 : Nat} {a1 : Int32} {a2 : Int32} (K : (∃ (d1 : Nat) (n2 : Nat × Nat) (Q3 : Outcome → rb_H → Prop), rb_Ct κ.1 yX0_isPart wX0_isPart d1 n2 [.ref a0, .int a1] M Q3 ∧ rb_dp κ d1 ∧ rb_rom κ (n.1 + n2.1, n.2 + n2.2) ∧ rb_ob M a0 0 ∧ ∀ (o : Outcome) (M5 : rb_H), Q3 o M5 → (∃ (x4 : Int32), o = .returned (some (.int x4)) ∧ ((x4 = 0 → (rb_fin κ (n.1 + n2.1, n.2 + n2.2) ∧ κ.2.2.1 (.returned (some (.int (-1 : Int32)))) M5)) ∧ (¬ x4 = 0 → (∃ (d7 : Nat) (n8 : Nat × Nat) (Q9 : Outcome → rb_H → Prop), rb_Ct κ.1 yX0_in wX0_in d7 n8 [.int a2, .int (0 : Int32), .int (11 : Int32)] M5 Q9 ∧ rb_dp κ d7 ∧ rb_rom κ (n.1 + n2.1 + n8.1, n.2 + n2.2 + n8.2) ∧ ∀ (o : Outcome) (M11 : rb_H), Q9 o M11 → (∃ (x10 : Int32), o = .returned (some (.int x10)) ∧ ((¬ x10 = 0 → (∃ (v13 : Value), rb_rd M11 a0 0 7 (v13) ∧ rb_isR v13 ∧ (∃ q14, v13 = .ref q14 ∧ (∃ (d15 : Nat) (n16 : Nat × Nat) (Q17 : Outcome → rb_H → Prop), rb_Ct κ.1 yJ4_isEmpty wJ4_isEmpty d15 n16 [.ref q14] M11 Q17 ∧ rb_dp κ d15 ∧ rb_rom κ (n.1 + n2.1 + n8.1 + n16.1, n.2 + n2.2 + n8.2 + n16.2) ∧ rb_ob M11 q14 7 ∧ ∀ (o : Outcome) (M19 : rb_H), Q17 o M19 → (∃ (x18 : Int32), o = .returned (some (.int x18)) ∧ ((¬ x18 = 0 → (∃ (v21 : Value), rb_rd M19 a0 0 2 (v21) ∧ rb_isR v21 ∧ (∃ q22, v21 = .ref q22 ∧ (∃ (d23 : Nat) (n24 : Nat × Nat) (Q25 : Outcome → rb_H → Prop), rb_Ct κ.1 yJ4_get wJ4_get d23 n24 [.ref q22, .int a1] M19 Q25 ∧ rb_dp κ d23 ∧ rb_rom κ (n.1 + n2.1 + n8.1 + n16.1 + n24.1, n.2 + n2.2 + n8.2 + n16.2 + n24.2) ∧ rb_ob M19 q22 7 ∧ ∀ (o : Outcome) (M27 : rb_H), Q25 o M27 → (∃ (v26 : Value), o = .returned (some v26) ∧ rb_isR v26 ∧ (∃ q28, v26 = .ref q28 ∧ (∃ ci29, rb_ob M27 q28 ci29 ∧ rb_CC ci29 "RoleLoom$Part" ∧ (∃ (v30 : Value), rb_rd M27 q28 5 8 (v30) ∧ rb_isR v30 ∧ (∃ q31, v30 = .ref q31 ∧ (∃ (N32 : Nat) (f33 : Nat → Int32), M27.2 q31 = some (rb_Z N32 f33) ∧ vp_in a2 N32 ∧ vp_nar .boolean (1 : Int32) = (1 : Int32) ∧ (rb_fin κ (n.1 + n2.1 + n8.1 + n16.1 + n24.1, n.2 + n2.2 + n8.2 + n16.2 + n24.2) ∧ κ.2.2.1 (.returned (some (.int (1 : Int32)))) (rb_up M27 q31 (rb_Z N32 (va_up f33 (a2).toNatClampNeg (1 : Int32))))))))))))))) ∧ (x18 = 0 → (rb_fin κ (n.1 + n2.1 + n8.1 + n16.1, n.2 + n2.2 + n8.2 + n16.2) ∧ κ.2.2.1 (.returned (some (.int (-4 : Int32)))) M19)))))))) ∧ (x10 = 0 → (rb_fin κ (n.1 + n2.1 + n8.1, n.2 + n2.2 + n8.2) ∧ κ.2.2.1 (.returned (some (.int (-1 : Int32)))) M11)))))))))) : rb_Bd κ mX0_wish n M 0 [some (.ref a0), some (.int a1), some (.int a2)] [] := by
  refine rb_aload_n 0 rfl rfl (rb_isR_ref _) dX0_wish_0 ?_
  refine rb_iload_n 1 rfl rfl dX0_wish_1 ?_
  obtain ⟨d1, n2, Q3, h1x4, hdx4, hnx4, hox4, Kx4⟩ := K
  refine rb_call st_X0_214_0 (rest := []) h1x4 rfl rfl (rc_rc rfl hox4) (Nat.le_of_ble_eq_true rfl) hdx4.1 hdx4.2 hnx4.1 hnx4.2 dX0_wish_2 (fun o M5 hpx4 => ?_)
  obtain ⟨x4, eo, KKx4⟩ := Kx4 o M5 hpx4
  subst eo
  show rb_Bd κ mX0_wish (n.1 + n2.1, n.2 + n2.2) M5 5 [some (.ref a0), some (.int a1), some (.int a2)] [.int x4]
  refine rb_ifeq 18 (by decide) dX0_wish_5 (fun c6 => ?_) (fun c6 => ?_)
  · skip
    refine rb_iconst (v := (-1 : Int32)) (by decide) dX0_wish_18 ?_
    exact rb_iret rfl rfl (((KKx4).1 c6)).1.1 (((KKx4).1 c6)).1.2 dX0_wish_19 (((KKx4).1 c6)).2
  · skip
    refine rb_iload_n 2 rfl rfl dX0_wish_8 ?_
    refine rb_iconst (v := (0 : Int32)) (by decide) dX0_wish_9 ?_
    refine rb_bipush (v := (11 : Int32)) (by decide) dX0_wish_10 ?_
    obtain ⟨d7, n8, Q9, h1x10, hdx10, hnx10, Kx10⟩ := ((KKx4).2 c6)
    refine rb_call st_X0_45 (rest := []) h1x10 rfl rfl mm_rn (Nat.le_of_ble_eq_true rfl) hdx10.1 hdx10.2 hnx10.1 hnx10.2 dX0_wish_12 (fun o M11 hpx10 => ?_)
    obtain ⟨x10, eo, KKx10⟩ := Kx10 o M11 hpx10
    subst eo
    show rb_Bd κ mX0_wish (n.1 + n2.1 + n8.1, n.2 + n2.2 + n8.2) M11 15 [some (.ref a0), some (.int a1), some (.int a2)] [.int x10]
    refine rb_ifne 20 (by decide) dX0_wish_15 (fun c12 => ?_) (fun c12 => ?_)
    · skip
      refine rb_aload_n 0 rfl rfl (rb_isR_ref _) dX0_wish_20 ?_
      obtain ⟨v13, hrv13, hv13, Kv13⟩ := ((KKx10).1 c12)
      refine rc_get fl_X0_136_0 hrv13 dX0_wish_21 ?_
      obtain ⟨q14, eq14, Kq14⟩ := Kv13
      subst eq14
      obtain ⟨d15, n16, Q17, h1x18, hdx18, hnx18, hox18, Kx18⟩ := Kq14
      refine rb_call st_X0_228_7 (rest := []) h1x18 rfl rfl (rc_rc rfl hox18) (Nat.le_of_ble_eq_true rfl) hdx18.1 hdx18.2 hnx18.1 hnx18.2 dX0_wish_24 (fun o M19 hpx18 => ?_)
      obtain ⟨x18, eo, KKx18⟩ := Kx18 o M19 hpx18
      subst eo
      show rb_Bd κ mX0_wish (n.1 + n2.1 + n8.1 + n16.1, n.2 + n2.2 + n8.2 + n16.2) M19 27 [some (.ref a0), some (.int a1), some (.int a2)] [.int x18]
      refine rb_ifne 33 (by decide) dX0_wish_27 (fun c20 => ?_) (fun c20 => ?_)
      · skip
        refine rb_aload_n 0 rfl rfl (rb_isR_ref _) dX0_wish_33 ?_
        obtain ⟨v21, hrv21, hv21, Kv21⟩ := ((KKx18).1 c20)
        refine rc_get fl_X0_125_0 hrv21 dX0_wish_34 ?_
        refine rb_iload_n 1 rfl rfl dX0_wish_37 ?_
        obtain ⟨q22, eq22, Kq22⟩ := Kv21
        subst eq22
        obtain ⟨d23, n24, Q25, h1v26, hdv26, hnv26, hov26, Kv26⟩ := Kq22
        refine rb_call st_X0_218_7 (rest := []) h1v26 rfl rfl (rc_rc rfl hov26) (Nat.le_of_ble_eq_true rfl) hdv26.1 hdv26.2 hnv26.1 hnv26.2 dX0_wish_38 (fun o M27 hpv26 => ?_)
        obtain ⟨v26, eo, hv26, KKv26⟩ := Kv26 o M27 hpv26
        subst eo
        show rb_Bd κ mX0_wish (n.1 + n2.1 + n8.1 + n16.1 + n24.1, n.2 + n2.2 + n8.2 + n16.2 + n24.2) M27 41 [some (.ref a0), some (.int a1), some (.int a2)] [v26]
        obtain ⟨q28, eq28, Kq28⟩ := KKv26
        subst eq28
        obtain ⟨ci29, ⟨fsci29, hoci29⟩, hcci29, Kci29⟩ := Kq28
        refine rb_cast q416 hoci29 hcci29 dX0_wish_41 ?_
        obtain ⟨v30, hrv30, hv30, Kv30⟩ := Kci29
        refine rc_get fl_X0_263_5 hrv30 dX0_wish_44 ?_
        refine rb_iload_n 2 rfl rfl dX0_wish_47 ?_
        refine rb_iconst (v := (1 : Int32)) (by decide) dX0_wish_48 ?_
        obtain ⟨q31, eq31, Kq31⟩ := Kv30
        subst eq31
        obtain ⟨N32, f33, hMf33, hif33, hbf33, Kf33⟩ := Kq31
        refine rb_zast hMf33 hif33 hbf33 dX0_wish_49 ?_
        refine rb_iconst (v := (1 : Int32)) (by decide) dX0_wish_50 ?_
        exact rb_iret rfl rfl (Kf33).1.1 (Kf33).1.2 dX0_wish_51 (Kf33).2
      · skip
        refine rb_bipush (v := (-4 : Int32)) (by decide) dX0_wish_30 ?_
        exact rb_iret rfl rfl (((KKx18).2 c20)).1.1 (((KKx18).2 c20)).1.2 dX0_wish_32 (((KKx18).2 c20)).2
    · skip
      refine rb_iconst (v := (-1 : Int32)) (by decide) dX0_wish_18 ?_
      exact rb_iret rfl rfl (((KKx10).2 c12)).1.1 (((KKx10).2 c12)).1.2 dX0_wish_19 (((KKx10).2 c12)).2
theorem sgX0_name_0 {κ : rb_K} {n : Nat × Nat} {M : rb_H} {a0 : Nat} {a1 : Int32} (K : (∃ (d1 : Nat) (n2 : Nat × Nat) (Q3 : Outcome → rb_H → Prop), rb_Ct κ.1 yX0_isPart wX0_isPart d1 n2 [.ref a0, .int a1] M Q3 ∧ rb_dp κ d1 ∧ rb_rom κ (n.1 + n2.1, n.2 + n2.2) ∧ rb_ob M a0 0 ∧ ∀ (o : Outcome) (M5 : rb_H), Q3 o M5 → (∃ (x4 : Int32), o = .returned (some (.int x4)) ∧ ((x4 = 0 → (rb_fin κ (n.1 + n2.1, n.2 + n2.2) ∧ κ.2.2.1 (.returned (some (.int (-1 : Int32)))) M5)) ∧ (¬ x4 = 0 → (∃ (v7 : Value), rb_rd M5 a0 0 10 (v7) ∧ rb_isR v7 ∧ (∃ (v8 : Value), rb_rd M5 a0 0 2 (v8) ∧ rb_isR v8 ∧ (∃ q9, v8 = .ref q9 ∧ (∃ (d10 : Nat) (n11 : Nat × Nat) (Q12 : Outcome → rb_H → Prop), rb_Ct κ.1 yJ4_get wJ4_get d10 n11 [.ref q9, .int a1] M5 Q12 ∧ rb_dp κ d10 ∧ rb_rom κ (n.1 + n2.1 + n11.1, n.2 + n2.2 + n11.2) ∧ rb_ob M5 q9 7 ∧ ∀ (o : Outcome) (M14 : rb_H), Q12 o M14 → (∃ (v13 : Value), o = .returned (some v13) ∧ rb_isR v13 ∧ (∃ q15, v7 = .ref q15 ∧ (∃ (d16 : Nat) (n17 : Nat × Nat) (Q18 : Outcome → rb_H → Prop), rb_Ct κ.1 yJ4_contains wJ4_contains d16 n17 [.ref q15, v13] M14 Q18 ∧ rb_dp κ d16 ∧ rb_rom κ (n.1 + n2.1 + n11.1 + n17.1, n.2 + n2.2 + n11.2 + n17.2) ∧ rb_ob M14 q15 7 ∧ ∀ (o : Outcome) (M20 : rb_H), Q18 o M20 → (∃ (x19 : Int32), o = .returned (some (.int x19)) ∧ ((x19 = 0 → (∃ (v22 : Value), rb_rd M20 a0 0 10 (v22) ∧ rb_isR v22 ∧ (∃ q23, v22 = .ref q23 ∧ (∃ (d24 : Nat) (n25 : Nat × Nat) (Q26 : Outcome → rb_H → Prop), rb_Ct κ.1 yJ4_size wJ4_size d24 n25 [.ref q23] M20 Q26 ∧ rb_dp κ d24 ∧ rb_rom κ (n.1 + n2.1 + n11.1 + n17.1 + n25.1, n.2 + n2.2 + n11.2 + n17.2 + n25.2) ∧ rb_ob M20 q23 7 ∧ ∀ (o : Outcome) (M28 : rb_H), Q26 o M28 → (∃ (x27 : Int32), o = .returned (some (.int x27)) ∧ ((¬ x27 = (8 : Int32) → (∃ (v30 : Value), rb_rd M28 a0 0 10 (v30) ∧ rb_isR v30 ∧ (∃ (v31 : Value), rb_rd M28 a0 0 2 (v31) ∧ rb_isR v31 ∧ (∃ q32, v31 = .ref q32 ∧ (∃ (d33 : Nat) (n34 : Nat × Nat) (Q35 : Outcome → rb_H → Prop), rb_Ct κ.1 yJ4_get wJ4_get d33 n34 [.ref q32, .int a1] M28 Q35 ∧ rb_dp κ d33 ∧ rb_rom κ (n.1 + n2.1 + n11.1 + n17.1 + n25.1 + n34.1, n.2 + n2.2 + n11.2 + n17.2 + n25.2 + n34.2) ∧ rb_ob M28 q32 7 ∧ ∀ (o : Outcome) (M37 : rb_H), Q35 o M37 → (∃ (v36 : Value), o = .returned (some v36) ∧ rb_isR v36 ∧ (∃ q38, v36 = .ref q38 ∧ (∃ ci39, rb_ob M37 q38 ci39 ∧ rb_CC ci39 "RoleLoom$Part" ∧ (∃ q40, v30 = .ref q40 ∧ (∃ (d41 : Nat) (n42 : Nat × Nat) (Q43 : Outcome → rb_H → Prop), rb_Ct κ.1 yJ4_add wJ4_add d41 n42 [.ref q40, .ref q38] M37 Q43 ∧ rb_dp κ d41 ∧ rb_rom κ (n.1 + n2.1 + n11.1 + n17.1 + n25.1 + n34.1 + n42.1, n.2 + n2.2 + n11.2 + n17.2 + n25.2 + n34.2 + n42.2) ∧ rb_ob M37 q40 7 ∧ ∀ (o : Outcome) (M45 : rb_H), Q43 o M45 → (∃ (x44 : Int32), o = .returned (some (.int x44)) ∧ (∃ (v46 : Value), rb_rd M45 a0 0 10 (v46) ∧ rb_isR v46 ∧ (∃ q47, v46 = .ref q47 ∧ (∃ (d48 : Nat) (n49 : Nat × Nat) (Q50 : Outcome → rb_H → Prop), rb_Ct κ.1 yJ4_size wJ4_size d48 n49 [.ref q47] M45 Q50 ∧ rb_dp κ d48 ∧ rb_rom κ (n.1 + n2.1 + n11.1 + n17.1 + n25.1 + n34.1 + n42.1 + n49.1, n.2 + n2.2 + n11.2 + n17.2 + n25.2 + n34.2 + n42.2 + n49.2) ∧ rb_ob M45 q47 7 ∧ ∀ (o : Outcome) (M52 : rb_H), Q50 o M52 → (∃ (x51 : Int32), o = .returned (some (.int x51)) ∧ (rb_fin κ (n.1 + n2.1 + n11.1 + n17.1 + n25.1 + n34.1 + n42.1 + n49.1, n.2 + n2.2 + n11.2 + n17.2 + n25.2 + n34.2 + n42.2 + n49.2) ∧ κ.2.2.1 (.returned (some (.int x51))) M52)))))))))))))))) ∧ (x27 = (8 : Int32) → (rb_fin κ (n.1 + n2.1 + n11.1 + n17.1 + n25.1, n.2 + n2.2 + n11.2 + n17.2 + n25.2) ∧ κ.2.2.1 (.returned (some (.int (-2 : Int32)))) M28)))))))) ∧ (¬ x19 = 0 → (rb_fin κ (n.1 + n2.1 + n11.1 + n17.1, n.2 + n2.2 + n11.2 + n17.2) ∧ κ.2.2.1 (.returned (some (.int (-1 : Int32)))) M20)))))))))))))))) : rb_Bd κ mX0_name n M 0 [some (.ref a0), some (.int a1)] [] := by
  refine rb_aload_n 0 rfl rfl (rb_isR_ref _) dX0_name_0 ?_
  refine rb_iload_n 1 rfl rfl dX0_name_1 ?_
  obtain ⟨d1, n2, Q3, h1x4, hdx4, hnx4, hox4, Kx4⟩ := K
  refine rb_call st_X0_214_0 (rest := []) h1x4 rfl rfl (rc_rc rfl hox4) (Nat.le_of_ble_eq_true rfl) hdx4.1 hdx4.2 hnx4.1 hnx4.2 dX0_name_2 (fun o M5 hpx4 => ?_)
  obtain ⟨x4, eo, KKx4⟩ := Kx4 o M5 hpx4
  subst eo
  show rb_Bd κ mX0_name (n.1 + n2.1, n.2 + n2.2) M5 5 [some (.ref a0), some (.int a1)] [.int x4]
  refine rb_ifeq 26 (by decide) dX0_name_5 (fun c6 => ?_) (fun c6 => ?_)
  · skip
    refine rb_iconst (v := (-1 : Int32)) (by decide) dX0_name_26 ?_
    exact rb_iret rfl rfl (((KKx4).1 c6)).1.1 (((KKx4).1 c6)).1.2 dX0_name_27 (((KKx4).1 c6)).2
  · skip
    refine rb_aload_n 0 rfl rfl (rb_isR_ref _) dX0_name_8 ?_
    obtain ⟨v7, hrv7, hv7, Kv7⟩ := ((KKx4).2 c6)
    refine rc_get fl_X0_146_0 hrv7 dX0_name_9 ?_
    refine rb_aload_n 0 rfl rfl (rb_isR_ref _) dX0_name_12 ?_
    obtain ⟨v8, hrv8, hv8, Kv8⟩ := Kv7
    refine rc_get fl_X0_125_0 hrv8 dX0_name_13 ?_
    refine rb_iload_n 1 rfl rfl dX0_name_16 ?_
    obtain ⟨q9, eq9, Kq9⟩ := Kv8
    subst eq9
    obtain ⟨d10, n11, Q12, h1v13, hdv13, hnv13, hov13, Kv13⟩ := Kq9
    refine rb_call st_X0_218_7 (rest := [v7]) h1v13 rfl rfl (rc_rc rfl hov13) (by simp [rb_isR_cat hv7, rb_cR, rb_cI, rb_cJ, rb_cN]) hdv13.1 hdv13.2 hnv13.1 hnv13.2 dX0_name_17 (fun o M14 hpv13 => ?_)
    obtain ⟨v13, eo, hv13, KKv13⟩ := Kv13 o M14 hpv13
    subst eo
    show rb_Bd κ mX0_name (n.1 + n2.1 + n11.1, n.2 + n2.2 + n11.2) M14 20 [some (.ref a0), some (.int a1)] [v13, v7]
    obtain ⟨q15, eq15, Kq15⟩ := KKv13
    subst eq15
    obtain ⟨d16, n17, Q18, h1x19, hdx19, hnx19, hox19, Kx19⟩ := Kq15
    refine rb_call st_X0_225_7 (rest := []) h1x19 rfl rfl (rc_rc rfl hox19) (Nat.le_of_ble_eq_true rfl) hdx19.1 hdx19.2 hnx19.1 hnx19.2 dX0_name_20 (fun o M20 hpx19 => ?_)
    obtain ⟨x19, eo, KKx19⟩ := Kx19 o M20 hpx19
    subst eo
    show rb_Bd κ mX0_name (n.1 + n2.1 + n11.1 + n17.1, n.2 + n2.2 + n11.2 + n17.2) M20 23 [some (.ref a0), some (.int a1)] [.int x19]
    refine rb_ifeq 28 (by decide) dX0_name_23 (fun c21 => ?_) (fun c21 => ?_)
    · skip
      refine rb_aload_n 0 rfl rfl (rb_isR_ref _) dX0_name_28 ?_
      obtain ⟨v22, hrv22, hv22, Kv22⟩ := ((KKx19).1 c21)
      refine rc_get fl_X0_146_0 hrv22 dX0_name_29 ?_
      obtain ⟨q23, eq23, Kq23⟩ := Kv22
      subst eq23
      obtain ⟨d24, n25, Q26, h1x27, hdx27, hnx27, hox27, Kx27⟩ := Kq23
      refine rb_call st_X0_201_7 (rest := []) h1x27 rfl rfl (rc_rc rfl hox27) (Nat.le_of_ble_eq_true rfl) hdx27.1 hdx27.2 hnx27.1 hnx27.2 dX0_name_32 (fun o M28 hpx27 => ?_)
      obtain ⟨x27, eo, KKx27⟩ := Kx27 o M28 hpx27
      subst eo
      show rb_Bd κ mX0_name (n.1 + n2.1 + n11.1 + n17.1 + n25.1, n.2 + n2.2 + n11.2 + n17.2 + n25.2) M28 35 [some (.ref a0), some (.int a1)] [.int x27]
      refine rb_bipush (v := (8 : Int32)) (by decide) dX0_name_35 ?_
      refine rb_icne 43 (by decide) dX0_name_37 (fun c29 => ?_) (fun c29 => ?_)
      · skip
        refine rb_aload_n 0 rfl rfl (rb_isR_ref _) dX0_name_43 ?_
        obtain ⟨v30, hrv30, hv30, Kv30⟩ := ((KKx27).1 c29)
        refine rc_get fl_X0_146_0 hrv30 dX0_name_44 ?_
        refine rb_aload_n 0 rfl rfl (rb_isR_ref _) dX0_name_47 ?_
        obtain ⟨v31, hrv31, hv31, Kv31⟩ := Kv30
        refine rc_get fl_X0_125_0 hrv31 dX0_name_48 ?_
        refine rb_iload_n 1 rfl rfl dX0_name_51 ?_
        obtain ⟨q32, eq32, Kq32⟩ := Kv31
        subst eq32
        obtain ⟨d33, n34, Q35, h1v36, hdv36, hnv36, hov36, Kv36⟩ := Kq32
        refine rb_call st_X0_218_7 (rest := [v30]) h1v36 rfl rfl (rc_rc rfl hov36) (by simp [rb_isR_cat hv30, rb_cR, rb_cI, rb_cJ, rb_cN]) hdv36.1 hdv36.2 hnv36.1 hnv36.2 dX0_name_52 (fun o M37 hpv36 => ?_)
        obtain ⟨v36, eo, hv36, KKv36⟩ := Kv36 o M37 hpv36
        subst eo
        show rb_Bd κ mX0_name (n.1 + n2.1 + n11.1 + n17.1 + n25.1 + n34.1, n.2 + n2.2 + n11.2 + n17.2 + n25.2 + n34.2) M37 55 [some (.ref a0), some (.int a1)] [v36, v30]
        obtain ⟨q38, eq38, Kq38⟩ := KKv36
        subst eq38
        obtain ⟨ci39, ⟨fsci39, hoci39⟩, hcci39, Kci39⟩ := Kq38
        refine rb_cast q416 hoci39 hcci39 dX0_name_55 ?_
        obtain ⟨q40, eq40, Kq40⟩ := Kci39
        subst eq40
        obtain ⟨d41, n42, Q43, h1x44, hdx44, hnx44, hox44, Kx44⟩ := Kq40
        refine rb_call st_X0_210_7 (rest := []) h1x44 rfl rfl (rc_rc rfl hox44) (Nat.le_of_ble_eq_true rfl) hdx44.1 hdx44.2 hnx44.1 hnx44.2 dX0_name_58 (fun o M45 hpx44 => ?_)
        obtain ⟨x44, eo, KKx44⟩ := Kx44 o M45 hpx44
        subst eo
        show rb_Bd κ mX0_name (n.1 + n2.1 + n11.1 + n17.1 + n25.1 + n34.1 + n42.1, n.2 + n2.2 + n11.2 + n17.2 + n25.2 + n34.2 + n42.2) M45 61 [some (.ref a0), some (.int a1)] [.int x44]
        refine rb_pop rfl dX0_name_61 ?_
        refine rb_aload_n 0 rfl rfl (rb_isR_ref _) dX0_name_62 ?_
        obtain ⟨v46, hrv46, hv46, Kv46⟩ := KKx44
        refine rc_get fl_X0_146_0 hrv46 dX0_name_63 ?_
        obtain ⟨q47, eq47, Kq47⟩ := Kv46
        subst eq47
        obtain ⟨d48, n49, Q50, h1x51, hdx51, hnx51, hox51, Kx51⟩ := Kq47
        refine rb_call st_X0_201_7 (rest := []) h1x51 rfl rfl (rc_rc rfl hox51) (Nat.le_of_ble_eq_true rfl) hdx51.1 hdx51.2 hnx51.1 hnx51.2 dX0_name_66 (fun o M52 hpx51 => ?_)
        obtain ⟨x51, eo, KKx51⟩ := Kx51 o M52 hpx51
        subst eo
        show rb_Bd κ mX0_name (n.1 + n2.1 + n11.1 + n17.1 + n25.1 + n34.1 + n42.1 + n49.1, n.2 + n2.2 + n11.2 + n17.2 + n25.2 + n34.2 + n42.2 + n49.2) M52 69 [some (.ref a0), some (.int a1)] [.int x51]
        exact rb_iret rfl rfl (KKx51).1.1 (KKx51).1.2 dX0_name_69 (KKx51).2
      · skip
        refine rb_bipush (v := (-2 : Int32)) (by decide) dX0_name_40 ?_
        exact rb_iret rfl rfl (((KKx27).2 c29)).1.1 (((KKx27).2 c29)).1.2 dX0_name_42 (((KKx27).2 c29)).2
    · skip
      refine rb_iconst (v := (-1 : Int32)) (by decide) dX0_name_26 ?_
      exact rb_iret rfl rfl (((KKx19).2 c21)).1.1 (((KKx19).2 c21)).1.2 dX0_name_27 (((KKx19).2 c21)).2
theorem sgX0_exclude_0 {κ : rb_K} {n : Nat × Nat} {M : rb_H} {a0 : Nat} {a1 : Int32} {a2 : Int32} (K : (∃ (d1 : Nat) (n2 : Nat × Nat) (Q3 : Outcome → rb_H → Prop), rb_Ct κ.1 yX0_isPart wX0_isPart d1 n2 [.ref a0, .int a1] M Q3 ∧ rb_dp κ d1 ∧ rb_rom κ (n.1 + n2.1, n.2 + n2.2) ∧ rb_ob M a0 0 ∧ ∀ (o : Outcome) (M5 : rb_H), Q3 o M5 → (∃ (x4 : Int32), o = .returned (some (.int x4)) ∧ ((x4 = 0 → (rb_fin κ (n.1 + n2.1, n.2 + n2.2) ∧ κ.2.2.1 (.returned (some (.int (-1 : Int32)))) M5)) ∧ (¬ x4 = 0 → (∃ (d7 : Nat) (n8 : Nat × Nat) (Q9 : Outcome → rb_H → Prop), rb_Ct κ.1 yX0_in wX0_in d7 n8 [.int a2, .int (0 : Int32), .int (11 : Int32)] M5 Q9 ∧ rb_dp κ d7 ∧ rb_rom κ (n.1 + n2.1 + n8.1, n.2 + n2.2 + n8.2) ∧ ∀ (o : Outcome) (M11 : rb_H), Q9 o M11 → (∃ (x10 : Int32), o = .returned (some (.int x10)) ∧ ((¬ x10 = 0 → (∃ (x13 : Int32), rb_rd M11 a0 0 13 (.int x13) ∧ ((¬ x13 = (6 : Int32) → (∃ (v15 : Value), rb_rd M11 a0 0 11 (v15) ∧ rb_isR v15 ∧ (∃ (x16 : Int32), rb_rd M11 a0 0 13 (.int x16) ∧ (∃ q17, v15 = .ref q17 ∧ (∃ (N18 : Nat) (f19 : Nat → Int32), M11.2 q17 = some (rb_I N18 f19) ∧ vp_in x16 N18 ∧ (∃ (v20 : Value), rb_rd (rb_up M11 q17 (rb_I N18 (va_up f19 (x16).toNatClampNeg a1))) a0 0 12 (v20) ∧ rb_isR v20 ∧ (∃ (x21 : Int32), rb_rd (rb_up M11 q17 (rb_I N18 (va_up f19 (x16).toNatClampNeg a1))) a0 0 13 (.int x21) ∧ (∃ q22, v20 = .ref q22 ∧ (∃ (N23 : Nat) (f24 : Nat → Int32), (rb_up M11 q17 (rb_I N18 (va_up f19 (x16).toNatClampNeg a1))).2 q22 = some (rb_I N23 f24) ∧ vp_in x21 N23 ∧ (∃ (x25 : Int32), rb_rd (rb_up (rb_up M11 q17 (rb_I N18 (va_up f19 (x16).toNatClampNeg a1))) q22 (rb_I N23 (va_up f24 (x21).toNatClampNeg a2))) a0 0 13 (.int x25) ∧ (∃ fs26, (rb_up (rb_up M11 q17 (rb_I N18 (va_up f19 (x16).toNatClampNeg a1))) q22 (rb_I N23 (va_up f24 (x21).toNatClampNeg a2))).2 a0 = some (rb_O 0 fs26) ∧ 13 < fs26.length ∧ (∃ (x27 : Int32), rb_rd (rb_up (rb_up (rb_up M11 q17 (rb_I N18 (va_up f19 (x16).toNatClampNeg a1))) q22 (rb_I N23 (va_up f24 (x21).toNatClampNeg a2))) a0 (rb_O 0 (fs26.set 13 (.int (x25 + (1 : Int32)))))) a0 0 13 (.int x27) ∧ (rb_fin κ (n.1 + n2.1 + n8.1, n.2 + n2.2 + n8.2) ∧ κ.2.2.1 (.returned (some (.int x27))) (rb_up (rb_up (rb_up M11 q17 (rb_I N18 (va_up f19 (x16).toNatClampNeg a1))) q22 (rb_I N23 (va_up f24 (x21).toNatClampNeg a2))) a0 (rb_O 0 (fs26.set 13 (.int (x25 + (1 : Int32))))))))))))))))))) ∧ (x13 = (6 : Int32) → (rb_fin κ (n.1 + n2.1 + n8.1, n.2 + n2.2 + n8.2) ∧ κ.2.2.1 (.returned (some (.int (-2 : Int32)))) M11))))) ∧ (x10 = 0 → (rb_fin κ (n.1 + n2.1 + n8.1, n.2 + n2.2 + n8.2) ∧ κ.2.2.1 (.returned (some (.int (-1 : Int32)))) M11)))))))))) : rb_Bd κ mX0_exclude n M 0 [some (.ref a0), some (.int a1), some (.int a2)] [] := by
  refine rb_aload_n 0 rfl rfl (rb_isR_ref _) dX0_exclude_0 ?_
  refine rb_iload_n 1 rfl rfl dX0_exclude_1 ?_
  obtain ⟨d1, n2, Q3, h1x4, hdx4, hnx4, hox4, Kx4⟩ := K
  refine rb_call st_X0_214_0 (rest := []) h1x4 rfl rfl (rc_rc rfl hox4) (Nat.le_of_ble_eq_true rfl) hdx4.1 hdx4.2 hnx4.1 hnx4.2 dX0_exclude_2 (fun o M5 hpx4 => ?_)
  obtain ⟨x4, eo, KKx4⟩ := Kx4 o M5 hpx4
  subst eo
  show rb_Bd κ mX0_exclude (n.1 + n2.1, n.2 + n2.2) M5 5 [some (.ref a0), some (.int a1), some (.int a2)] [.int x4]
  refine rb_ifeq 18 (by decide) dX0_exclude_5 (fun c6 => ?_) (fun c6 => ?_)
  · skip
    refine rb_iconst (v := (-1 : Int32)) (by decide) dX0_exclude_18 ?_
    exact rb_iret rfl rfl (((KKx4).1 c6)).1.1 (((KKx4).1 c6)).1.2 dX0_exclude_19 (((KKx4).1 c6)).2
  · skip
    refine rb_iload_n 2 rfl rfl dX0_exclude_8 ?_
    refine rb_iconst (v := (0 : Int32)) (by decide) dX0_exclude_9 ?_
    refine rb_bipush (v := (11 : Int32)) (by decide) dX0_exclude_10 ?_
    obtain ⟨d7, n8, Q9, h1x10, hdx10, hnx10, Kx10⟩ := ((KKx4).2 c6)
    refine rb_call st_X0_45 (rest := []) h1x10 rfl rfl mm_rn (Nat.le_of_ble_eq_true rfl) hdx10.1 hdx10.2 hnx10.1 hnx10.2 dX0_exclude_12 (fun o M11 hpx10 => ?_)
    obtain ⟨x10, eo, KKx10⟩ := Kx10 o M11 hpx10
    subst eo
    show rb_Bd κ mX0_exclude (n.1 + n2.1 + n8.1, n.2 + n2.2 + n8.2) M11 15 [some (.ref a0), some (.int a1), some (.int a2)] [.int x10]
    refine rb_ifne 20 (by decide) dX0_exclude_15 (fun c12 => ?_) (fun c12 => ?_)
    · skip
      refine rb_aload_n 0 rfl rfl (rb_isR_ref _) dX0_exclude_20 ?_
      obtain ⟨x13, hrx13, Kx13⟩ := ((KKx10).1 c12)
      refine rc_get fl_X0_266_0 hrx13 dX0_exclude_21 ?_
      refine rb_bipush (v := (6 : Int32)) (by decide) dX0_exclude_24 ?_
      refine rb_icne 32 (by decide) dX0_exclude_26 (fun c14 => ?_) (fun c14 => ?_)
      · skip
        refine rb_aload_n 0 rfl rfl (rb_isR_ref _) dX0_exclude_32 ?_
        obtain ⟨v15, hrv15, hv15, Kv15⟩ := ((Kx13).1 c14)
        refine rc_get fl_X0_149_0 hrv15 dX0_exclude_33 ?_
        refine rb_aload_n 0 rfl rfl (rb_isR_ref _) dX0_exclude_36 ?_
        obtain ⟨x16, hrx16, Kx16⟩ := Kv15
        refine rc_get fl_X0_266_0 hrx16 dX0_exclude_37 ?_
        refine rb_iload_n 1 rfl rfl dX0_exclude_40 ?_
        obtain ⟨q17, eq17, Kq17⟩ := Kx16
        subst eq17
        obtain ⟨N18, f19, hMf19, hif19, Kf19⟩ := Kq17
        refine rb_iast hMf19 hif19 dX0_exclude_41 ?_
        refine rb_aload_n 0 rfl rfl (rb_isR_ref _) dX0_exclude_42 ?_
        obtain ⟨v20, hrv20, hv20, Kv20⟩ := Kf19
        refine rc_get fl_X0_152_0 hrv20 dX0_exclude_43 ?_
        refine rb_aload_n 0 rfl rfl (rb_isR_ref _) dX0_exclude_46 ?_
        obtain ⟨x21, hrx21, Kx21⟩ := Kv20
        refine rc_get fl_X0_266_0 hrx21 dX0_exclude_47 ?_
        refine rb_iload_n 2 rfl rfl dX0_exclude_50 ?_
        obtain ⟨q22, eq22, Kq22⟩ := Kx21
        subst eq22
        obtain ⟨N23, f24, hMf24, hif24, Kf24⟩ := Kq22
        refine rb_iast hMf24 hif24 dX0_exclude_51 ?_
        refine rb_aload_n 0 rfl rfl (rb_isR_ref _) dX0_exclude_52 ?_
        refine rb_dup rfl dX0_exclude_53 ?_
        obtain ⟨x25, hrx25, Kx25⟩ := Kf24
        refine rc_get fl_X0_266_0 hrx25 dX0_exclude_54 ?_
        refine rb_iconst (v := (1 : Int32)) (by decide) dX0_exclude_57 ?_
        refine rb_iadd (z := (x25 + (1 : Int32))) rfl dX0_exclude_58 ?_
        obtain ⟨fs26, hMfs26, hlfs26, Kfs26⟩ := Kx25
        refine rb_put fl_X0_266_0 (fun q hq => by cases hq; exact Or.inl rfl) rfl rfl hMfs26 hlfs26 dX0_exclude_59 ?_
        refine rb_aload_n 0 rfl rfl (rb_isR_ref _) dX0_exclude_62 ?_
        obtain ⟨x27, hrx27, Kx27⟩ := Kfs26
        refine rc_get fl_X0_266_0 hrx27 dX0_exclude_63 ?_
        exact rb_iret rfl rfl (Kx27).1.1 (Kx27).1.2 dX0_exclude_66 (Kx27).2
      · skip
        refine rb_bipush (v := (-2 : Int32)) (by decide) dX0_exclude_29 ?_
        exact rb_iret rfl rfl (((Kx13).2 c14)).1.1 (((Kx13).2 c14)).1.2 dX0_exclude_31 (((Kx13).2 c14)).2
    · skip
      refine rb_iconst (v := (-1 : Int32)) (by decide) dX0_exclude_18 ?_
      exact rb_iret rfl rfl (((KKx10).2 c12)).1.1 (((KKx10).2 c12)).1.2 dX0_exclude_19 (((KKx10).2 c12)).2
theorem sgX0_alias_0 {κ : rb_K} {n : Nat × Nat} {M : rb_H} {a0 : Nat} {a1 : Int32} {a2 : Int32} {a3 : Int32} (K : (∃ (d1 : Nat) (n2 : Nat × Nat) (Q3 : Outcome → rb_H → Prop), rb_Ct κ.1 yX0_in wX0_in d1 n2 [.int a1, .int (0 : Int32), .int (3 : Int32)] M Q3 ∧ rb_dp κ d1 ∧ rb_rom κ (n.1 + n2.1, n.2 + n2.2) ∧ ∀ (o : Outcome) (M5 : rb_H), Q3 o M5 → (∃ (x4 : Int32), o = .returned (some (.int x4)) ∧ ((x4 = 0 → (rb_fin κ (n.1 + n2.1, n.2 + n2.2) ∧ κ.2.2.1 (.returned (some (.int (-1 : Int32)))) M5)) ∧ (¬ x4 = 0 → (∃ (d7 : Nat) (n8 : Nat × Nat) (Q9 : Outcome → rb_H → Prop), rb_Ct κ.1 yX0_isPart wX0_isPart d7 n8 [.ref a0, .int a2] M5 Q9 ∧ rb_dp κ d7 ∧ rb_rom κ (n.1 + n2.1 + n8.1, n.2 + n2.2 + n8.2) ∧ rb_ob M5 a0 0 ∧ ∀ (o : Outcome) (M11 : rb_H), Q9 o M11 → (∃ (x10 : Int32), o = .returned (some (.int x10)) ∧ ((x10 = 0 → (rb_fin κ (n.1 + n2.1 + n8.1, n.2 + n2.2 + n8.2) ∧ κ.2.2.1 (.returned (some (.int (-1 : Int32)))) M11)) ∧ (¬ x10 = 0 → (∃ (d13 : Nat) (n14 : Nat × Nat) (Q15 : Outcome → rb_H → Prop), rb_Ct κ.1 yX0_in wX0_in d13 n14 [.int a3, .int (0 : Int32), .int (11 : Int32)] M11 Q15 ∧ rb_dp κ d13 ∧ rb_rom κ (n.1 + n2.1 + n8.1 + n14.1, n.2 + n2.2 + n8.2 + n14.2) ∧ ∀ (o : Outcome) (M17 : rb_H), Q15 o M17 → (∃ (x16 : Int32), o = .returned (some (.int x16)) ∧ ((¬ x16 = 0 → (∃ (v19 : Value), rb_rd M17 a0 0 14 (v19) ∧ rb_isR v19 ∧ (∃ q20, v19 = .ref q20 ∧ (∃ (N21 : Nat) (f22 : Nat → Int32), M17.2 q20 = some (rb_I N21 f22) ∧ vp_in a1 N21 ∧ (∃ (v23 : Value), rb_rd (rb_up M17 q20 (rb_I N21 (va_up f22 (a1).toNatClampNeg a2))) a0 0 15 (v23) ∧ rb_isR v23 ∧ (∃ q24, v23 = .ref q24 ∧ (∃ (N25 : Nat) (f26 : Nat → Int32), (rb_up M17 q20 (rb_I N21 (va_up f22 (a1).toNatClampNeg a2))).2 q24 = some (rb_I N25 f26) ∧ vp_in a1 N25 ∧ (rb_fin κ (n.1 + n2.1 + n8.1 + n14.1, n.2 + n2.2 + n8.2 + n14.2) ∧ κ.2.2.1 (.returned (some (.int (1 : Int32)))) (rb_up (rb_up M17 q20 (rb_I N21 (va_up f22 (a1).toNatClampNeg a2))) q24 (rb_I N25 (va_up f26 (a1).toNatClampNeg a3))))))))))) ∧ (x16 = 0 → (rb_fin κ (n.1 + n2.1 + n8.1 + n14.1, n.2 + n2.2 + n8.2 + n14.2) ∧ κ.2.2.1 (.returned (some (.int (-1 : Int32)))) M17)))))))))))))) : rb_Bd κ mX0_alias n M 0 [some (.ref a0), some (.int a1), some (.int a2), some (.int a3)] [] := by
  refine rb_iload_n 1 rfl rfl dX0_alias_0 ?_
  refine rb_iconst (v := (0 : Int32)) (by decide) dX0_alias_1 ?_
  refine rb_iconst (v := (3 : Int32)) (by decide) dX0_alias_2 ?_
  obtain ⟨d1, n2, Q3, h1x4, hdx4, hnx4, Kx4⟩ := K
  refine rb_call st_X0_45 (rest := []) h1x4 rfl rfl mm_rn (Nat.le_of_ble_eq_true rfl) hdx4.1 hdx4.2 hnx4.1 hnx4.2 dX0_alias_3 (fun o M5 hpx4 => ?_)
  obtain ⟨x4, eo, KKx4⟩ := Kx4 o M5 hpx4
  subst eo
  show rb_Bd κ mX0_alias (n.1 + n2.1, n.2 + n2.2) M5 6 [some (.ref a0), some (.int a1), some (.int a2), some (.int a3)] [.int x4]
  refine rb_ifeq 27 (by decide) dX0_alias_6 (fun c6 => ?_) (fun c6 => ?_)
  · skip
    refine rb_iconst (v := (-1 : Int32)) (by decide) dX0_alias_27 ?_
    exact rb_iret rfl rfl (((KKx4).1 c6)).1.1 (((KKx4).1 c6)).1.2 dX0_alias_28 (((KKx4).1 c6)).2
  · skip
    refine rb_aload_n 0 rfl rfl (rb_isR_ref _) dX0_alias_9 ?_
    refine rb_iload_n 2 rfl rfl dX0_alias_10 ?_
    obtain ⟨d7, n8, Q9, h1x10, hdx10, hnx10, hox10, Kx10⟩ := ((KKx4).2 c6)
    refine rb_call st_X0_214_0 (rest := []) h1x10 rfl rfl (rc_rc rfl hox10) (Nat.le_of_ble_eq_true rfl) hdx10.1 hdx10.2 hnx10.1 hnx10.2 dX0_alias_11 (fun o M11 hpx10 => ?_)
    obtain ⟨x10, eo, KKx10⟩ := Kx10 o M11 hpx10
    subst eo
    show rb_Bd κ mX0_alias (n.1 + n2.1 + n8.1, n.2 + n2.2 + n8.2) M11 14 [some (.ref a0), some (.int a1), some (.int a2), some (.int a3)] [.int x10]
    refine rb_ifeq 27 (by decide) dX0_alias_14 (fun c12 => ?_) (fun c12 => ?_)
    · skip
      refine rb_iconst (v := (-1 : Int32)) (by decide) dX0_alias_27 ?_
      exact rb_iret rfl rfl (((KKx10).1 c12)).1.1 (((KKx10).1 c12)).1.2 dX0_alias_28 (((KKx10).1 c12)).2
    · skip
      refine rb_iload_n 3 rfl rfl dX0_alias_17 ?_
      refine rb_iconst (v := (0 : Int32)) (by decide) dX0_alias_18 ?_
      refine rb_bipush (v := (11 : Int32)) (by decide) dX0_alias_19 ?_
      obtain ⟨d13, n14, Q15, h1x16, hdx16, hnx16, Kx16⟩ := ((KKx10).2 c12)
      refine rb_call st_X0_45 (rest := []) h1x16 rfl rfl mm_rn (Nat.le_of_ble_eq_true rfl) hdx16.1 hdx16.2 hnx16.1 hnx16.2 dX0_alias_21 (fun o M17 hpx16 => ?_)
      obtain ⟨x16, eo, KKx16⟩ := Kx16 o M17 hpx16
      subst eo
      show rb_Bd κ mX0_alias (n.1 + n2.1 + n8.1 + n14.1, n.2 + n2.2 + n8.2 + n14.2) M17 24 [some (.ref a0), some (.int a1), some (.int a2), some (.int a3)] [.int x16]
      refine rb_ifne 29 (by decide) dX0_alias_24 (fun c18 => ?_) (fun c18 => ?_)
      · skip
        refine rb_aload_n 0 rfl rfl (rb_isR_ref _) dX0_alias_29 ?_
        obtain ⟨v19, hrv19, hv19, Kv19⟩ := ((KKx16).1 c18)
        refine rc_get fl_X0_155_0 hrv19 dX0_alias_30 ?_
        refine rb_iload_n 1 rfl rfl dX0_alias_33 ?_
        refine rb_iload_n 2 rfl rfl dX0_alias_34 ?_
        obtain ⟨q20, eq20, Kq20⟩ := Kv19
        subst eq20
        obtain ⟨N21, f22, hMf22, hif22, Kf22⟩ := Kq20
        refine rb_iast hMf22 hif22 dX0_alias_35 ?_
        refine rb_aload_n 0 rfl rfl (rb_isR_ref _) dX0_alias_36 ?_
        obtain ⟨v23, hrv23, hv23, Kv23⟩ := Kf22
        refine rc_get fl_X0_158_0 hrv23 dX0_alias_37 ?_
        refine rb_iload_n 1 rfl rfl dX0_alias_40 ?_
        refine rb_iload_n 3 rfl rfl dX0_alias_41 ?_
        obtain ⟨q24, eq24, Kq24⟩ := Kv23
        subst eq24
        obtain ⟨N25, f26, hMf26, hif26, Kf26⟩ := Kq24
        refine rb_iast hMf26 hif26 dX0_alias_42 ?_
        refine rb_iconst (v := (1 : Int32)) (by decide) dX0_alias_43 ?_
        exact rb_iret rfl rfl (Kf26).1.1 (Kf26).1.2 dX0_alias_44 (Kf26).2
      · skip
        refine rb_iconst (v := (-1 : Int32)) (by decide) dX0_alias_27 ?_
        exact rb_iret rfl rfl (((KKx16).2 c18)).1.1 (((KKx16).2 c18)).1.2 dX0_alias_28 (((KKx16).2 c18)).2
theorem sgX0_weave_0 {κ : rb_K} {n : Nat × Nat} {M : rb_H} {a0 : Nat} (K : (∃ (d1 : Nat) (n2 : Nat × Nat) (Q3 : Outcome → rb_H → Prop), rb_Ct κ.1 yX0_woven wX0_woven d1 n2 [.ref a0] M Q3 ∧ rb_dp κ d1 ∧ rb_rom κ (n.1 + n2.1, n.2 + n2.2) ∧ rb_ob M a0 0 ∧ ∀ (o : Outcome) (M5 : rb_H), Q3 o M5 → (∃ (x4 : Int32), o = .returned (some (.int x4)) ∧ (∃ (d6 : Nat) (n7 : Nat × Nat) (Q8 : Outcome → rb_H → Prop), rb_Ct κ.1 yX0_emptyDraft wX0_emptyDraft d6 n7 [.ref a0] M5 Q8 ∧ rb_dp κ d6 ∧ rb_rom κ (n.1 + n2.1 + n7.1, n.2 + n2.2 + n7.2) ∧ rb_ob M5 a0 0 ∧ ∀ (o : Outcome) (M10 : rb_H), Q8 o M10 → (o = .returned none ∧ (rb_fin κ (n.1 + n2.1 + n7.1, n.2 + n2.2 + n7.2) ∧ κ.2.2.1 (.returned (some (.int x4))) M10)))))) : rb_Bd κ mX0_weave n M 0 [some (.ref a0), none] [] := by
  refine rb_aload_n 0 rfl rfl (rb_isR_ref _) dX0_weave_0 ?_
  obtain ⟨d1, n2, Q3, h1x4, hdx4, hnx4, hox4, Kx4⟩ := K
  refine rb_call st_X0_340_0 (rest := []) h1x4 rfl rfl (rc_rc rfl hox4) (Nat.le_of_ble_eq_true rfl) hdx4.1 hdx4.2 hnx4.1 hnx4.2 dX0_weave_1 (fun o M5 hpx4 => ?_)
  obtain ⟨x4, eo, KKx4⟩ := Kx4 o M5 hpx4
  subst eo
  show rb_Bd κ mX0_weave (n.1 + n2.1, n.2 + n2.2) M5 4 [some (.ref a0), none] [.int x4]
  refine rb_istore_n 1 rfl (ls' := [some (.ref a0), some (.int x4)]) (by decide) rfl rfl dX0_weave_4 ?_
  refine rb_aload_n 0 rfl rfl (rb_isR_ref _) dX0_weave_5 ?_
  obtain ⟨d6, n7, Q8, h1v9, hdv9, hnv9, hov9, Kv9⟩ := KKx4
  refine rb_call st_X0_343_0 (rest := []) h1v9 rfl rfl (rc_rc rfl hov9) (Nat.le_of_ble_eq_true rfl) hdv9.1 hdv9.2 hnv9.1 hnv9.2 dX0_weave_6 (fun o M10 hpv9 => ?_)
  obtain ⟨eo, KKv9⟩ := Kv9 o M10 hpv9
  subst eo
  show rb_Bd κ mX0_weave (n.1 + n2.1 + n7.1, n.2 + n2.2 + n7.2) M10 9 [some (.ref a0), some (.int x4)] []
  refine rb_iload_n 1 rfl rfl dX0_weave_9 ?_
  exact rb_iret rfl rfl (KKv9).1.1 (KKv9).1.2 dX0_weave_10 (KKv9).2
theorem sgX0_woven_0 {κ : rb_K} {n : Nat × Nat} {M : rb_H} {a0 : Nat} (K : (∃ (v1 : Value), rb_rd M a0 0 7 (v1) ∧ rb_isR v1 ∧ (∃ q2, v1 = .ref q2 ∧ (∃ (d3 : Nat) (n4 : Nat × Nat) (Q5 : Outcome → rb_H → Prop), rb_Ct κ.1 yJ4_size wJ4_size d3 n4 [.ref q2] M Q5 ∧ rb_dp κ d3 ∧ rb_rom κ (n.1 + n4.1, n.2 + n4.2) ∧ rb_ob M q2 7 ∧ ∀ (o : Outcome) (M7 : rb_H), Q5 o M7 → (∃ (x6 : Int32), o = .returned (some (.int x6)) ∧ ((¬ x6 = (24 : Int32) → (∃ (v9 : Value), rb_rd M7 a0 0 10 (v9) ∧ rb_isR v9 ∧ (∃ q10, v9 = .ref q10 ∧ (∃ (d11 : Nat) (n12 : Nat × Nat) (Q13 : Outcome → rb_H → Prop), rb_Ct κ.1 yJ4_isEmpty wJ4_isEmpty d11 n12 [.ref q10] M7 Q13 ∧ rb_dp κ d11 ∧ rb_rom κ (n.1 + n4.1 + n12.1, n.2 + n4.2 + n12.2) ∧ rb_ob M7 q10 7 ∧ ∀ (o : Outcome) (M15 : rb_H), Q13 o M15 → (∃ (x14 : Int32), o = .returned (some (.int x14)) ∧ ((x14 = 0 → (∃ (d17 : Nat) (n18 : Nat × Nat) (Q19 : Outcome → rb_H → Prop), rb_Ct κ.1 yX0_layOrder wX0_layOrder d17 n18 [.ref a0] M15 Q19 ∧ rb_dp κ d17 ∧ rb_rom κ (n.1 + n4.1 + n12.1 + n18.1, n.2 + n4.2 + n12.2 + n18.2) ∧ rb_ob M15 a0 0 ∧ ∀ (o : Outcome) (M21 : rb_H), Q19 o M21 → (o = .returned none ∧ (rb_rom κ (n.1 + n4.1 + n12.1 + n18.1 + 1, n.2 + n4.2 + n12.2 + n18.2 + 5) ∧ (∃ (v22 : Value), rb_rd (rb_nw M21 (rb_O 27 [.int 0, .null, .null, .null, .null])) a0 0 7 (v22) ∧ rb_isR v22 ∧ (∃ q23, v22 = .ref q23 ∧ (∃ (d24 : Nat) (n25 : Nat × Nat) (Q26 : Outcome → rb_H → Prop), rb_Ct κ.1 yJ4_size wJ4_size d24 n25 [.ref q23] (rb_nw M21 (rb_O 27 [.int 0, .null, .null, .null, .null])) Q26 ∧ rb_dp κ d24 ∧ rb_rom κ (n.1 + n4.1 + n12.1 + n18.1 + 1 + n25.1, n.2 + n4.2 + n12.2 + n18.2 + 5 + n25.2) ∧ rb_ob (rb_nw M21 (rb_O 27 [.int 0, .null, .null, .null, .null])) q23 7 ∧ ∀ (o : Outcome) (M28 : rb_H), Q26 o M28 → (∃ (x27 : Int32), o = .returned (some (.int x27)) ∧ (∃ (ci34 : Nat) (d29 : Nat) (n30 : Nat × Nat) (Q31 : Outcome → rb_H → Prop), rb_Ct κ.1 yX27_init wX27_init d29 n30 [.ref M21.1, .int x27] M28 Q31 ∧ rb_dp κ d29 ∧ rb_rom κ (n.1 + n4.1 + n12.1 + n18.1 + 1 + n25.1 + n30.1, n.2 + n4.2 + n12.2 + n18.2 + 5 + n25.2 + n30.2) ∧ rb_ob M28 M21.1 ci34 ∧ ∀ (o : Outcome) (M33 : rb_H), Q31 o M33 → (o = .returned none ∧ rb_Bd κ mX0_woven (n.1 + n4.1 + n12.1 + n18.1 + 1 + n25.1 + n30.1, n.2 + n4.2 + n12.2 + n18.2 + 5 + n25.2 + n30.2) M33 47 [some (.ref a0), some (.ref M21.1), none] [])))))))))) ∧ (¬ x14 = 0 → (rb_fin κ (n.1 + n4.1 + n12.1, n.2 + n4.2 + n12.2) ∧ κ.2.2.1 (.returned (some (.int (-4 : Int32)))) M15)))))))) ∧ (x6 = (24 : Int32) → (rb_fin κ (n.1 + n4.1, n.2 + n4.2) ∧ κ.2.2.1 (.returned (some (.int (-2 : Int32)))) M7)))))))) : rb_Bd κ mX0_woven n M 0 [some (.ref a0), none, none] [] := by
  refine rb_aload_n 0 rfl rfl (rb_isR_ref _) dX0_woven_0 ?_
  obtain ⟨v1, hrv1, hv1, Kv1⟩ := K
  refine rc_get fl_X0_136_0 hrv1 dX0_woven_1 ?_
  obtain ⟨q2, eq2, Kq2⟩ := Kv1
  subst eq2
  obtain ⟨d3, n4, Q5, h1x6, hdx6, hnx6, hox6, Kx6⟩ := Kq2
  refine rb_call st_X0_201_7 (rest := []) h1x6 rfl rfl (rc_rc rfl hox6) (Nat.le_of_ble_eq_true rfl) hdx6.1 hdx6.2 hnx6.1 hnx6.2 dX0_woven_4 (fun o M7 hpx6 => ?_)
  obtain ⟨x6, eo, KKx6⟩ := Kx6 o M7 hpx6
  subst eo
  show rb_Bd κ mX0_woven (n.1 + n4.1, n.2 + n4.2) M7 7 [some (.ref a0), none, none] [.int x6]
  refine rb_bipush (v := (24 : Int32)) (by decide) dX0_woven_7 ?_
  refine rb_icne 15 (by decide) dX0_woven_9 (fun c8 => ?_) (fun c8 => ?_)
  · skip
    refine rb_aload_n 0 rfl rfl (rb_isR_ref _) dX0_woven_15 ?_
    obtain ⟨v9, hrv9, hv9, Kv9⟩ := ((KKx6).1 c8)
    refine rc_get fl_X0_146_0 hrv9 dX0_woven_16 ?_
    obtain ⟨q10, eq10, Kq10⟩ := Kv9
    subst eq10
    obtain ⟨d11, n12, Q13, h1x14, hdx14, hnx14, hox14, Kx14⟩ := Kq10
    refine rb_call st_X0_228_7 (rest := []) h1x14 rfl rfl (rc_rc rfl hox14) (Nat.le_of_ble_eq_true rfl) hdx14.1 hdx14.2 hnx14.1 hnx14.2 dX0_woven_19 (fun o M15 hpx14 => ?_)
    obtain ⟨x14, eo, KKx14⟩ := Kx14 o M15 hpx14
    subst eo
    show rb_Bd κ mX0_woven (n.1 + n4.1 + n12.1, n.2 + n4.2 + n12.2) M15 22 [some (.ref a0), none, none] [.int x14]
    refine rb_ifeq 28 (by decide) dX0_woven_22 (fun c16 => ?_) (fun c16 => ?_)
    · skip
      refine rb_aload_n 0 rfl rfl (rb_isR_ref _) dX0_woven_28 ?_
      obtain ⟨d17, n18, Q19, h1v20, hdv20, hnv20, hov20, Kv20⟩ := ((KKx14).1 c16)
      refine rb_call st_X0_316_0 (rest := []) h1v20 rfl rfl (rc_rc rfl hov20) (Nat.le_of_ble_eq_true rfl) hdv20.1 hdv20.2 hnv20.1 hnv20.2 dX0_woven_29 (fun o M21 hpv20 => ?_)
      obtain ⟨eo, KKv20⟩ := Kv20 o M21 hpv20
      subst eo
      show rb_Bd κ mX0_woven (n.1 + n4.1 + n12.1 + n18.1, n.2 + n4.2 + n12.2 + n18.2) M21 32 [some (.ref a0), none, none] []
      refine rb_new nw_X0_292 (fs := [.int 0, .null, .null, .null, .null]) rfl (KKv20).1.1 (KKv20).1.2 dX0_woven_32 ?_
      show rb_Bd κ mX0_woven (n.1 + n4.1 + n12.1 + n18.1 + 1, n.2 + n4.2 + n12.2 + n18.2 + 5) (rb_nw M21 (rb_O 27 [.int 0, .null, .null, .null, .null])) 35 [some (.ref a0), none, none] [.ref M21.1]
      refine rb_dup rfl dX0_woven_35 ?_
      refine rb_aload_n 0 rfl rfl (rb_isR_ref _) dX0_woven_36 ?_
      obtain ⟨v22, hrv22, hv22, Kv22⟩ := (KKv20).2
      refine rc_get fl_X0_136_0 hrv22 dX0_woven_37 ?_
      obtain ⟨q23, eq23, Kq23⟩ := Kv22
      subst eq23
      obtain ⟨d24, n25, Q26, h1x27, hdx27, hnx27, hox27, Kx27⟩ := Kq23
      refine rb_call st_X0_201_7 (rest := [.ref M21.1, .ref M21.1]) h1x27 rfl rfl (rc_rc rfl hox27) (Nat.le_of_ble_eq_true rfl) hdx27.1 hdx27.2 hnx27.1 hnx27.2 dX0_woven_40 (fun o M28 hpx27 => ?_)
      obtain ⟨x27, eo, KKx27⟩ := Kx27 o M28 hpx27
      subst eo
      show rb_Bd κ mX0_woven (n.1 + n4.1 + n12.1 + n18.1 + 1 + n25.1, n.2 + n4.2 + n12.2 + n18.2 + 5 + n25.2) M28 43 [some (.ref a0), none, none] [.int x27, .ref M21.1, .ref M21.1]
      obtain ⟨ci34, d29, n30, Q31, h1v32, hdv32, hnv32, hov32, Kv32⟩ := KKx27
      refine rb_call (st_X0_319 ci34) (rest := [.ref M21.1]) h1v32 rfl rfl (rc_rc rfl hov32) (Nat.le_of_ble_eq_true rfl) hdv32.1 hdv32.2 hnv32.1 hnv32.2 dX0_woven_43 (fun o M33 hpv32 => ?_)
      obtain ⟨eo, KKv32⟩ := Kv32 o M33 hpv32
      subst eo
      show rb_Bd κ mX0_woven (n.1 + n4.1 + n12.1 + n18.1 + 1 + n25.1 + n30.1, n.2 + n4.2 + n12.2 + n18.2 + 5 + n25.2 + n30.2) M33 46 [some (.ref a0), none, none] [.ref M21.1]
      refine rb_astore_n 1 rfl (ls' := [some (.ref a0), some (.ref M21.1), none]) (by decide) rfl rfl (rb_isR_ref _) dX0_woven_46 ?_
      exact KKv32
    · skip
      refine rb_bipush (v := (-4 : Int32)) (by decide) dX0_woven_25 ?_
      exact rb_iret rfl rfl (((KKx14).2 c16)).1.1 (((KKx14).2 c16)).1.2 dX0_woven_27 (((KKx14).2 c16)).2
  · skip
    refine rb_bipush (v := (-2 : Int32)) (by decide) dX0_woven_12 ?_
    exact rb_iret rfl rfl (((KKx6).2 c8)).1.1 (((KKx6).2 c8)).1.2 dX0_woven_14 (((KKx6).2 c8)).2
theorem sgX0_woven_47 {κ : rb_K} {n : Nat × Nat} {M : rb_H} {a0 : Nat} {a1 : Value} (ha1 : rb_isR a1) (K : (∃ (d1 : Nat) (n2 : Nat × Nat) (Q3 : Outcome → rb_H → Prop), rb_Ct κ.1 yX0_isAnyLeft wX0_isAnyLeft d1 n2 [.ref a0] M Q3 ∧ rb_dp κ d1 ∧ rb_rom κ (n.1 + n2.1, n.2 + n2.2) ∧ rb_ob M a0 0 ∧ ∀ (o : Outcome) (M5 : rb_H), Q3 o M5 → (∃ (x4 : Int32), o = .returned (some (.int x4)) ∧ ((x4 = 0 → (∃ (d7 : Nat) (n8 : Nat × Nat) (Q9 : Outcome → rb_H → Prop), rb_Ct κ.1 yX0_layChains wX0_layChains d7 n8 [.ref a0, a1] M5 Q9 ∧ rb_dp κ d7 ∧ rb_rom κ (n.1 + n2.1 + n8.1, n.2 + n2.2 + n8.2) ∧ rb_ob M5 a0 0 ∧ ∀ (o : Outcome) (M11 : rb_H), Q9 o M11 → (o = .returned none ∧ (∃ (d12 : Nat) (n13 : Nat × Nat) (Q14 : Outcome → rb_H → Prop), rb_Ct κ.1 yX0_isWhole wX0_isWhole d12 n13 [.ref a0, a1] M11 Q14 ∧ rb_dp κ d12 ∧ rb_rom κ (n.1 + n2.1 + n8.1 + n13.1, n.2 + n2.2 + n8.2 + n13.2) ∧ rb_ob M11 a0 0 ∧ ∀ (o : Outcome) (M16 : rb_H), Q14 o M16 → (∃ (x15 : Int32), o = .returned (some (.int x15)) ∧ ((¬ x15 = 0 → (∃ (v18 : Value), rb_rd M16 a0 0 7 (v18) ∧ rb_isR v18 ∧ (∃ q19, v18 = .ref q19 ∧ (∃ (d20 : Nat) (n21 : Nat × Nat) (Q22 : Outcome → rb_H → Prop), rb_Ct κ.1 yJ4_add wJ4_add d20 n21 [.ref q19, a1] M16 Q22 ∧ rb_dp κ d20 ∧ rb_rom κ (n.1 + n2.1 + n8.1 + n13.1 + n21.1, n.2 + n2.2 + n8.2 + n13.2 + n21.2) ∧ rb_ob M16 q19 7 ∧ ∀ (o : Outcome) (M24 : rb_H), Q22 o M24 → (∃ (x23 : Int32), o = .returned (some (.int x23)) ∧ (∃ q25, a1 = .ref q25 ∧ (∃ (x26 : Int32), rb_rd M24 q25 27 0 (.int x26) ∧ (rb_fin κ (n.1 + n2.1 + n8.1 + n13.1 + n21.1, n.2 + n2.2 + n8.2 + n13.2 + n21.2) ∧ κ.2.2.1 (.returned (some (.int x26))) M24)))))))) ∧ (x15 = 0 → (rb_fin κ (n.1 + n2.1 + n8.1 + n13.1, n.2 + n2.2 + n8.2 + n13.2) ∧ κ.2.2.1 (.returned (some (.int (-8 : Int32)))) M16)))))))) ∧ (¬ x4 = 0 → (∃ (d27 : Nat) (n28 : Nat × Nat) (Q29 : Outcome → rb_H → Prop), rb_Ct κ.1 yX0_nextInLine wX0_nextInLine d27 n28 [.ref a0] M5 Q29 ∧ rb_dp κ d27 ∧ rb_rom κ (n.1 + n2.1 + n28.1, n.2 + n2.2 + n28.2) ∧ rb_ob M5 a0 0 ∧ ∀ (o : Outcome) (M31 : rb_H), Q29 o M31 → (∃ (x30 : Int32), o = .returned (some (.int x30)) ∧ ((¬ x30 = (-9 : Int32) → (∃ q33, a1 = .ref q33 ∧ (∃ (v34 : Value), rb_rd M31 q33 27 1 (v34) ∧ rb_isR v34 ∧ (∃ (v35 : Value), rb_rd M31 a0 0 2 (v35) ∧ rb_isR v35 ∧ (∃ q36, v35 = .ref q36 ∧ (∃ (d37 : Nat) (n38 : Nat × Nat) (Q39 : Outcome → rb_H → Prop), rb_Ct κ.1 yJ4_get wJ4_get d37 n38 [.ref q36, .int x30] M31 Q39 ∧ rb_dp κ d37 ∧ rb_rom κ (n.1 + n2.1 + n28.1 + n38.1, n.2 + n2.2 + n28.2 + n38.2) ∧ rb_ob M31 q36 7 ∧ ∀ (o : Outcome) (M41 : rb_H), Q39 o M41 → (∃ (v40 : Value), o = .returned (some v40) ∧ rb_isR v40 ∧ (∃ q42, v40 = .ref q42 ∧ (∃ ci43, rb_ob M41 q42 ci43 ∧ rb_CC ci43 "RoleLoom$Part" ∧ (∃ q44, v34 = .ref q44 ∧ (∃ (d45 : Nat) (n46 : Nat × Nat) (Q47 : Outcome → rb_H → Prop), rb_Ct κ.1 yJ4_add wJ4_add d45 n46 [.ref q44, .ref q42] M41 Q47 ∧ rb_dp κ d45 ∧ rb_rom κ (n.1 + n2.1 + n28.1 + n38.1 + n46.1, n.2 + n2.2 + n28.2 + n38.2 + n46.2) ∧ rb_ob M41 q44 7 ∧ ∀ (o : Outcome) (M49 : rb_H), Q47 o M49 → (∃ (x48 : Int32), o = .returned (some (.int x48)) ∧ (∃ (v50 : Value), rb_rd M49 a0 0 16 (v50) ∧ rb_isR v50 ∧ (∃ q51, v50 = .ref q51 ∧ (∃ (N52 : Nat) (f53 : Nat → Int32), M49.2 q51 = some (rb_Z N52 f53) ∧ vp_in x30 N52 ∧ vp_nar .boolean (0 : Int32) = (0 : Int32) ∧ rb_Bd κ mX0_woven (n.1 + n2.1 + n28.1 + n38.1 + n46.1, n.2 + n2.2 + n28.2 + n38.2 + n46.2) (rb_up M49 q51 (rb_Z N52 (va_up f53 (x30).toNatClampNeg (0 : Int32)))) 47 [some (.ref a0), some (.ref q33), some (.int x30)] []))))))))))))))) ∧ (x30 = (-9 : Int32) → (∃ (d54 : Nat) (n55 : Nat × Nat) (Q56 : Outcome → rb_H → Prop), rb_Ct κ.1 yX0_findRing wX0_findRing d54 n55 [.ref a0] M31 Q56 ∧ rb_dp κ d54 ∧ rb_rom κ (n.1 + n2.1 + n28.1 + n55.1, n.2 + n2.2 + n28.2 + n55.2) ∧ rb_ob M31 a0 0 ∧ ∀ (o : Outcome) (M58 : rb_H), Q56 o M58 → (o = .returned none ∧ (rb_fin κ (n.1 + n2.1 + n28.1 + n55.1, n.2 + n2.2 + n28.2 + n55.2) ∧ κ.2.2.1 (.returned (some (.int (-6 : Int32)))) M58)))))))))))) : rb_Bd κ mX0_woven n M 47 [some (.ref a0), some a1, none] [] := by
  refine rb_aload_n 0 rfl rfl (rb_isR_ref _) dX0_woven_47 ?_
  obtain ⟨d1, n2, Q3, h1x4, hdx4, hnx4, hox4, Kx4⟩ := K
  refine rb_call st_X0_322_0 (rest := []) h1x4 rfl rfl (rc_rc rfl hox4) (Nat.le_of_ble_eq_true rfl) hdx4.1 hdx4.2 hnx4.1 hnx4.2 dX0_woven_48 (fun o M5 hpx4 => ?_)
  obtain ⟨x4, eo, KKx4⟩ := Kx4 o M5 hpx4
  subst eo
  show rb_Bd κ mX0_woven (n.1 + n2.1, n.2 + n2.2) M5 51 [some (.ref a0), some a1, none] [.int x4]
  refine rb_ifeq 101 (by decide) dX0_woven_51 (fun c6 => ?_) (fun c6 => ?_)
  · skip
    refine rb_aload_n 0 rfl rfl (rb_isR_ref _) dX0_woven_101 ?_
    refine rb_aload_n 1 rfl rfl ha1 dX0_woven_102 ?_
    obtain ⟨d7, n8, Q9, h1v10, hdv10, hnv10, hov10, Kv10⟩ := ((KKx4).1 c6)
    refine rb_call st_X0_331_0 (rest := []) h1v10 rfl rfl (rc_rc rfl hov10) (Nat.le_of_ble_eq_true rfl) hdv10.1 hdv10.2 hnv10.1 hnv10.2 dX0_woven_103 (fun o M11 hpv10 => ?_)
    obtain ⟨eo, KKv10⟩ := Kv10 o M11 hpv10
    subst eo
    show rb_Bd κ mX0_woven (n.1 + n2.1 + n8.1, n.2 + n2.2 + n8.2) M11 106 [some (.ref a0), some a1, none] []
    refine rb_aload_n 0 rfl rfl (rb_isR_ref _) dX0_woven_106 ?_
    refine rb_aload_n 1 rfl rfl ha1 dX0_woven_107 ?_
    obtain ⟨d12, n13, Q14, h1x15, hdx15, hnx15, hox15, Kx15⟩ := KKv10
    refine rb_call st_X0_335_0 (rest := []) h1x15 rfl rfl (rc_rc rfl hox15) (Nat.le_of_ble_eq_true rfl) hdx15.1 hdx15.2 hnx15.1 hnx15.2 dX0_woven_108 (fun o M16 hpx15 => ?_)
    obtain ⟨x15, eo, KKx15⟩ := Kx15 o M16 hpx15
    subst eo
    show rb_Bd κ mX0_woven (n.1 + n2.1 + n8.1 + n13.1, n.2 + n2.2 + n8.2 + n13.2) M16 111 [some (.ref a0), some a1, none] [.int x15]
    refine rb_ifne 117 (by decide) dX0_woven_111 (fun c17 => ?_) (fun c17 => ?_)
    · skip
      refine rb_aload_n 0 rfl rfl (rb_isR_ref _) dX0_woven_117 ?_
      obtain ⟨v18, hrv18, hv18, Kv18⟩ := ((KKx15).1 c17)
      refine rc_get fl_X0_136_0 hrv18 dX0_woven_118 ?_
      refine rb_aload_n 1 rfl rfl ha1 dX0_woven_121 ?_
      obtain ⟨q19, eq19, Kq19⟩ := Kv18
      subst eq19
      obtain ⟨d20, n21, Q22, h1x23, hdx23, hnx23, hox23, Kx23⟩ := Kq19
      refine rb_call st_X0_210_7 (rest := []) h1x23 rfl rfl (rc_rc rfl hox23) (Nat.le_of_ble_eq_true rfl) hdx23.1 hdx23.2 hnx23.1 hnx23.2 dX0_woven_122 (fun o M24 hpx23 => ?_)
      obtain ⟨x23, eo, KKx23⟩ := Kx23 o M24 hpx23
      subst eo
      show rb_Bd κ mX0_woven (n.1 + n2.1 + n8.1 + n13.1 + n21.1, n.2 + n2.2 + n8.2 + n13.2 + n21.2) M24 125 [some (.ref a0), some a1, none] [.int x23]
      refine rb_pop rfl dX0_woven_125 ?_
      refine rb_aload_n 1 rfl rfl ha1 dX0_woven_126 ?_
      obtain ⟨q25, eq25, Kq25⟩ := KKx23
      subst eq25
      obtain ⟨x26, hrx26, Kx26⟩ := Kq25
      refine rc_get fl_X0_339_27 hrx26 dX0_woven_127 ?_
      exact rb_iret rfl rfl (Kx26).1.1 (Kx26).1.2 dX0_woven_130 (Kx26).2
    · skip
      refine rb_bipush (v := (-8 : Int32)) (by decide) dX0_woven_114 ?_
      exact rb_iret rfl rfl (((KKx15).2 c17)).1.1 (((KKx15).2 c17)).1.2 dX0_woven_116 (((KKx15).2 c17)).2
  · skip
    refine rb_aload_n 0 rfl rfl (rb_isR_ref _) dX0_woven_54 ?_
    obtain ⟨d27, n28, Q29, h1x30, hdx30, hnx30, hox30, Kx30⟩ := ((KKx4).2 c6)
    refine rb_call st_X0_325_0 (rest := []) h1x30 rfl rfl (rc_rc rfl hox30) (Nat.le_of_ble_eq_true rfl) hdx30.1 hdx30.2 hnx30.1 hnx30.2 dX0_woven_55 (fun o M31 hpx30 => ?_)
    obtain ⟨x30, eo, KKx30⟩ := Kx30 o M31 hpx30
    subst eo
    show rb_Bd κ mX0_woven (n.1 + n2.1 + n28.1, n.2 + n2.2 + n28.2) M31 58 [some (.ref a0), some a1, none] [.int x30]
    refine rb_istore_n 2 rfl (ls' := [some (.ref a0), some a1, some (.int x30)]) (by decide) (by simp [rb_o1, rb_isR_cat ha1]) rfl dX0_woven_58 ?_
    refine rb_iload_n 2 rfl rfl dX0_woven_59 ?_
    refine rb_bipush (v := (-9 : Int32)) (by decide) dX0_woven_60 ?_
    refine rb_icne 72 (by decide) dX0_woven_62 (fun c32 => ?_) (fun c32 => ?_)
    · skip
      refine rb_aload_n 1 rfl rfl ha1 dX0_woven_72 ?_
      obtain ⟨q33, eq33, Kq33⟩ := ((KKx30).1 c32)
      subst eq33
      obtain ⟨v34, hrv34, hv34, Kv34⟩ := Kq33
      refine rc_get fl_X0_291_27 hrv34 dX0_woven_73 ?_
      refine rb_aload_n 0 rfl rfl (rb_isR_ref _) dX0_woven_76 ?_
      obtain ⟨v35, hrv35, hv35, Kv35⟩ := Kv34
      refine rc_get fl_X0_125_0 hrv35 dX0_woven_77 ?_
      refine rb_iload_n 2 rfl rfl dX0_woven_80 ?_
      obtain ⟨q36, eq36, Kq36⟩ := Kv35
      subst eq36
      obtain ⟨d37, n38, Q39, h1v40, hdv40, hnv40, hov40, Kv40⟩ := Kq36
      refine rb_call st_X0_218_7 (rest := [v34]) h1v40 rfl rfl (rc_rc rfl hov40) (by simp [rb_isR_cat hv34, rb_cR, rb_cI, rb_cJ, rb_cN]) hdv40.1 hdv40.2 hnv40.1 hnv40.2 dX0_woven_81 (fun o M41 hpv40 => ?_)
      obtain ⟨v40, eo, hv40, KKv40⟩ := Kv40 o M41 hpv40
      subst eo
      show rb_Bd κ mX0_woven (n.1 + n2.1 + n28.1 + n38.1, n.2 + n2.2 + n28.2 + n38.2) M41 84 [some (.ref a0), some (.ref q33), some (.int x30)] [v40, v34]
      obtain ⟨q42, eq42, Kq42⟩ := KKv40
      subst eq42
      obtain ⟨ci43, ⟨fsci43, hoci43⟩, hcci43, Kci43⟩ := Kq42
      refine rb_cast q416 hoci43 hcci43 dX0_woven_84 ?_
      obtain ⟨q44, eq44, Kq44⟩ := Kci43
      subst eq44
      obtain ⟨d45, n46, Q47, h1x48, hdx48, hnx48, hox48, Kx48⟩ := Kq44
      refine rb_call st_X0_210_7 (rest := []) h1x48 rfl rfl (rc_rc rfl hox48) (Nat.le_of_ble_eq_true rfl) hdx48.1 hdx48.2 hnx48.1 hnx48.2 dX0_woven_87 (fun o M49 hpx48 => ?_)
      obtain ⟨x48, eo, KKx48⟩ := Kx48 o M49 hpx48
      subst eo
      show rb_Bd κ mX0_woven (n.1 + n2.1 + n28.1 + n38.1 + n46.1, n.2 + n2.2 + n28.2 + n38.2 + n46.2) M49 90 [some (.ref a0), some (.ref q33), some (.int x30)] [.int x48]
      refine rb_pop rfl dX0_woven_90 ?_
      refine rb_aload_n 0 rfl rfl (rb_isR_ref _) dX0_woven_91 ?_
      obtain ⟨v50, hrv50, hv50, Kv50⟩ := KKx48
      refine rc_get fl_X0_161_0 hrv50 dX0_woven_92 ?_
      refine rb_iload_n 2 rfl rfl dX0_woven_95 ?_
      refine rb_iconst (v := (0 : Int32)) (by decide) dX0_woven_96 ?_
      obtain ⟨q51, eq51, Kq51⟩ := Kv50
      subst eq51
      obtain ⟨N52, f53, hMf53, hif53, hbf53, Kf53⟩ := Kq51
      refine rb_zast hMf53 hif53 hbf53 dX0_woven_97 ?_
      refine rb_goto 47 (by decide) dX0_woven_98 ?_
      exact Kf53
    · skip
      refine rb_aload_n 0 rfl rfl (rb_isR_ref _) dX0_woven_65 ?_
      obtain ⟨d54, n55, Q56, h1v57, hdv57, hnv57, hov57, Kv57⟩ := ((KKx30).2 c32)
      refine rb_call st_X0_328_0 (rest := []) h1v57 rfl rfl (rc_rc rfl hov57) (Nat.le_of_ble_eq_true rfl) hdv57.1 hdv57.2 hnv57.1 hnv57.2 dX0_woven_66 (fun o M58 hpv57 => ?_)
      obtain ⟨eo, KKv57⟩ := Kv57 o M58 hpv57
      subst eo
      show rb_Bd κ mX0_woven (n.1 + n2.1 + n28.1 + n55.1, n.2 + n2.2 + n28.2 + n55.2) M58 69 [some (.ref a0), some a1, some (.int x30)] []
      refine rb_bipush (v := (-6 : Int32)) (by decide) dX0_woven_69 ?_
      exact rb_iret rfl rfl (KKv57).1.1 (KKv57).1.2 dX0_woven_71 (KKv57).2
theorem sgX0_layOrder_0 {κ : rb_K} {n : Nat × Nat} {M : rb_H} {a0 : Nat} (K : rb_Bd κ mX0_layOrder n M 2 [some (.ref a0), some (.int (0 : Int32)), none, none, none] []) : rb_Bd κ mX0_layOrder n M 0 [some (.ref a0), none, none, none, none] [] := by
  refine rb_iconst (v := (0 : Int32)) (by decide) dX0_layOrder_0 ?_
  refine rb_istore_n 1 rfl (ls' := [some (.ref a0), some (.int (0 : Int32)), none, none, none]) (by decide) rfl rfl dX0_layOrder_1 ?_
  exact K
theorem sgX0_layOrder_2 {κ : rb_K} {n : Nat × Nat} {M : rb_H} {a0 : Nat} {a1 : Int32} (K : (((24 : Int32) ≤ a1 → rb_Bd κ mX0_layOrder n M 30 [some (.ref a0), some (.int (0 : Int32)), none, none, none] []) ∧ (a1 < (24 : Int32) → (∃ (v2 : Value), rb_rd M a0 0 16 (v2) ∧ rb_isR v2 ∧ (∃ q3, v2 = .ref q3 ∧ (∃ (N4 : Nat) (f5 : Nat → Int32), M.2 q3 = some (rb_Z N4 f5) ∧ vp_in a1 N4 ∧ vp_nar .boolean (0 : Int32) = (0 : Int32) ∧ (∃ (v6 : Value), rb_rd (rb_up M q3 (rb_Z N4 (va_up f5 (a1).toNatClampNeg (0 : Int32)))) a0 0 17 (v6) ∧ rb_isR v6 ∧ (∃ q7, v6 = .ref q7 ∧ (∃ (N8 : Nat) (f9 : Nat → Int32), (rb_up M q3 (rb_Z N4 (va_up f5 (a1).toNatClampNeg (0 : Int32)))).2 q7 = some (rb_I N8 f9) ∧ vp_in a1 N8 ∧ rb_Bd κ mX0_layOrder n (rb_up (rb_up M q3 (rb_Z N4 (va_up f5 (a1).toNatClampNeg (0 : Int32)))) q7 (rb_I N8 (va_up f9 (a1).toNatClampNeg (0 : Int32)))) 2 [some (.ref a0), some (.int (a1 + (1 : Int32))), none, none, none] []))))))))) : rb_Bd κ mX0_layOrder n M 2 [some (.ref a0), some (.int a1), none, none, none] [] := by
  refine rb_iload_n 1 rfl rfl dX0_layOrder_2 ?_
  refine rb_bipush (v := (24 : Int32)) (by decide) dX0_layOrder_3 ?_
  refine rb_icge 28 (by decide) dX0_layOrder_5 (fun c1 => ?_) (fun c1 => ?_)
  · skip
    refine rb_iconst (v := (0 : Int32)) (by decide) dX0_layOrder_28 ?_
    refine rb_istore_n 1 rfl (ls' := [some (.ref a0), some (.int (0 : Int32)), none, none, none]) (by decide) rfl rfl dX0_layOrder_29 ?_
    exact ((K).1 c1)
  · skip
    refine rb_aload_n 0 rfl rfl (rb_isR_ref _) dX0_layOrder_8 ?_
    obtain ⟨v2, hrv2, hv2, Kv2⟩ := ((K).2 c1)
    refine rc_get fl_X0_161_0 hrv2 dX0_layOrder_9 ?_
    refine rb_iload_n 1 rfl rfl dX0_layOrder_12 ?_
    refine rb_iconst (v := (0 : Int32)) (by decide) dX0_layOrder_13 ?_
    obtain ⟨q3, eq3, Kq3⟩ := Kv2
    subst eq3
    obtain ⟨N4, f5, hMf5, hif5, hbf5, Kf5⟩ := Kq3
    refine rb_zast hMf5 hif5 hbf5 dX0_layOrder_14 ?_
    refine rb_aload_n 0 rfl rfl (rb_isR_ref _) dX0_layOrder_15 ?_
    obtain ⟨v6, hrv6, hv6, Kv6⟩ := Kf5
    refine rc_get fl_X0_165_0 hrv6 dX0_layOrder_16 ?_
    refine rb_iload_n 1 rfl rfl dX0_layOrder_19 ?_
    refine rb_iconst (v := (0 : Int32)) (by decide) dX0_layOrder_20 ?_
    obtain ⟨q7, eq7, Kq7⟩ := Kv6
    subst eq7
    obtain ⟨N8, f9, hMf9, hif9, Kf9⟩ := Kq7
    refine rb_iast hMf9 hif9 dX0_layOrder_21 ?_
    refine rb_iinc (ls' := [some (.ref a0), some (.int (a1 + (1 : Int32))), none, none, none]) (v := (a1 + (1 : Int32))) rfl rfl (by decide) rfl rfl dX0_layOrder_22 ?_
    refine rb_goto 2 (by decide) dX0_layOrder_25 ?_
    exact Kf9
theorem sgX0_layOrder_30 {κ : rb_K} {n : Nat × Nat} {M : rb_H} {a0 : Nat} {a1 : Int32} (K : (∃ (v1 : Value), rb_rd M a0 0 10 (v1) ∧ rb_isR v1 ∧ (∃ q2, v1 = .ref q2 ∧ (∃ (d3 : Nat) (n4 : Nat × Nat) (Q5 : Outcome → rb_H → Prop), rb_Ct κ.1 yJ4_size wJ4_size d3 n4 [.ref q2] M Q5 ∧ rb_dp κ d3 ∧ rb_rom κ (n.1 + n4.1, n.2 + n4.2) ∧ rb_ob M q2 7 ∧ ∀ (o : Outcome) (M7 : rb_H), Q5 o M7 → (∃ (x6 : Int32), o = .returned (some (.int x6)) ∧ ((x6 ≤ a1 → rb_Bd κ mX0_layOrder (n.1 + n4.1, n.2 + n4.2) M7 103 [some (.ref a0), some (.int (0 : Int32)), none, none, none] []) ∧ (a1 < x6 → (∃ (v9 : Value), rb_rd M7 a0 0 10 (v9) ∧ rb_isR v9 ∧ (∃ q10, v9 = .ref q10 ∧ (∃ (d11 : Nat) (n12 : Nat × Nat) (Q13 : Outcome → rb_H → Prop), rb_Ct κ.1 yJ4_get wJ4_get d11 n12 [.ref q10, .int a1] M7 Q13 ∧ rb_dp κ d11 ∧ rb_rom κ (n.1 + n4.1 + n12.1, n.2 + n4.2 + n12.2) ∧ rb_ob M7 q10 7 ∧ ∀ (o : Outcome) (M15 : rb_H), Q13 o M15 → (∃ (v14 : Value), o = .returned (some v14) ∧ rb_isR v14 ∧ (∃ q16, v14 = .ref q16 ∧ (∃ ci17, rb_ob M15 q16 ci17 ∧ rb_CC ci17 "RoleLoom$Part" ∧ (∃ (d18 : Nat) (n19 : Nat × Nat) (Q20 : Outcome → rb_H → Prop), rb_Ct κ.1 yX0_take wX0_take d18 n19 [.ref a0, .ref q16] M15 Q20 ∧ rb_dp κ d18 ∧ rb_rom κ (n.1 + n4.1 + n12.1 + n19.1, n.2 + n4.2 + n12.2 + n19.2) ∧ rb_ob M15 a0 0 ∧ ∀ (o : Outcome) (M22 : rb_H), Q20 o M22 → (o = .returned none ∧ rb_Bd κ mX0_layOrder (n.1 + n4.1 + n12.1 + n19.1, n.2 + n4.2 + n12.2 + n19.2) M22 58 [some (.ref a0), some (.int a1), some (.int (0 : Int32)), none, none] []))))))))))))))) : rb_Bd κ mX0_layOrder n M 30 [some (.ref a0), some (.int a1), none, none, none] [] := by
  refine rb_iload_n 1 rfl rfl dX0_layOrder_30 ?_
  refine rb_aload_n 0 rfl rfl (rb_isR_ref _) dX0_layOrder_31 ?_
  obtain ⟨v1, hrv1, hv1, Kv1⟩ := K
  refine rc_get fl_X0_146_0 hrv1 dX0_layOrder_32 ?_
  obtain ⟨q2, eq2, Kq2⟩ := Kv1
  subst eq2
  obtain ⟨d3, n4, Q5, h1x6, hdx6, hnx6, hox6, Kx6⟩ := Kq2
  refine rb_call st_X0_201_7 (rest := [.int a1]) h1x6 rfl rfl (rc_rc rfl hox6) (Nat.le_of_ble_eq_true rfl) hdx6.1 hdx6.2 hnx6.1 hnx6.2 dX0_layOrder_35 (fun o M7 hpx6 => ?_)
  obtain ⟨x6, eo, KKx6⟩ := Kx6 o M7 hpx6
  subst eo
  show rb_Bd κ mX0_layOrder (n.1 + n4.1, n.2 + n4.2) M7 38 [some (.ref a0), some (.int a1), none, none, none] [.int x6, .int a1]
  refine rb_icge 101 (by decide) dX0_layOrder_38 (fun c8 => ?_) (fun c8 => ?_)
  · skip
    refine rb_iconst (v := (0 : Int32)) (by decide) dX0_layOrder_101 ?_
    refine rb_istore_n 1 rfl (ls' := [some (.ref a0), some (.int (0 : Int32)), none, none, none]) (by decide) rfl rfl dX0_layOrder_102 ?_
    exact ((KKx6).1 c8)
  · skip
    refine rb_aload_n 0 rfl rfl (rb_isR_ref _) dX0_layOrder_41 ?_
    refine rb_aload_n 0 rfl rfl (rb_isR_ref _) dX0_layOrder_42 ?_
    obtain ⟨v9, hrv9, hv9, Kv9⟩ := ((KKx6).2 c8)
    refine rc_get fl_X0_146_0 hrv9 dX0_layOrder_43 ?_
    refine rb_iload_n 1 rfl rfl dX0_layOrder_46 ?_
    obtain ⟨q10, eq10, Kq10⟩ := Kv9
    subst eq10
    obtain ⟨d11, n12, Q13, h1v14, hdv14, hnv14, hov14, Kv14⟩ := Kq10
    refine rb_call st_X0_218_7 (rest := [.ref a0]) h1v14 rfl rfl (rc_rc rfl hov14) (Nat.le_of_ble_eq_true rfl) hdv14.1 hdv14.2 hnv14.1 hnv14.2 dX0_layOrder_47 (fun o M15 hpv14 => ?_)
    obtain ⟨v14, eo, hv14, KKv14⟩ := Kv14 o M15 hpv14
    subst eo
    show rb_Bd κ mX0_layOrder (n.1 + n4.1 + n12.1, n.2 + n4.2 + n12.2) M15 50 [some (.ref a0), some (.int a1), none, none, none] [v14, .ref a0]
    obtain ⟨q16, eq16, Kq16⟩ := KKv14
    subst eq16
    obtain ⟨ci17, ⟨fsci17, hoci17⟩, hcci17, Kci17⟩ := Kq16
    refine rb_cast q416 hoci17 hcci17 dX0_layOrder_50 ?_
    obtain ⟨d18, n19, Q20, h1v21, hdv21, hnv21, hov21, Kv21⟩ := Kci17
    refine rb_call st_X0_273_0 (rest := []) h1v21 rfl rfl (rc_rc rfl hov21) (Nat.le_of_ble_eq_true rfl) hdv21.1 hdv21.2 hnv21.1 hnv21.2 dX0_layOrder_53 (fun o M22 hpv21 => ?_)
    obtain ⟨eo, KKv21⟩ := Kv21 o M22 hpv21
    subst eo
    show rb_Bd κ mX0_layOrder (n.1 + n4.1 + n12.1 + n19.1, n.2 + n4.2 + n12.2 + n19.2) M22 56 [some (.ref a0), some (.int a1), none, none, none] []
    refine rb_iconst (v := (0 : Int32)) (by decide) dX0_layOrder_56 ?_
    refine rb_istore_n 2 rfl (ls' := [some (.ref a0), some (.int a1), some (.int (0 : Int32)), none, none]) (by decide) rfl rfl dX0_layOrder_57 ?_
    exact KKv21
theorem sgX0_layOrder_58 {κ : rb_K} {n : Nat × Nat} {M : rb_H} {a0 : Nat} {a1 : Int32} {a2 : Int32} (K : ((a1 ≤ a2 → rb_Bd κ mX0_layOrder n M 30 [some (.ref a0), some (.int (a1 + (1 : Int32))), some (.int a2), none, none] []) ∧ (a2 < a1 → (∃ (v2 : Value), rb_rd M a0 0 10 (v2) ∧ rb_isR v2 ∧ (∃ q3, v2 = .ref q3 ∧ (∃ (d4 : Nat) (n5 : Nat × Nat) (Q6 : Outcome → rb_H → Prop), rb_Ct κ.1 yJ4_get wJ4_get d4 n5 [.ref q3, .int a2] M Q6 ∧ rb_dp κ d4 ∧ rb_rom κ (n.1 + n5.1, n.2 + n5.2) ∧ rb_ob M q3 7 ∧ ∀ (o : Outcome) (M8 : rb_H), Q6 o M8 → (∃ (v7 : Value), o = .returned (some v7) ∧ rb_isR v7 ∧ (∃ q9, v7 = .ref q9 ∧ (∃ ci10, rb_ob M8 q9 ci10 ∧ rb_CC ci10 "RoleLoom$Part" ∧ (∃ (v11 : Value), rb_rd M8 a0 0 10 (v11) ∧ rb_isR v11 ∧ (∃ q12, v11 = .ref q12 ∧ (∃ (d13 : Nat) (n14 : Nat × Nat) (Q15 : Outcome → rb_H → Prop), rb_Ct κ.1 yJ4_get wJ4_get d13 n14 [.ref q12, .int a1] M8 Q15 ∧ rb_dp κ d13 ∧ rb_rom κ (n.1 + n5.1 + n14.1, n.2 + n5.2 + n14.2) ∧ rb_ob M8 q12 7 ∧ ∀ (o : Outcome) (M17 : rb_H), Q15 o M17 → (∃ (v16 : Value), o = .returned (some v16) ∧ rb_isR v16 ∧ (∃ q18, v16 = .ref q18 ∧ (∃ ci19, rb_ob M17 q18 ci19 ∧ rb_CC ci19 "RoleLoom$Part" ∧ (∃ (d20 : Nat) (n21 : Nat × Nat) (Q22 : Outcome → rb_H → Prop), rb_Ct κ.1 yX0_stands wX0_stands d20 n21 [.ref a0, .ref q9, .ref q18] M17 Q22 ∧ rb_dp κ d20 ∧ rb_rom κ (n.1 + n5.1 + n14.1 + n21.1, n.2 + n5.2 + n14.2 + n21.2) ∧ rb_ob M17 a0 0 ∧ ∀ (o : Outcome) (M24 : rb_H), Q22 o M24 → (o = .returned none ∧ rb_Bd κ mX0_layOrder (n.1 + n5.1 + n14.1 + n21.1, n.2 + n5.2 + n14.2 + n21.2) M24 58 [some (.ref a0), some (.int a1), some (.int (a2 + (1 : Int32))), none, none] []))))))))))))))))) : rb_Bd κ mX0_layOrder n M 58 [some (.ref a0), some (.int a1), some (.int a2), none, none] [] := by
  refine rb_iload_n 2 rfl rfl dX0_layOrder_58 ?_
  refine rb_iload_n 1 rfl rfl dX0_layOrder_59 ?_
  refine rb_icge 95 (by decide) dX0_layOrder_60 (fun c1 => ?_) (fun c1 => ?_)
  · skip
    refine rb_iinc (ls' := [some (.ref a0), some (.int (a1 + (1 : Int32))), some (.int a2), none, none]) (v := (a1 + (1 : Int32))) rfl rfl (by decide) rfl rfl dX0_layOrder_95 ?_
    refine rb_goto 30 (by decide) dX0_layOrder_98 ?_
    exact ((K).1 c1)
  · skip
    refine rb_aload_n 0 rfl rfl (rb_isR_ref _) dX0_layOrder_63 ?_
    refine rb_aload_n 0 rfl rfl (rb_isR_ref _) dX0_layOrder_64 ?_
    obtain ⟨v2, hrv2, hv2, Kv2⟩ := ((K).2 c1)
    refine rc_get fl_X0_146_0 hrv2 dX0_layOrder_65 ?_
    refine rb_iload_n 2 rfl rfl dX0_layOrder_68 ?_
    obtain ⟨q3, eq3, Kq3⟩ := Kv2
    subst eq3
    obtain ⟨d4, n5, Q6, h1v7, hdv7, hnv7, hov7, Kv7⟩ := Kq3
    refine rb_call st_X0_218_7 (rest := [.ref a0]) h1v7 rfl rfl (rc_rc rfl hov7) (Nat.le_of_ble_eq_true rfl) hdv7.1 hdv7.2 hnv7.1 hnv7.2 dX0_layOrder_69 (fun o M8 hpv7 => ?_)
    obtain ⟨v7, eo, hv7, KKv7⟩ := Kv7 o M8 hpv7
    subst eo
    show rb_Bd κ mX0_layOrder (n.1 + n5.1, n.2 + n5.2) M8 72 [some (.ref a0), some (.int a1), some (.int a2), none, none] [v7, .ref a0]
    obtain ⟨q9, eq9, Kq9⟩ := KKv7
    subst eq9
    obtain ⟨ci10, ⟨fsci10, hoci10⟩, hcci10, Kci10⟩ := Kq9
    refine rb_cast q416 hoci10 hcci10 dX0_layOrder_72 ?_
    refine rb_aload_n 0 rfl rfl (rb_isR_ref _) dX0_layOrder_75 ?_
    obtain ⟨v11, hrv11, hv11, Kv11⟩ := Kci10
    refine rc_get fl_X0_146_0 hrv11 dX0_layOrder_76 ?_
    refine rb_iload_n 1 rfl rfl dX0_layOrder_79 ?_
    obtain ⟨q12, eq12, Kq12⟩ := Kv11
    subst eq12
    obtain ⟨d13, n14, Q15, h1v16, hdv16, hnv16, hov16, Kv16⟩ := Kq12
    refine rb_call st_X0_218_7 (rest := [.ref q9, .ref a0]) h1v16 rfl rfl (rc_rc rfl hov16) (Nat.le_of_ble_eq_true rfl) hdv16.1 hdv16.2 hnv16.1 hnv16.2 dX0_layOrder_80 (fun o M17 hpv16 => ?_)
    obtain ⟨v16, eo, hv16, KKv16⟩ := Kv16 o M17 hpv16
    subst eo
    show rb_Bd κ mX0_layOrder (n.1 + n5.1 + n14.1, n.2 + n5.2 + n14.2) M17 83 [some (.ref a0), some (.int a1), some (.int a2), none, none] [v16, .ref q9, .ref a0]
    obtain ⟨q18, eq18, Kq18⟩ := KKv16
    subst eq18
    obtain ⟨ci19, ⟨fsci19, hoci19⟩, hcci19, Kci19⟩ := Kq18
    refine rb_cast q416 hoci19 hcci19 dX0_layOrder_83 ?_
    obtain ⟨d20, n21, Q22, h1v23, hdv23, hnv23, hov23, Kv23⟩ := Kci19
    refine rb_call st_X0_277_0 (rest := []) h1v23 rfl rfl (rc_rc rfl hov23) (Nat.le_of_ble_eq_true rfl) hdv23.1 hdv23.2 hnv23.1 hnv23.2 dX0_layOrder_86 (fun o M24 hpv23 => ?_)
    obtain ⟨eo, KKv23⟩ := Kv23 o M24 hpv23
    subst eo
    show rb_Bd κ mX0_layOrder (n.1 + n5.1 + n14.1 + n21.1, n.2 + n5.2 + n14.2 + n21.2) M24 89 [some (.ref a0), some (.int a1), some (.int a2), none, none] []
    refine rb_iinc (ls' := [some (.ref a0), some (.int a1), some (.int (a2 + (1 : Int32))), none, none]) (v := (a2 + (1 : Int32))) rfl rfl (by decide) rfl rfl dX0_layOrder_89 ?_
    refine rb_goto 58 (by decide) dX0_layOrder_92 ?_
    exact KKv23
theorem sgX0_layOrder_103 {κ : rb_K} {n : Nat × Nat} {M : rb_H} {a0 : Nat} {a1 : Int32} (K : (∃ (v1 : Value), rb_rd M a0 0 2 (v1) ∧ rb_isR v1 ∧ (∃ q2, v1 = .ref q2 ∧ (∃ (d3 : Nat) (n4 : Nat × Nat) (Q5 : Outcome → rb_H → Prop), rb_Ct κ.1 yJ4_size wJ4_size d3 n4 [.ref q2] M Q5 ∧ rb_dp κ d3 ∧ rb_rom κ (n.1 + n4.1, n.2 + n4.2) ∧ rb_ob M q2 7 ∧ ∀ (o : Outcome) (M7 : rb_H), Q5 o M7 → (∃ (x6 : Int32), o = .returned (some (.int x6)) ∧ ((x6 ≤ a1 → rb_Bd κ mX0_layOrder (n.1 + n4.1, n.2 + n4.2) M7 220 [some (.ref a0), some (.int (0 : Int32)), none, none, none] []) ∧ (a1 < x6 → (∃ (v9 : Value), rb_rd M7 a0 0 2 (v9) ∧ rb_isR v9 ∧ (∃ q10, v9 = .ref q10 ∧ (∃ (d11 : Nat) (n12 : Nat × Nat) (Q13 : Outcome → rb_H → Prop), rb_Ct κ.1 yJ4_get wJ4_get d11 n12 [.ref q10, .int a1] M7 Q13 ∧ rb_dp κ d11 ∧ rb_rom κ (n.1 + n4.1 + n12.1, n.2 + n4.2 + n12.2) ∧ rb_ob M7 q10 7 ∧ ∀ (o : Outcome) (M15 : rb_H), Q13 o M15 → (∃ (v14 : Value), o = .returned (some v14) ∧ rb_isR v14 ∧ (∃ q16, v14 = .ref q16 ∧ (∃ ci17, rb_ob M15 q16 ci17 ∧ rb_CC ci17 "RoleLoom$Part" ∧ rb_Bd κ mX0_layOrder (n.1 + n4.1 + n12.1, n.2 + n4.2 + n12.2) M15 128 [some (.ref a0), some (.int a1), some (.ref q16), some (.int (0 : Int32)), none] []))))))))))))) : rb_Bd κ mX0_layOrder n M 103 [some (.ref a0), some (.int a1), none, none, none] [] := by
  refine rb_iload_n 1 rfl rfl dX0_layOrder_103 ?_
  refine rb_aload_n 0 rfl rfl (rb_isR_ref _) dX0_layOrder_104 ?_
  obtain ⟨v1, hrv1, hv1, Kv1⟩ := K
  refine rc_get fl_X0_125_0 hrv1 dX0_layOrder_105 ?_
  obtain ⟨q2, eq2, Kq2⟩ := Kv1
  subst eq2
  obtain ⟨d3, n4, Q5, h1x6, hdx6, hnx6, hox6, Kx6⟩ := Kq2
  refine rb_call st_X0_201_7 (rest := [.int a1]) h1x6 rfl rfl (rc_rc rfl hox6) (Nat.le_of_ble_eq_true rfl) hdx6.1 hdx6.2 hnx6.1 hnx6.2 dX0_layOrder_108 (fun o M7 hpx6 => ?_)
  obtain ⟨x6, eo, KKx6⟩ := Kx6 o M7 hpx6
  subst eo
  show rb_Bd κ mX0_layOrder (n.1 + n4.1, n.2 + n4.2) M7 111 [some (.ref a0), some (.int a1), none, none, none] [.int x6, .int a1]
  refine rb_icge 218 (by decide) dX0_layOrder_111 (fun c8 => ?_) (fun c8 => ?_)
  · skip
    refine rb_iconst (v := (0 : Int32)) (by decide) dX0_layOrder_218 ?_
    refine rb_istore_n 1 rfl (ls' := [some (.ref a0), some (.int (0 : Int32)), none, none, none]) (by decide) rfl rfl dX0_layOrder_219 ?_
    exact ((KKx6).1 c8)
  · skip
    refine rb_aload_n 0 rfl rfl (rb_isR_ref _) dX0_layOrder_114 ?_
    obtain ⟨v9, hrv9, hv9, Kv9⟩ := ((KKx6).2 c8)
    refine rc_get fl_X0_125_0 hrv9 dX0_layOrder_115 ?_
    refine rb_iload_n 1 rfl rfl dX0_layOrder_118 ?_
    obtain ⟨q10, eq10, Kq10⟩ := Kv9
    subst eq10
    obtain ⟨d11, n12, Q13, h1v14, hdv14, hnv14, hov14, Kv14⟩ := Kq10
    refine rb_call st_X0_218_7 (rest := []) h1v14 rfl rfl (rc_rc rfl hov14) (Nat.le_of_ble_eq_true rfl) hdv14.1 hdv14.2 hnv14.1 hnv14.2 dX0_layOrder_119 (fun o M15 hpv14 => ?_)
    obtain ⟨v14, eo, hv14, KKv14⟩ := Kv14 o M15 hpv14
    subst eo
    show rb_Bd κ mX0_layOrder (n.1 + n4.1 + n12.1, n.2 + n4.2 + n12.2) M15 122 [some (.ref a0), some (.int a1), none, none, none] [v14]
    obtain ⟨q16, eq16, Kq16⟩ := KKv14
    subst eq16
    obtain ⟨ci17, ⟨fsci17, hoci17⟩, hcci17, Kci17⟩ := Kq16
    refine rb_cast q416 hoci17 hcci17 dX0_layOrder_122 ?_
    refine rb_astore_n 2 rfl (ls' := [some (.ref a0), some (.int a1), some (.ref q16), none, none]) (by decide) rfl rfl (rb_isR_ref _) dX0_layOrder_125 ?_
    refine rb_iconst (v := (0 : Int32)) (by decide) dX0_layOrder_126 ?_
    refine rb_istore_n 3 rfl (ls' := [some (.ref a0), some (.int a1), some (.ref q16), some (.int (0 : Int32)), none]) (by decide) rfl rfl dX0_layOrder_127 ?_
    exact Kci17
theorem sgX0_layOrder_128 {κ : rb_K} {n : Nat × Nat} {M : rb_H} {a0 : Nat} {a1 : Int32} {a2 : Value} {a3 : Int32} (ha2 : rb_isR a2) (K : (∃ q1, a2 = .ref q1 ∧ (∃ (v2 : Value), rb_rd M q1 5 4 (v2) ∧ rb_isR v2 ∧ (∃ q3, v2 = .ref q3 ∧ (∃ (d4 : Nat) (n5 : Nat × Nat) (Q6 : Outcome → rb_H → Prop), rb_Ct κ.1 yJ4_size wJ4_size d4 n5 [.ref q3] M Q6 ∧ rb_dp κ d4 ∧ rb_rom κ (n.1 + n5.1, n.2 + n5.2) ∧ rb_ob M q3 7 ∧ ∀ (o : Outcome) (M8 : rb_H), Q6 o M8 → (∃ (x7 : Int32), o = .returned (some (.int x7)) ∧ ((x7 ≤ a3 → rb_Bd κ mX0_layOrder (n.1 + n5.1, n.2 + n5.2) M8 103 [some (.ref a0), some (.int (a1 + (1 : Int32))), some (.ref q1), some (.int a3), none] []) ∧ (a3 < x7 → (∃ (v10 : Value), rb_rd M8 a0 0 16 (v10) ∧ rb_isR v10 ∧ (∃ q11, v10 = .ref q11 ∧ (∃ (N12 : Nat) (f13 : Nat → Int32) (x14 : Int32), M8.2 q11 = some (rb_Z N12 f13) ∧ vp_in a1 N12 ∧ f13 (a1).toNatClampNeg = x14 ∧ ((x14 = 0 → rb_Bd κ mX0_layOrder (n.1 + n5.1, n.2 + n5.2) M8 103 [some (.ref a0), some (.int (a1 + (1 : Int32))), some (.ref q1), some (.int a3), none] []) ∧ (¬ x14 = 0 → (∃ (v16 : Value), rb_rd M8 q1 5 4 (v16) ∧ rb_isR v16 ∧ (∃ q17, v16 = .ref q17 ∧ (∃ (d18 : Nat) (n19 : Nat × Nat) (Q20 : Outcome → rb_H → Prop), rb_Ct κ.1 yJ4_get wJ4_get d18 n19 [.ref q17, .int a3] M8 Q20 ∧ rb_dp κ d18 ∧ rb_rom κ (n.1 + n5.1 + n19.1, n.2 + n5.2 + n19.2) ∧ rb_ob M8 q17 7 ∧ ∀ (o : Outcome) (M22 : rb_H), Q20 o M22 → (∃ (v21 : Value), o = .returned (some v21) ∧ rb_isR v21 ∧ (∃ q23, v21 = .ref q23 ∧ (∃ ci24, rb_ob M22 q23 ci24 ∧ rb_CC ci24 "RoleLoom$Part" ∧ (∃ (d25 : Nat) (n26 : Nat × Nat) (Q27 : Outcome → rb_H → Prop), rb_Ct κ.1 yX0_stands wX0_stands d25 n26 [.ref a0, .ref q23, .ref q1] M22 Q27 ∧ rb_dp κ d25 ∧ rb_rom κ (n.1 + n5.1 + n19.1 + n26.1, n.2 + n5.2 + n19.2 + n26.2) ∧ rb_ob M22 a0 0 ∧ ∀ (o : Outcome) (M29 : rb_H), Q27 o M29 → (o = .returned none ∧ rb_Bd κ mX0_layOrder (n.1 + n5.1 + n19.1 + n26.1, n.2 + n5.2 + n19.2 + n26.2) M29 167 [some (.ref a0), some (.int a1), some (.ref q1), some (.int a3), some (.int (0 : Int32))] []))))))))))))))))))))) : rb_Bd κ mX0_layOrder n M 128 [some (.ref a0), some (.int a1), some a2, some (.int a3), none] [] := by
  refine rb_iload_n 3 rfl rfl dX0_layOrder_128 ?_
  refine rb_aload_n 2 rfl rfl ha2 dX0_layOrder_129 ?_
  obtain ⟨q1, eq1, Kq1⟩ := K
  subst eq1
  obtain ⟨v2, hrv2, hv2, Kv2⟩ := Kq1
  refine rc_get fl_X0_222_5 hrv2 dX0_layOrder_130 ?_
  obtain ⟨q3, eq3, Kq3⟩ := Kv2
  subst eq3
  obtain ⟨d4, n5, Q6, h1x7, hdx7, hnx7, hox7, Kx7⟩ := Kq3
  refine rb_call st_X0_201_7 (rest := [.int a3]) h1x7 rfl rfl (rc_rc rfl hox7) (Nat.le_of_ble_eq_true rfl) hdx7.1 hdx7.2 hnx7.1 hnx7.2 dX0_layOrder_133 (fun o M8 hpx7 => ?_)
  obtain ⟨x7, eo, KKx7⟩ := Kx7 o M8 hpx7
  subst eo
  show rb_Bd κ mX0_layOrder (n.1 + n5.1, n.2 + n5.2) M8 136 [some (.ref a0), some (.int a1), some (.ref q1), some (.int a3), none] [.int x7, .int a3]
  refine rb_icge 212 (by decide) dX0_layOrder_136 (fun c9 => ?_) (fun c9 => ?_)
  · skip
    refine rb_iinc (ls' := [some (.ref a0), some (.int (a1 + (1 : Int32))), some (.ref q1), some (.int a3), none]) (v := (a1 + (1 : Int32))) rfl rfl (by decide) rfl rfl dX0_layOrder_212 ?_
    refine rb_goto 103 (by decide) dX0_layOrder_215 ?_
    exact ((KKx7).1 c9)
  · skip
    refine rb_aload_n 0 rfl rfl (rb_isR_ref _) dX0_layOrder_139 ?_
    obtain ⟨v10, hrv10, hv10, Kv10⟩ := ((KKx7).2 c9)
    refine rc_get fl_X0_161_0 hrv10 dX0_layOrder_140 ?_
    refine rb_iload_n 1 rfl rfl dX0_layOrder_143 ?_
    obtain ⟨q11, eq11, Kq11⟩ := Kv10
    subst eq11
    obtain ⟨N12, f13, x14, hMx14, hix14, hxx14, Kx14⟩ := Kq11
    refine rc_zald hMx14 hix14 hxx14 dX0_layOrder_144 ?_
    refine rb_ifeq 212 (by decide) dX0_layOrder_145 (fun c15 => ?_) (fun c15 => ?_)
    · skip
      refine rb_iinc (ls' := [some (.ref a0), some (.int (a1 + (1 : Int32))), some (.ref q1), some (.int a3), none]) (v := (a1 + (1 : Int32))) rfl rfl (by decide) rfl rfl dX0_layOrder_212 ?_
      refine rb_goto 103 (by decide) dX0_layOrder_215 ?_
      exact ((Kx14).1 c15)
    · skip
      refine rb_aload_n 0 rfl rfl (rb_isR_ref _) dX0_layOrder_148 ?_
      refine rb_aload_n 2 rfl rfl (rb_isR_ref _) dX0_layOrder_149 ?_
      obtain ⟨v16, hrv16, hv16, Kv16⟩ := ((Kx14).2 c15)
      refine rc_get fl_X0_222_5 hrv16 dX0_layOrder_150 ?_
      refine rb_iload_n 3 rfl rfl dX0_layOrder_153 ?_
      obtain ⟨q17, eq17, Kq17⟩ := Kv16
      subst eq17
      obtain ⟨d18, n19, Q20, h1v21, hdv21, hnv21, hov21, Kv21⟩ := Kq17
      refine rb_call st_X0_218_7 (rest := [.ref a0]) h1v21 rfl rfl (rc_rc rfl hov21) (Nat.le_of_ble_eq_true rfl) hdv21.1 hdv21.2 hnv21.1 hnv21.2 dX0_layOrder_154 (fun o M22 hpv21 => ?_)
      obtain ⟨v21, eo, hv21, KKv21⟩ := Kv21 o M22 hpv21
      subst eo
      show rb_Bd κ mX0_layOrder (n.1 + n5.1 + n19.1, n.2 + n5.2 + n19.2) M22 157 [some (.ref a0), some (.int a1), some (.ref q1), some (.int a3), none] [v21, .ref a0]
      obtain ⟨q23, eq23, Kq23⟩ := KKv21
      subst eq23
      obtain ⟨ci24, ⟨fsci24, hoci24⟩, hcci24, Kci24⟩ := Kq23
      refine rb_cast q416 hoci24 hcci24 dX0_layOrder_157 ?_
      refine rb_aload_n 2 rfl rfl (rb_isR_ref _) dX0_layOrder_160 ?_
      obtain ⟨d25, n26, Q27, h1v28, hdv28, hnv28, hov28, Kv28⟩ := Kci24
      refine rb_call st_X0_277_0 (rest := []) h1v28 rfl rfl (rc_rc rfl hov28) (Nat.le_of_ble_eq_true rfl) hdv28.1 hdv28.2 hnv28.1 hnv28.2 dX0_layOrder_161 (fun o M29 hpv28 => ?_)
      obtain ⟨eo, KKv28⟩ := Kv28 o M29 hpv28
      subst eo
      show rb_Bd κ mX0_layOrder (n.1 + n5.1 + n19.1 + n26.1, n.2 + n5.2 + n19.2 + n26.2) M29 164 [some (.ref a0), some (.int a1), some (.ref q1), some (.int a3), none] []
      refine rb_iconst (v := (0 : Int32)) (by decide) dX0_layOrder_164 ?_
      refine rb_istore (ls' := [some (.ref a0), some (.int a1), some (.ref q1), some (.int a3), some (.int (0 : Int32))]) (by decide) rfl rfl dX0_layOrder_165 ?_
      exact KKv28
theorem sgX0_layOrder_167 {κ : rb_K} {n : Nat × Nat} {M : rb_H} {a0 : Nat} {a1 : Int32} {a2 : Value} {a3 : Int32} {a4 : Int32} (ha2 : rb_isR a2) (K : ((a3 ≤ a4 → rb_Bd κ mX0_layOrder n M 128 [some (.ref a0), some (.int a1), some a2, some (.int (a3 + (1 : Int32))), some (.int a4)] []) ∧ (a4 < a3 → (∃ q2, a2 = .ref q2 ∧ (∃ (v3 : Value), rb_rd M q2 5 4 (v3) ∧ rb_isR v3 ∧ (∃ q4, v3 = .ref q4 ∧ (∃ (d5 : Nat) (n6 : Nat × Nat) (Q7 : Outcome → rb_H → Prop), rb_Ct κ.1 yJ4_get wJ4_get d5 n6 [.ref q4, .int a4] M Q7 ∧ rb_dp κ d5 ∧ rb_rom κ (n.1 + n6.1, n.2 + n6.2) ∧ rb_ob M q4 7 ∧ ∀ (o : Outcome) (M9 : rb_H), Q7 o M9 → (∃ (v8 : Value), o = .returned (some v8) ∧ rb_isR v8 ∧ (∃ q10, v8 = .ref q10 ∧ (∃ ci11, rb_ob M9 q10 ci11 ∧ rb_CC ci11 "RoleLoom$Part" ∧ (∃ (v12 : Value), rb_rd M9 q2 5 4 (v12) ∧ rb_isR v12 ∧ (∃ q13, v12 = .ref q13 ∧ (∃ (d14 : Nat) (n15 : Nat × Nat) (Q16 : Outcome → rb_H → Prop), rb_Ct κ.1 yJ4_get wJ4_get d14 n15 [.ref q13, .int a3] M9 Q16 ∧ rb_dp κ d14 ∧ rb_rom κ (n.1 + n6.1 + n15.1, n.2 + n6.2 + n15.2) ∧ rb_ob M9 q13 7 ∧ ∀ (o : Outcome) (M18 : rb_H), Q16 o M18 → (∃ (v17 : Value), o = .returned (some v17) ∧ rb_isR v17 ∧ (∃ q19, v17 = .ref q19 ∧ (∃ ci20, rb_ob M18 q19 ci20 ∧ rb_CC ci20 "RoleLoom$Part" ∧ (∃ (d21 : Nat) (n22 : Nat × Nat) (Q23 : Outcome → rb_H → Prop), rb_Ct κ.1 yX0_stands wX0_stands d21 n22 [.ref a0, .ref q10, .ref q19] M18 Q23 ∧ rb_dp κ d21 ∧ rb_rom κ (n.1 + n6.1 + n15.1 + n22.1, n.2 + n6.2 + n15.2 + n22.2) ∧ rb_ob M18 a0 0 ∧ ∀ (o : Outcome) (M25 : rb_H), Q23 o M25 → (o = .returned none ∧ rb_Bd κ mX0_layOrder (n.1 + n6.1 + n15.1 + n22.1, n.2 + n6.2 + n15.2 + n22.2) M25 167 [some (.ref a0), some (.int a1), some (.ref q2), some (.int a3), some (.int (a4 + (1 : Int32)))] [])))))))))))))))))) : rb_Bd κ mX0_layOrder n M 167 [some (.ref a0), some (.int a1), some a2, some (.int a3), some (.int a4)] [] := by
  refine rb_iload rfl dX0_layOrder_167 ?_
  refine rb_iload_n 3 rfl rfl dX0_layOrder_169 ?_
  refine rb_icge 206 (by decide) dX0_layOrder_170 (fun c1 => ?_) (fun c1 => ?_)
  · skip
    refine rb_iinc (ls' := [some (.ref a0), some (.int a1), some a2, some (.int (a3 + (1 : Int32))), some (.int a4)]) (v := (a3 + (1 : Int32))) rfl rfl (by decide) (by simp [rb_o1, rb_isR_cat ha2]) rfl dX0_layOrder_206 ?_
    refine rb_goto 128 (by decide) dX0_layOrder_209 ?_
    exact ((K).1 c1)
  · skip
    refine rb_aload_n 0 rfl rfl (rb_isR_ref _) dX0_layOrder_173 ?_
    refine rb_aload_n 2 rfl rfl ha2 dX0_layOrder_174 ?_
    obtain ⟨q2, eq2, Kq2⟩ := ((K).2 c1)
    subst eq2
    obtain ⟨v3, hrv3, hv3, Kv3⟩ := Kq2
    refine rc_get fl_X0_222_5 hrv3 dX0_layOrder_175 ?_
    refine rb_iload rfl dX0_layOrder_178 ?_
    obtain ⟨q4, eq4, Kq4⟩ := Kv3
    subst eq4
    obtain ⟨d5, n6, Q7, h1v8, hdv8, hnv8, hov8, Kv8⟩ := Kq4
    refine rb_call st_X0_218_7 (rest := [.ref a0]) h1v8 rfl rfl (rc_rc rfl hov8) (Nat.le_of_ble_eq_true rfl) hdv8.1 hdv8.2 hnv8.1 hnv8.2 dX0_layOrder_180 (fun o M9 hpv8 => ?_)
    obtain ⟨v8, eo, hv8, KKv8⟩ := Kv8 o M9 hpv8
    subst eo
    show rb_Bd κ mX0_layOrder (n.1 + n6.1, n.2 + n6.2) M9 183 [some (.ref a0), some (.int a1), some (.ref q2), some (.int a3), some (.int a4)] [v8, .ref a0]
    obtain ⟨q10, eq10, Kq10⟩ := KKv8
    subst eq10
    obtain ⟨ci11, ⟨fsci11, hoci11⟩, hcci11, Kci11⟩ := Kq10
    refine rb_cast q416 hoci11 hcci11 dX0_layOrder_183 ?_
    refine rb_aload_n 2 rfl rfl (rb_isR_ref _) dX0_layOrder_186 ?_
    obtain ⟨v12, hrv12, hv12, Kv12⟩ := Kci11
    refine rc_get fl_X0_222_5 hrv12 dX0_layOrder_187 ?_
    refine rb_iload_n 3 rfl rfl dX0_layOrder_190 ?_
    obtain ⟨q13, eq13, Kq13⟩ := Kv12
    subst eq13
    obtain ⟨d14, n15, Q16, h1v17, hdv17, hnv17, hov17, Kv17⟩ := Kq13
    refine rb_call st_X0_218_7 (rest := [.ref q10, .ref a0]) h1v17 rfl rfl (rc_rc rfl hov17) (Nat.le_of_ble_eq_true rfl) hdv17.1 hdv17.2 hnv17.1 hnv17.2 dX0_layOrder_191 (fun o M18 hpv17 => ?_)
    obtain ⟨v17, eo, hv17, KKv17⟩ := Kv17 o M18 hpv17
    subst eo
    show rb_Bd κ mX0_layOrder (n.1 + n6.1 + n15.1, n.2 + n6.2 + n15.2) M18 194 [some (.ref a0), some (.int a1), some (.ref q2), some (.int a3), some (.int a4)] [v17, .ref q10, .ref a0]
    obtain ⟨q19, eq19, Kq19⟩ := KKv17
    subst eq19
    obtain ⟨ci20, ⟨fsci20, hoci20⟩, hcci20, Kci20⟩ := Kq19
    refine rb_cast q416 hoci20 hcci20 dX0_layOrder_194 ?_
    obtain ⟨d21, n22, Q23, h1v24, hdv24, hnv24, hov24, Kv24⟩ := Kci20
    refine rb_call st_X0_277_0 (rest := []) h1v24 rfl rfl (rc_rc rfl hov24) (Nat.le_of_ble_eq_true rfl) hdv24.1 hdv24.2 hnv24.1 hnv24.2 dX0_layOrder_197 (fun o M25 hpv24 => ?_)
    obtain ⟨eo, KKv24⟩ := Kv24 o M25 hpv24
    subst eo
    show rb_Bd κ mX0_layOrder (n.1 + n6.1 + n15.1 + n22.1, n.2 + n6.2 + n15.2 + n22.2) M25 200 [some (.ref a0), some (.int a1), some (.ref q2), some (.int a3), some (.int a4)] []
    refine rb_iinc (ls' := [some (.ref a0), some (.int a1), some (.ref q2), some (.int a3), some (.int (a4 + (1 : Int32)))]) (v := (a4 + (1 : Int32))) rfl rfl (by decide) rfl rfl dX0_layOrder_200 ?_
    refine rb_goto 167 (by decide) dX0_layOrder_203 ?_
    exact KKv24
theorem sgX0_layOrder_220 {κ : rb_K} {n : Nat × Nat} {M : rb_H} {a0 : Nat} {a1 : Int32} (K : (∃ (x1 : Int32), rb_rd M a0 0 5 (.int x1) ∧ ((x1 ≤ a1 → (rb_fin κ n ∧ κ.2.2.1 (.returned none) M)) ∧ (a1 < x1 → (∃ (v3 : Value), rb_rd M a0 0 16 (v3) ∧ rb_isR v3 ∧ (∃ (v4 : Value), rb_rd M a0 0 3 (v4) ∧ rb_isR v4 ∧ (∃ q5, v4 = .ref q5 ∧ (∃ (N6 : Nat) (f7 : Nat → Int32) (x8 : Int32), M.2 q5 = some (rb_I N6 f7) ∧ vp_in a1 N6 ∧ f7 (a1).toNatClampNeg = x8 ∧ (∃ q9, v3 = .ref q9 ∧ (∃ (N10 : Nat) (f11 : Nat → Int32) (x12 : Int32), M.2 q9 = some (rb_Z N10 f11) ∧ vp_in x8 N10 ∧ f11 (x8).toNatClampNeg = x12 ∧ ((x12 = 0 → rb_Bd κ mX0_layOrder n M 220 [some (.ref a0), some (.int (a1 + (1 : Int32))), none, none, none] []) ∧ (¬ x12 = 0 → (∃ (v14 : Value), rb_rd M a0 0 16 (v14) ∧ rb_isR v14 ∧ (∃ (v15 : Value), rb_rd M a0 0 4 (v15) ∧ rb_isR v15 ∧ (∃ q16, v15 = .ref q16 ∧ (∃ (N17 : Nat) (f18 : Nat → Int32) (x19 : Int32), M.2 q16 = some (rb_I N17 f18) ∧ vp_in a1 N17 ∧ f18 (a1).toNatClampNeg = x19 ∧ (∃ q20, v14 = .ref q20 ∧ (∃ (N21 : Nat) (f22 : Nat → Int32) (x23 : Int32), M.2 q20 = some (rb_Z N21 f22) ∧ vp_in x19 N21 ∧ f22 (x19).toNatClampNeg = x23 ∧ ((x23 = 0 → rb_Bd κ mX0_layOrder n M 220 [some (.ref a0), some (.int (a1 + (1 : Int32))), none, none, none] []) ∧ (¬ x23 = 0 → (∃ (v25 : Value), rb_rd M a0 0 17 (v25) ∧ rb_isR v25 ∧ (∃ (v26 : Value), rb_rd M a0 0 3 (v26) ∧ rb_isR v26 ∧ (∃ q27, v26 = .ref q27 ∧ (∃ (N28 : Nat) (f29 : Nat → Int32) (x30 : Int32), M.2 q27 = some (rb_I N28 f29) ∧ vp_in a1 N28 ∧ f29 (a1).toNatClampNeg = x30 ∧ (∃ q31, v25 = .ref q31 ∧ (∃ (N32 : Nat) (f33 : Nat → Int32) (x34 : Int32), M.2 q31 = some (rb_I N32 f33) ∧ vp_in x30 N32 ∧ f33 (x30).toNatClampNeg = x34 ∧ (∃ (v35 : Value), rb_rd M a0 0 4 (v35) ∧ rb_isR v35 ∧ (∃ q36, v35 = .ref q36 ∧ (∃ (N37 : Nat) (f38 : Nat → Int32) (x39 : Int32), M.2 q36 = some (rb_I N37 f38) ∧ vp_in a1 N37 ∧ f38 (a1).toNatClampNeg = x39 ∧ (∃ (N40 : Nat) (f41 : Nat → Int32), M.2 q31 = some (rb_I N40 f41) ∧ vp_in x30 N40 ∧ rb_Bd κ mX0_layOrder n (rb_up M q31 (rb_I N40 (va_up f41 (x30).toNatClampNeg (x34 ||| ((1 : Int32) <<< (x39 &&& 31)))))) 220 [some (.ref a0), some (.int (a1 + (1 : Int32))), none, none, none] [])))))))))))))))))))))))))))))) : rb_Bd κ mX0_layOrder n M 220 [some (.ref a0), some (.int a1), none, none, none] [] := by
  refine rb_iload_n 1 rfl rfl dX0_layOrder_220 ?_
  refine rb_aload_n 0 rfl rfl (rb_isR_ref _) dX0_layOrder_221 ?_
  obtain ⟨x1, hrx1, Kx1⟩ := K
  refine rc_get fl_X0_232_0 hrx1 dX0_layOrder_222 ?_
  refine rb_icge 284 (by decide) dX0_layOrder_225 (fun c2 => ?_) (fun c2 => ?_)
  · skip
    exact rb_vret rfl (((Kx1).1 c2)).1.1 (((Kx1).1 c2)).1.2 dX0_layOrder_284 (((Kx1).1 c2)).2
  · skip
    refine rb_aload_n 0 rfl rfl (rb_isR_ref _) dX0_layOrder_228 ?_
    obtain ⟨v3, hrv3, hv3, Kv3⟩ := ((Kx1).2 c2)
    refine rc_get fl_X0_161_0 hrv3 dX0_layOrder_229 ?_
    refine rb_aload_n 0 rfl rfl (rb_isR_ref _) dX0_layOrder_232 ?_
    obtain ⟨v4, hrv4, hv4, Kv4⟩ := Kv3
    refine rc_get fl_X0_129_0 hrv4 dX0_layOrder_233 ?_
    refine rb_iload_n 1 rfl rfl dX0_layOrder_236 ?_
    obtain ⟨q5, eq5, Kq5⟩ := Kv4
    subst eq5
    obtain ⟨N6, f7, x8, hMx8, hix8, hxx8, Kx8⟩ := Kq5
    refine rc_iald hMx8 hix8 hxx8 dX0_layOrder_237 ?_
    obtain ⟨q9, eq9, Kq9⟩ := Kx8
    subst eq9
    obtain ⟨N10, f11, x12, hMx12, hix12, hxx12, Kx12⟩ := Kq9
    refine rc_zald hMx12 hix12 hxx12 dX0_layOrder_238 ?_
    refine rb_ifeq 278 (by decide) dX0_layOrder_239 (fun c13 => ?_) (fun c13 => ?_)
    · skip
      refine rb_iinc (ls' := [some (.ref a0), some (.int (a1 + (1 : Int32))), none, none, none]) (v := (a1 + (1 : Int32))) rfl rfl (by decide) rfl rfl dX0_layOrder_278 ?_
      refine rb_goto 220 (by decide) dX0_layOrder_281 ?_
      exact ((Kx12).1 c13)
    · skip
      refine rb_aload_n 0 rfl rfl (rb_isR_ref _) dX0_layOrder_242 ?_
      obtain ⟨v14, hrv14, hv14, Kv14⟩ := ((Kx12).2 c13)
      refine rc_get fl_X0_161_0 hrv14 dX0_layOrder_243 ?_
      refine rb_aload_n 0 rfl rfl (rb_isR_ref _) dX0_layOrder_246 ?_
      obtain ⟨v15, hrv15, hv15, Kv15⟩ := Kv14
      refine rc_get fl_X0_133_0 hrv15 dX0_layOrder_247 ?_
      refine rb_iload_n 1 rfl rfl dX0_layOrder_250 ?_
      obtain ⟨q16, eq16, Kq16⟩ := Kv15
      subst eq16
      obtain ⟨N17, f18, x19, hMx19, hix19, hxx19, Kx19⟩ := Kq16
      refine rc_iald hMx19 hix19 hxx19 dX0_layOrder_251 ?_
      obtain ⟨q20, eq20, Kq20⟩ := Kx19
      subst eq20
      obtain ⟨N21, f22, x23, hMx23, hix23, hxx23, Kx23⟩ := Kq20
      refine rc_zald hMx23 hix23 hxx23 dX0_layOrder_252 ?_
      refine rb_ifeq 278 (by decide) dX0_layOrder_253 (fun c24 => ?_) (fun c24 => ?_)
      · skip
        refine rb_iinc (ls' := [some (.ref a0), some (.int (a1 + (1 : Int32))), none, none, none]) (v := (a1 + (1 : Int32))) rfl rfl (by decide) rfl rfl dX0_layOrder_278 ?_
        refine rb_goto 220 (by decide) dX0_layOrder_281 ?_
        exact ((Kx23).1 c24)
      · skip
        refine rb_aload_n 0 rfl rfl (rb_isR_ref _) dX0_layOrder_256 ?_
        obtain ⟨v25, hrv25, hv25, Kv25⟩ := ((Kx23).2 c24)
        refine rc_get fl_X0_165_0 hrv25 dX0_layOrder_257 ?_
        refine rb_aload_n 0 rfl rfl (rb_isR_ref _) dX0_layOrder_260 ?_
        obtain ⟨v26, hrv26, hv26, Kv26⟩ := Kv25
        refine rc_get fl_X0_129_0 hrv26 dX0_layOrder_261 ?_
        refine rb_iload_n 1 rfl rfl dX0_layOrder_264 ?_
        obtain ⟨q27, eq27, Kq27⟩ := Kv26
        subst eq27
        obtain ⟨N28, f29, x30, hMx30, hix30, hxx30, Kx30⟩ := Kq27
        refine rc_iald hMx30 hix30 hxx30 dX0_layOrder_265 ?_
        refine rb_dup2 rfl (rb_isR_cat hv25) dX0_layOrder_266 ?_
        obtain ⟨q31, eq31, Kq31⟩ := Kx30
        subst eq31
        obtain ⟨N32, f33, x34, hMx34, hix34, hxx34, Kx34⟩ := Kq31
        refine rc_iald hMx34 hix34 hxx34 dX0_layOrder_267 ?_
        refine rb_iconst (v := (1 : Int32)) (by decide) dX0_layOrder_268 ?_
        refine rb_aload_n 0 rfl rfl (rb_isR_ref _) dX0_layOrder_269 ?_
        obtain ⟨v35, hrv35, hv35, Kv35⟩ := Kx34
        refine rc_get fl_X0_133_0 hrv35 dX0_layOrder_270 ?_
        refine rb_iload_n 1 rfl rfl dX0_layOrder_273 ?_
        obtain ⟨q36, eq36, Kq36⟩ := Kv35
        subst eq36
        obtain ⟨N37, f38, x39, hMx39, hix39, hxx39, Kx39⟩ := Kq36
        refine rc_iald hMx39 hix39 hxx39 dX0_layOrder_274 ?_
        refine rb_ishl (z := ((1 : Int32) <<< (x39 &&& 31))) rfl dX0_layOrder_275 ?_
        refine rb_ior (z := (x34 ||| ((1 : Int32) <<< (x39 &&& 31)))) rfl dX0_layOrder_276 ?_
        obtain ⟨N40, f41, hMf41, hif41, Kf41⟩ := Kx39
        refine rb_iast hMf41 hif41 dX0_layOrder_277 ?_
        refine rb_iinc (ls' := [some (.ref a0), some (.int (a1 + (1 : Int32))), none, none, none]) (v := (a1 + (1 : Int32))) rfl rfl (by decide) rfl rfl dX0_layOrder_278 ?_
        refine rb_goto 220 (by decide) dX0_layOrder_281 ?_
        exact Kf41
theorem sgX0_take_0 {κ : rb_K} {n : Nat × Nat} {M : rb_H} {a0 : Nat} {a1 : Value} (ha1 : rb_isR a1) (K : (∃ (v1 : Value), rb_rd M a0 0 16 (v1) ∧ rb_isR v1 ∧ (∃ q2, a1 = .ref q2 ∧ (∃ (x3 : Int32), rb_rd M q2 5 0 (.int x3) ∧ (∃ q4, v1 = .ref q4 ∧ (∃ (N5 : Nat) (f6 : Nat → Int32), M.2 q4 = some (rb_Z N5 f6) ∧ vp_in x3 N5 ∧ vp_nar .boolean (1 : Int32) = (1 : Int32) ∧ (∃ (v7 : Value), rb_rd (rb_up M q4 (rb_Z N5 (va_up f6 (x3).toNatClampNeg (1 : Int32)))) q2 5 4 (v7) ∧ rb_isR v7 ∧ (∃ q8, v7 = .ref q8 ∧ (∃ (d9 : Nat) (n10 : Nat × Nat) (Q11 : Outcome → rb_H → Prop), rb_Ct κ.1 yJ4_size wJ4_size d9 n10 [.ref q8] (rb_up M q4 (rb_Z N5 (va_up f6 (x3).toNatClampNeg (1 : Int32)))) Q11 ∧ rb_dp κ d9 ∧ rb_rom κ (n.1 + n10.1, n.2 + n10.2) ∧ rb_ob (rb_up M q4 (rb_Z N5 (va_up f6 (x3).toNatClampNeg (1 : Int32)))) q8 7 ∧ ∀ (o : Outcome) (M13 : rb_H), Q11 o M13 → (∃ (x12 : Int32), o = .returned (some (.int x12)) ∧ rb_Bd κ mX0_take (n.1 + n10.1, n.2 + n10.2) M13 20 [some (.ref a0), some (.ref q2), some (.int (x12 - (1 : Int32)))] [])))))))))) : rb_Bd κ mX0_take n M 0 [some (.ref a0), some a1, none] [] := by
  refine rb_aload_n 0 rfl rfl (rb_isR_ref _) dX0_take_0 ?_
  obtain ⟨v1, hrv1, hv1, Kv1⟩ := K
  refine rc_get fl_X0_161_0 hrv1 dX0_take_1 ?_
  refine rb_aload_n 1 rfl rfl ha1 dX0_take_4 ?_
  obtain ⟨q2, eq2, Kq2⟩ := Kv1
  subst eq2
  obtain ⟨x3, hrx3, Kx3⟩ := Kq2
  refine rc_get fl_X0_272_5 hrx3 dX0_take_5 ?_
  refine rb_iconst (v := (1 : Int32)) (by decide) dX0_take_8 ?_
  obtain ⟨q4, eq4, Kq4⟩ := Kx3
  subst eq4
  obtain ⟨N5, f6, hMf6, hif6, hbf6, Kf6⟩ := Kq4
  refine rb_zast hMf6 hif6 hbf6 dX0_take_9 ?_
  refine rb_aload_n 1 rfl rfl (rb_isR_ref _) dX0_take_10 ?_
  obtain ⟨v7, hrv7, hv7, Kv7⟩ := Kf6
  refine rc_get fl_X0_222_5 hrv7 dX0_take_11 ?_
  obtain ⟨q8, eq8, Kq8⟩ := Kv7
  subst eq8
  obtain ⟨d9, n10, Q11, h1x12, hdx12, hnx12, hox12, Kx12⟩ := Kq8
  refine rb_call st_X0_201_7 (rest := []) h1x12 rfl rfl (rc_rc rfl hox12) (Nat.le_of_ble_eq_true rfl) hdx12.1 hdx12.2 hnx12.1 hnx12.2 dX0_take_14 (fun o M13 hpx12 => ?_)
  obtain ⟨x12, eo, KKx12⟩ := Kx12 o M13 hpx12
  subst eo
  show rb_Bd κ mX0_take (n.1 + n10.1, n.2 + n10.2) M13 17 [some (.ref a0), some (.ref q2), none] [.int x12]
  refine rb_iconst (v := (1 : Int32)) (by decide) dX0_take_17 ?_
  refine rb_isub (z := (x12 - (1 : Int32))) rfl dX0_take_18 ?_
  refine rb_istore_n 2 rfl (ls' := [some (.ref a0), some (.ref q2), some (.int (x12 - (1 : Int32)))]) (by decide) rfl rfl dX0_take_19 ?_
  exact KKx12
theorem sgX0_take_20 {κ : rb_K} {n : Nat × Nat} {M : rb_H} {a0 : Nat} {a1 : Value} {a2 : Int32} (ha1 : rb_isR a1) (K : ((a2 < 0 → (rb_fin κ n ∧ κ.2.2.1 (.returned none) M)) ∧ (0 ≤ a2 → (∃ (v2 : Value), rb_rd M a0 0 16 (v2) ∧ rb_isR v2 ∧ (∃ q3, a1 = .ref q3 ∧ (∃ (v4 : Value), rb_rd M q3 5 4 (v4) ∧ rb_isR v4 ∧ (∃ q5, v4 = .ref q5 ∧ (∃ (d6 : Nat) (n7 : Nat × Nat) (Q8 : Outcome → rb_H → Prop), rb_Ct κ.1 yJ4_get wJ4_get d6 n7 [.ref q5, .int a2] M Q8 ∧ rb_dp κ d6 ∧ rb_rom κ (n.1 + n7.1, n.2 + n7.2) ∧ rb_ob M q5 7 ∧ ∀ (o : Outcome) (M10 : rb_H), Q8 o M10 → (∃ (v9 : Value), o = .returned (some v9) ∧ rb_isR v9 ∧ (∃ q11, v9 = .ref q11 ∧ (∃ ci12, rb_ob M10 q11 ci12 ∧ rb_CC ci12 "RoleLoom$Part" ∧ (∃ (x13 : Int32), rb_rd M10 q11 5 0 (.int x13) ∧ (∃ q14, v2 = .ref q14 ∧ (∃ (N15 : Nat) (f16 : Nat → Int32) (x17 : Int32), M10.2 q14 = some (rb_Z N15 f16) ∧ vp_in x13 N15 ∧ f16 (x13).toNatClampNeg = x17 ∧ ((¬ x17 = 0 → rb_Bd κ mX0_take (n.1 + n7.1, n.2 + n7.2) M10 20 [some (.ref a0), some (.ref q3), some (.int (a2 + (-1 : Int32)))] []) ∧ (x17 = 0 → (∃ (v19 : Value), rb_rd M10 q3 5 4 (v19) ∧ rb_isR v19 ∧ (∃ q20, v19 = .ref q20 ∧ (∃ (d21 : Nat) (n22 : Nat × Nat) (Q23 : Outcome → rb_H → Prop), rb_Ct κ.1 yJ4_get wJ4_get d21 n22 [.ref q20, .int a2] M10 Q23 ∧ rb_dp κ d21 ∧ rb_rom κ (n.1 + n7.1 + n22.1, n.2 + n7.2 + n22.2) ∧ rb_ob M10 q20 7 ∧ ∀ (o : Outcome) (M25 : rb_H), Q23 o M25 → (∃ (v24 : Value), o = .returned (some v24) ∧ rb_isR v24 ∧ (∃ q26, v24 = .ref q26 ∧ (∃ ci27, rb_ob M25 q26 ci27 ∧ rb_CC ci27 "RoleLoom$Part" ∧ (∃ (d28 : Nat) (n29 : Nat × Nat) (Q30 : Outcome → rb_H → Prop), rb_Ct κ.1 yX0_take wX0_take d28 n29 [.ref a0, .ref q26] M25 Q30 ∧ rb_dp κ d28 ∧ rb_rom κ (n.1 + n7.1 + n22.1 + n29.1, n.2 + n7.2 + n22.2 + n29.2) ∧ rb_ob M25 a0 0 ∧ ∀ (o : Outcome) (M32 : rb_H), Q30 o M32 → (o = .returned none ∧ rb_Bd κ mX0_take (n.1 + n7.1 + n22.1 + n29.1, n.2 + n7.2 + n22.2 + n29.2) M32 20 [some (.ref a0), some (.ref q3), some (.int (a2 + (-1 : Int32)))] [])))))))))))))))))))))))) : rb_Bd κ mX0_take n M 20 [some (.ref a0), some a1, some (.int a2)] [] := by
  refine rb_iload_n 2 rfl rfl dX0_take_20 ?_
  refine rb_iflt 67 (by decide) dX0_take_21 (fun c1 => ?_) (fun c1 => ?_)
  · skip
    exact rb_vret rfl (((K).1 c1)).1.1 (((K).1 c1)).1.2 dX0_take_67 (((K).1 c1)).2
  · skip
    refine rb_aload_n 0 rfl rfl (rb_isR_ref _) dX0_take_24 ?_
    obtain ⟨v2, hrv2, hv2, Kv2⟩ := ((K).2 c1)
    refine rc_get fl_X0_161_0 hrv2 dX0_take_25 ?_
    refine rb_aload_n 1 rfl rfl ha1 dX0_take_28 ?_
    obtain ⟨q3, eq3, Kq3⟩ := Kv2
    subst eq3
    obtain ⟨v4, hrv4, hv4, Kv4⟩ := Kq3
    refine rc_get fl_X0_222_5 hrv4 dX0_take_29 ?_
    refine rb_iload_n 2 rfl rfl dX0_take_32 ?_
    obtain ⟨q5, eq5, Kq5⟩ := Kv4
    subst eq5
    obtain ⟨d6, n7, Q8, h1v9, hdv9, hnv9, hov9, Kv9⟩ := Kq5
    refine rb_call st_X0_218_7 (rest := [v2]) h1v9 rfl rfl (rc_rc rfl hov9) (by simp [rb_isR_cat hv2, rb_cR, rb_cI, rb_cJ, rb_cN]) hdv9.1 hdv9.2 hnv9.1 hnv9.2 dX0_take_33 (fun o M10 hpv9 => ?_)
    obtain ⟨v9, eo, hv9, KKv9⟩ := Kv9 o M10 hpv9
    subst eo
    show rb_Bd κ mX0_take (n.1 + n7.1, n.2 + n7.2) M10 36 [some (.ref a0), some (.ref q3), some (.int a2)] [v9, v2]
    obtain ⟨q11, eq11, Kq11⟩ := KKv9
    subst eq11
    obtain ⟨ci12, ⟨fsci12, hoci12⟩, hcci12, Kci12⟩ := Kq11
    refine rb_cast q416 hoci12 hcci12 dX0_take_36 ?_
    obtain ⟨x13, hrx13, Kx13⟩ := Kci12
    refine rc_get fl_X0_272_5 hrx13 dX0_take_39 ?_
    obtain ⟨q14, eq14, Kq14⟩ := Kx13
    subst eq14
    obtain ⟨N15, f16, x17, hMx17, hix17, hxx17, Kx17⟩ := Kq14
    refine rc_zald hMx17 hix17 hxx17 dX0_take_42 ?_
    refine rb_ifne 61 (by decide) dX0_take_43 (fun c18 => ?_) (fun c18 => ?_)
    · skip
      refine rb_iinc (ls' := [some (.ref a0), some (.ref q3), some (.int (a2 + (-1 : Int32)))]) (v := (a2 + (-1 : Int32))) rfl (congrArg (fun z => a2 + z) (show Int32.ofInt (-1) = (-1 : Int32) from by decide)) (by decide) rfl rfl dX0_take_61 ?_
      refine rb_goto 20 (by decide) dX0_take_64 ?_
      exact ((Kx17).1 c18)
    · skip
      refine rb_aload_n 0 rfl rfl (rb_isR_ref _) dX0_take_46 ?_
      refine rb_aload_n 1 rfl rfl (rb_isR_ref _) dX0_take_47 ?_
      obtain ⟨v19, hrv19, hv19, Kv19⟩ := ((Kx17).2 c18)
      refine rc_get fl_X0_222_5 hrv19 dX0_take_48 ?_
      refine rb_iload_n 2 rfl rfl dX0_take_51 ?_
      obtain ⟨q20, eq20, Kq20⟩ := Kv19
      subst eq20
      obtain ⟨d21, n22, Q23, h1v24, hdv24, hnv24, hov24, Kv24⟩ := Kq20
      refine rb_call st_X0_218_7 (rest := [.ref a0]) h1v24 rfl rfl (rc_rc rfl hov24) (Nat.le_of_ble_eq_true rfl) hdv24.1 hdv24.2 hnv24.1 hnv24.2 dX0_take_52 (fun o M25 hpv24 => ?_)
      obtain ⟨v24, eo, hv24, KKv24⟩ := Kv24 o M25 hpv24
      subst eo
      show rb_Bd κ mX0_take (n.1 + n7.1 + n22.1, n.2 + n7.2 + n22.2) M25 55 [some (.ref a0), some (.ref q3), some (.int a2)] [v24, .ref a0]
      obtain ⟨q26, eq26, Kq26⟩ := KKv24
      subst eq26
      obtain ⟨ci27, ⟨fsci27, hoci27⟩, hcci27, Kci27⟩ := Kq26
      refine rb_cast q416 hoci27 hcci27 dX0_take_55 ?_
      obtain ⟨d28, n29, Q30, h1v31, hdv31, hnv31, hov31, Kv31⟩ := Kci27
      refine rb_call st_X0_273_0 (rest := []) h1v31 rfl rfl (rc_rc rfl hov31) (Nat.le_of_ble_eq_true rfl) hdv31.1 hdv31.2 hnv31.1 hnv31.2 dX0_take_58 (fun o M32 hpv31 => ?_)
      obtain ⟨eo, KKv31⟩ := Kv31 o M32 hpv31
      subst eo
      show rb_Bd κ mX0_take (n.1 + n7.1 + n22.1 + n29.1, n.2 + n7.2 + n22.2 + n29.2) M32 61 [some (.ref a0), some (.ref q3), some (.int a2)] []
      refine rb_iinc (ls' := [some (.ref a0), some (.ref q3), some (.int (a2 + (-1 : Int32)))]) (v := (a2 + (-1 : Int32))) rfl (congrArg (fun z => a2 + z) (show Int32.ofInt (-1) = (-1 : Int32) from by decide)) (by decide) rfl rfl dX0_take_61 ?_
      refine rb_goto 20 (by decide) dX0_take_64 ?_
      exact KKv31
theorem sgX0_stands_0 {κ : rb_K} {n : Nat × Nat} {M : rb_H} {a0 : Nat} {a1 : Value} {a2 : Value} (ha1 : rb_isR a1) (ha2 : rb_isR a2) (K : (∃ (v1 : Value), rb_rd M a0 0 17 (v1) ∧ rb_isR v1 ∧ (∃ q2, a1 = .ref q2 ∧ (∃ (x3 : Int32), rb_rd M q2 5 0 (.int x3) ∧ (∃ q4, v1 = .ref q4 ∧ (∃ (N5 : Nat) (f6 : Nat → Int32) (x7 : Int32), M.2 q4 = some (rb_I N5 f6) ∧ vp_in x3 N5 ∧ f6 (x3).toNatClampNeg = x7 ∧ (∃ q8, a2 = .ref q8 ∧ (∃ (x9 : Int32), rb_rd M q8 5 0 (.int x9) ∧ (∃ (N10 : Nat) (f11 : Nat → Int32), M.2 q4 = some (rb_I N10 f11) ∧ vp_in x3 N10 ∧ (rb_fin κ n ∧ κ.2.2.1 (.returned none) (rb_up M q4 (rb_I N10 (va_up f11 (x3).toNatClampNeg (x7 ||| ((1 : Int32) <<< (x9 &&& 31)))))))))))))))) : rb_Bd κ mX0_stands n M 0 [some (.ref a0), some a1, some a2] [] := by
  refine rb_aload_n 0 rfl rfl (rb_isR_ref _) dX0_stands_0 ?_
  obtain ⟨v1, hrv1, hv1, Kv1⟩ := K
  refine rc_get fl_X0_165_0 hrv1 dX0_stands_1 ?_
  refine rb_aload_n 1 rfl rfl ha1 dX0_stands_4 ?_
  obtain ⟨q2, eq2, Kq2⟩ := Kv1
  subst eq2
  obtain ⟨x3, hrx3, Kx3⟩ := Kq2
  refine rc_get fl_X0_272_5 hrx3 dX0_stands_5 ?_
  refine rb_dup2 rfl (rb_isR_cat hv1) dX0_stands_8 ?_
  obtain ⟨q4, eq4, Kq4⟩ := Kx3
  subst eq4
  obtain ⟨N5, f6, x7, hMx7, hix7, hxx7, Kx7⟩ := Kq4
  refine rc_iald hMx7 hix7 hxx7 dX0_stands_9 ?_
  refine rb_iconst (v := (1 : Int32)) (by decide) dX0_stands_10 ?_
  refine rb_aload_n 2 rfl rfl ha2 dX0_stands_11 ?_
  obtain ⟨q8, eq8, Kq8⟩ := Kx7
  subst eq8
  obtain ⟨x9, hrx9, Kx9⟩ := Kq8
  refine rc_get fl_X0_272_5 hrx9 dX0_stands_12 ?_
  refine rb_ishl (z := ((1 : Int32) <<< (x9 &&& 31))) rfl dX0_stands_15 ?_
  refine rb_ior (z := (x7 ||| ((1 : Int32) <<< (x9 &&& 31)))) rfl dX0_stands_16 ?_
  obtain ⟨N10, f11, hMf11, hif11, Kf11⟩ := Kx9
  refine rb_iast hMf11 hif11 dX0_stands_17 ?_
  exact rb_vret rfl (Kf11).1.1 (Kf11).1.2 dX0_stands_18 (Kf11).2
theorem sgX0_isAnyLeft_0 {κ : rb_K} {n : Nat × Nat} {M : rb_H} {a0 : Nat} (K : rb_Bd κ mX0_isAnyLeft n M 4 [some (.ref a0), some (.int (0 : Int32)), some (.int (0 : Int32))] []) : rb_Bd κ mX0_isAnyLeft n M 0 [some (.ref a0), none, none] [] := by
  refine rb_iconst (v := (0 : Int32)) (by decide) dX0_isAnyLeft_0 ?_
  refine rb_istore_n 1 rfl (ls' := [some (.ref a0), some (.int (0 : Int32)), none]) (by decide) rfl rfl dX0_isAnyLeft_1 ?_
  refine rb_iconst (v := (0 : Int32)) (by decide) dX0_isAnyLeft_2 ?_
  refine rb_istore_n 2 rfl (ls' := [some (.ref a0), some (.int (0 : Int32)), some (.int (0 : Int32))]) (by decide) rfl rfl dX0_isAnyLeft_3 ?_
  exact K
theorem sgX0_isAnyLeft_4 {κ : rb_K} {n : Nat × Nat} {M : rb_H} {a0 : Nat} {a1 : Int32} {a2 : Int32} (K : (((24 : Int32) ≤ a2 → (narrow .boolean (.int a1) = .int a1 ∧ rb_fin κ n ∧ κ.2.2.1 (.returned (some (.int a1))) M)) ∧ (a2 < (24 : Int32) → (∃ (v2 : Value), rb_rd M a0 0 16 (v2) ∧ rb_isR v2 ∧ (∃ q3, v2 = .ref q3 ∧ (∃ (N4 : Nat) (f5 : Nat → Int32) (x6 : Int32), M.2 q3 = some (rb_Z N4 f5) ∧ vp_in a2 N4 ∧ f5 (a2).toNatClampNeg = x6 ∧ rb_Bd κ mX0_isAnyLeft n M 4 [some (.ref a0), some (.int (a1 ||| x6)), some (.int (a2 + (1 : Int32)))] [])))))) : rb_Bd κ mX0_isAnyLeft n M 4 [some (.ref a0), some (.int a1), some (.int a2)] [] := by
  refine rb_iload_n 2 rfl rfl dX0_isAnyLeft_4 ?_
  refine rb_bipush (v := (24 : Int32)) (by decide) dX0_isAnyLeft_5 ?_
  refine rb_icge 25 (by decide) dX0_isAnyLeft_7 (fun c1 => ?_) (fun c1 => ?_)
  · skip
    refine rb_iload_n 1 rfl rfl dX0_isAnyLeft_25 ?_
    exact rb_iret rfl (((K).1 c1)).1 (((K).1 c1)).2.1.1 (((K).1 c1)).2.1.2 dX0_isAnyLeft_26 (((K).1 c1)).2.2
  · skip
    refine rb_iload_n 1 rfl rfl dX0_isAnyLeft_10 ?_
    refine rb_aload_n 0 rfl rfl (rb_isR_ref _) dX0_isAnyLeft_11 ?_
    obtain ⟨v2, hrv2, hv2, Kv2⟩ := ((K).2 c1)
    refine rc_get fl_X0_161_0 hrv2 dX0_isAnyLeft_12 ?_
    refine rb_iload_n 2 rfl rfl dX0_isAnyLeft_15 ?_
    obtain ⟨q3, eq3, Kq3⟩ := Kv2
    subst eq3
    obtain ⟨N4, f5, x6, hMx6, hix6, hxx6, Kx6⟩ := Kq3
    refine rc_zald hMx6 hix6 hxx6 dX0_isAnyLeft_16 ?_
    refine rb_ior (z := (a1 ||| x6)) rfl dX0_isAnyLeft_17 ?_
    refine rb_istore_n 1 rfl (ls' := [some (.ref a0), some (.int (a1 ||| x6)), some (.int a2)]) (by decide) rfl rfl dX0_isAnyLeft_18 ?_
    refine rb_iinc (ls' := [some (.ref a0), some (.int (a1 ||| x6)), some (.int (a2 + (1 : Int32)))]) (v := (a2 + (1 : Int32))) rfl rfl (by decide) rfl rfl dX0_isAnyLeft_19 ?_
    refine rb_goto 4 (by decide) dX0_isAnyLeft_22 ?_
    exact Kx6
theorem sgX0_nextInLine_0 {κ : rb_K} {n : Nat × Nat} {M : rb_H} {a0 : Nat} (K : rb_Bd κ mX0_nextInLine n M 2 [some (.ref a0), some (.int (0 : Int32))] []) : rb_Bd κ mX0_nextInLine n M 0 [some (.ref a0), none] [] := by
  refine rb_iconst (v := (0 : Int32)) (by decide) dX0_nextInLine_0 ?_
  refine rb_istore_n 1 rfl (ls' := [some (.ref a0), some (.int (0 : Int32))]) (by decide) rfl rfl dX0_nextInLine_1 ?_
  exact K
theorem sgX0_nextInLine_2 {κ : rb_K} {n : Nat × Nat} {M : rb_H} {a0 : Nat} {a1 : Int32} (K : (∃ (v1 : Value), rb_rd M a0 0 2 (v1) ∧ rb_isR v1 ∧ (∃ q2, v1 = .ref q2 ∧ (∃ (d3 : Nat) (n4 : Nat × Nat) (Q5 : Outcome → rb_H → Prop), rb_Ct κ.1 yJ4_size wJ4_size d3 n4 [.ref q2] M Q5 ∧ rb_dp κ d3 ∧ rb_rom κ (n.1 + n4.1, n.2 + n4.2) ∧ rb_ob M q2 7 ∧ ∀ (o : Outcome) (M7 : rb_H), Q5 o M7 → (∃ (x6 : Int32), o = .returned (some (.int x6)) ∧ ((x6 ≤ a1 → (rb_fin κ (n.1 + n4.1, n.2 + n4.2) ∧ κ.2.2.1 (.returned (some (.int (-9 : Int32)))) M7)) ∧ (a1 < x6 → (∃ (v9 : Value), rb_rd M7 a0 0 16 (v9) ∧ rb_isR v9 ∧ (∃ q10, v9 = .ref q10 ∧ (∃ (N11 : Nat) (f12 : Nat → Int32) (x13 : Int32), M7.2 q10 = some (rb_Z N11 f12) ∧ vp_in a1 N11 ∧ f12 (a1).toNatClampNeg = x13 ∧ ((x13 = 0 → rb_Bd κ mX0_nextInLine (n.1 + n4.1, n.2 + n4.2) M7 2 [some (.ref a0), some (.int (a1 + (1 : Int32)))] []) ∧ (¬ x13 = 0 → (∃ (d15 : Nat) (n16 : Nat × Nat) (Q17 : Outcome → rb_H → Prop), rb_Ct κ.1 yX0_aheadOf wX0_aheadOf d15 n16 [.ref a0, .int a1] M7 Q17 ∧ rb_dp κ d15 ∧ rb_rom κ (n.1 + n4.1 + n16.1, n.2 + n4.2 + n16.2) ∧ rb_ob M7 a0 0 ∧ ∀ (o : Outcome) (M19 : rb_H), Q17 o M19 → (∃ (x18 : Int32), o = .returned (some (.int x18)) ∧ ((¬ x18 = (-9 : Int32) → rb_Bd κ mX0_nextInLine (n.1 + n4.1 + n16.1, n.2 + n4.2 + n16.2) M19 2 [some (.ref a0), some (.int (a1 + (1 : Int32)))] []) ∧ (x18 = (-9 : Int32) → (rb_fin κ (n.1 + n4.1 + n16.1, n.2 + n4.2 + n16.2) ∧ κ.2.2.1 (.returned (some (.int a1))) M19))))))))))))))))) : rb_Bd κ mX0_nextInLine n M 2 [some (.ref a0), some (.int a1)] [] := by
  refine rb_iload_n 1 rfl rfl dX0_nextInLine_2 ?_
  refine rb_aload_n 0 rfl rfl (rb_isR_ref _) dX0_nextInLine_3 ?_
  obtain ⟨v1, hrv1, hv1, Kv1⟩ := K
  refine rc_get fl_X0_125_0 hrv1 dX0_nextInLine_4 ?_
  obtain ⟨q2, eq2, Kq2⟩ := Kv1
  subst eq2
  obtain ⟨d3, n4, Q5, h1x6, hdx6, hnx6, hox6, Kx6⟩ := Kq2
  refine rb_call st_X0_201_7 (rest := [.int a1]) h1x6 rfl rfl (rc_rc rfl hox6) (Nat.le_of_ble_eq_true rfl) hdx6.1 hdx6.2 hnx6.1 hnx6.2 dX0_nextInLine_7 (fun o M7 hpx6 => ?_)
  obtain ⟨x6, eo, KKx6⟩ := Kx6 o M7 hpx6
  subst eo
  show rb_Bd κ mX0_nextInLine (n.1 + n4.1, n.2 + n4.2) M7 10 [some (.ref a0), some (.int a1)] [.int x6, .int a1]
  refine rb_icge 40 (by decide) dX0_nextInLine_10 (fun c8 => ?_) (fun c8 => ?_)
  · skip
    refine rb_bipush (v := (-9 : Int32)) (by decide) dX0_nextInLine_40 ?_
    exact rb_iret rfl rfl (((KKx6).1 c8)).1.1 (((KKx6).1 c8)).1.2 dX0_nextInLine_42 (((KKx6).1 c8)).2
  · skip
    refine rb_aload_n 0 rfl rfl (rb_isR_ref _) dX0_nextInLine_13 ?_
    obtain ⟨v9, hrv9, hv9, Kv9⟩ := ((KKx6).2 c8)
    refine rc_get fl_X0_161_0 hrv9 dX0_nextInLine_14 ?_
    refine rb_iload_n 1 rfl rfl dX0_nextInLine_17 ?_
    obtain ⟨q10, eq10, Kq10⟩ := Kv9
    subst eq10
    obtain ⟨N11, f12, x13, hMx13, hix13, hxx13, Kx13⟩ := Kq10
    refine rc_zald hMx13 hix13 hxx13 dX0_nextInLine_18 ?_
    refine rb_ifeq 34 (by decide) dX0_nextInLine_19 (fun c14 => ?_) (fun c14 => ?_)
    · skip
      refine rb_iinc (ls' := [some (.ref a0), some (.int (a1 + (1 : Int32)))]) (v := (a1 + (1 : Int32))) rfl rfl (by decide) rfl rfl dX0_nextInLine_34 ?_
      refine rb_goto 2 (by decide) dX0_nextInLine_37 ?_
      exact ((Kx13).1 c14)
    · skip
      refine rb_aload_n 0 rfl rfl (rb_isR_ref _) dX0_nextInLine_22 ?_
      refine rb_iload_n 1 rfl rfl dX0_nextInLine_23 ?_
      obtain ⟨d15, n16, Q17, h1x18, hdx18, hnx18, hox18, Kx18⟩ := ((Kx13).2 c14)
      refine rb_call st_X0_281_0 (rest := []) h1x18 rfl rfl (rc_rc rfl hox18) (Nat.le_of_ble_eq_true rfl) hdx18.1 hdx18.2 hnx18.1 hnx18.2 dX0_nextInLine_24 (fun o M19 hpx18 => ?_)
      obtain ⟨x18, eo, KKx18⟩ := Kx18 o M19 hpx18
      subst eo
      show rb_Bd κ mX0_nextInLine (n.1 + n4.1 + n16.1, n.2 + n4.2 + n16.2) M19 27 [some (.ref a0), some (.int a1)] [.int x18]
      refine rb_bipush (v := (-9 : Int32)) (by decide) dX0_nextInLine_27 ?_
      refine rb_icne 34 (by decide) dX0_nextInLine_29 (fun c20 => ?_) (fun c20 => ?_)
      · skip
        refine rb_iinc (ls' := [some (.ref a0), some (.int (a1 + (1 : Int32)))]) (v := (a1 + (1 : Int32))) rfl rfl (by decide) rfl rfl dX0_nextInLine_34 ?_
        refine rb_goto 2 (by decide) dX0_nextInLine_37 ?_
        exact ((KKx18).1 c20)
      · skip
        refine rb_iload_n 1 rfl rfl dX0_nextInLine_32 ?_
        exact rb_iret rfl rfl (((KKx18).2 c20)).1.1 (((KKx18).2 c20)).1.2 dX0_nextInLine_33 (((KKx18).2 c20)).2
theorem sgX0_aheadOf_0 {κ : rb_K} {n : Nat × Nat} {M : rb_H} {a0 : Nat} {a1 : Int32} (K : rb_Bd κ mX0_aheadOf n M 2 [some (.ref a0), some (.int a1), some (.int (0 : Int32))] []) : rb_Bd κ mX0_aheadOf n M 0 [some (.ref a0), some (.int a1), none] [] := by
  refine rb_iconst (v := (0 : Int32)) (by decide) dX0_aheadOf_0 ?_
  refine rb_istore_n 2 rfl (ls' := [some (.ref a0), some (.int a1), some (.int (0 : Int32))]) (by decide) rfl rfl dX0_aheadOf_1 ?_
  exact K
theorem sgX0_aheadOf_2 {κ : rb_K} {n : Nat × Nat} {M : rb_H} {a0 : Nat} {a1 : Int32} {a2 : Int32} (K : (∃ (v1 : Value), rb_rd M a0 0 2 (v1) ∧ rb_isR v1 ∧ (∃ q2, v1 = .ref q2 ∧ (∃ (d3 : Nat) (n4 : Nat × Nat) (Q5 : Outcome → rb_H → Prop), rb_Ct κ.1 yJ4_size wJ4_size d3 n4 [.ref q2] M Q5 ∧ rb_dp κ d3 ∧ rb_rom κ (n.1 + n4.1, n.2 + n4.2) ∧ rb_ob M q2 7 ∧ ∀ (o : Outcome) (M7 : rb_H), Q5 o M7 → (∃ (x6 : Int32), o = .returned (some (.int x6)) ∧ ((x6 ≤ a2 → (rb_fin κ (n.1 + n4.1, n.2 + n4.2) ∧ κ.2.2.1 (.returned (some (.int (-9 : Int32)))) M7)) ∧ (a2 < x6 → (∃ (v9 : Value), rb_rd M7 a0 0 16 (v9) ∧ rb_isR v9 ∧ (∃ q10, v9 = .ref q10 ∧ (∃ (N11 : Nat) (f12 : Nat → Int32) (x13 : Int32), M7.2 q10 = some (rb_Z N11 f12) ∧ vp_in a2 N11 ∧ f12 (a2).toNatClampNeg = x13 ∧ ((x13 = 0 → rb_Bd κ mX0_aheadOf (n.1 + n4.1, n.2 + n4.2) M7 2 [some (.ref a0), some (.int a1), some (.int (a2 + (1 : Int32)))] []) ∧ (¬ x13 = 0 → (∃ (v15 : Value), rb_rd M7 a0 0 17 (v15) ∧ rb_isR v15 ∧ (∃ q16, v15 = .ref q16 ∧ (∃ (N17 : Nat) (f18 : Nat → Int32) (x19 : Int32), M7.2 q16 = some (rb_I N17 f18) ∧ vp_in a2 N17 ∧ f18 (a2).toNatClampNeg = x19 ∧ ((¬ ((x19 >>> (a1 &&& 31)) &&& (1 : Int32)) = (1 : Int32) → rb_Bd κ mX0_aheadOf (n.1 + n4.1, n.2 + n4.2) M7 2 [some (.ref a0), some (.int a1), some (.int (a2 + (1 : Int32)))] []) ∧ (((x19 >>> (a1 &&& 31)) &&& (1 : Int32)) = (1 : Int32) → (rb_fin κ (n.1 + n4.1, n.2 + n4.2) ∧ κ.2.2.1 (.returned (some (.int a2))) M7)))))))))))))))))) : rb_Bd κ mX0_aheadOf n M 2 [some (.ref a0), some (.int a1), some (.int a2)] [] := by
  refine rb_iload_n 2 rfl rfl dX0_aheadOf_2 ?_
  refine rb_aload_n 0 rfl rfl (rb_isR_ref _) dX0_aheadOf_3 ?_
  obtain ⟨v1, hrv1, hv1, Kv1⟩ := K
  refine rc_get fl_X0_125_0 hrv1 dX0_aheadOf_4 ?_
  obtain ⟨q2, eq2, Kq2⟩ := Kv1
  subst eq2
  obtain ⟨d3, n4, Q5, h1x6, hdx6, hnx6, hox6, Kx6⟩ := Kq2
  refine rb_call st_X0_201_7 (rest := [.int a2]) h1x6 rfl rfl (rc_rc rfl hox6) (Nat.le_of_ble_eq_true rfl) hdx6.1 hdx6.2 hnx6.1 hnx6.2 dX0_aheadOf_7 (fun o M7 hpx6 => ?_)
  obtain ⟨x6, eo, KKx6⟩ := Kx6 o M7 hpx6
  subst eo
  show rb_Bd κ mX0_aheadOf (n.1 + n4.1, n.2 + n4.2) M7 10 [some (.ref a0), some (.int a1), some (.int a2)] [.int x6, .int a2]
  refine rb_icge 44 (by decide) dX0_aheadOf_10 (fun c8 => ?_) (fun c8 => ?_)
  · skip
    refine rb_bipush (v := (-9 : Int32)) (by decide) dX0_aheadOf_44 ?_
    exact rb_iret rfl rfl (((KKx6).1 c8)).1.1 (((KKx6).1 c8)).1.2 dX0_aheadOf_46 (((KKx6).1 c8)).2
  · skip
    refine rb_aload_n 0 rfl rfl (rb_isR_ref _) dX0_aheadOf_13 ?_
    obtain ⟨v9, hrv9, hv9, Kv9⟩ := ((KKx6).2 c8)
    refine rc_get fl_X0_161_0 hrv9 dX0_aheadOf_14 ?_
    refine rb_iload_n 2 rfl rfl dX0_aheadOf_17 ?_
    obtain ⟨q10, eq10, Kq10⟩ := Kv9
    subst eq10
    obtain ⟨N11, f12, x13, hMx13, hix13, hxx13, Kx13⟩ := Kq10
    refine rc_zald hMx13 hix13 hxx13 dX0_aheadOf_18 ?_
    refine rb_ifeq 38 (by decide) dX0_aheadOf_19 (fun c14 => ?_) (fun c14 => ?_)
    · skip
      refine rb_iinc (ls' := [some (.ref a0), some (.int a1), some (.int (a2 + (1 : Int32)))]) (v := (a2 + (1 : Int32))) rfl rfl (by decide) rfl rfl dX0_aheadOf_38 ?_
      refine rb_goto 2 (by decide) dX0_aheadOf_41 ?_
      exact ((Kx13).1 c14)
    · skip
      refine rb_aload_n 0 rfl rfl (rb_isR_ref _) dX0_aheadOf_22 ?_
      obtain ⟨v15, hrv15, hv15, Kv15⟩ := ((Kx13).2 c14)
      refine rc_get fl_X0_165_0 hrv15 dX0_aheadOf_23 ?_
      refine rb_iload_n 2 rfl rfl dX0_aheadOf_26 ?_
      obtain ⟨q16, eq16, Kq16⟩ := Kv15
      subst eq16
      obtain ⟨N17, f18, x19, hMx19, hix19, hxx19, Kx19⟩ := Kq16
      refine rc_iald hMx19 hix19 hxx19 dX0_aheadOf_27 ?_
      refine rb_iload_n 1 rfl rfl dX0_aheadOf_28 ?_
      refine rb_ishr (z := (x19 >>> (a1 &&& 31))) rfl dX0_aheadOf_29 ?_
      refine rb_iconst (v := (1 : Int32)) (by decide) dX0_aheadOf_30 ?_
      refine rb_iand (z := ((x19 >>> (a1 &&& 31)) &&& (1 : Int32))) rfl dX0_aheadOf_31 ?_
      refine rb_iconst (v := (1 : Int32)) (by decide) dX0_aheadOf_32 ?_
      refine rb_icne 38 (by decide) dX0_aheadOf_33 (fun c20 => ?_) (fun c20 => ?_)
      · skip
        refine rb_iinc (ls' := [some (.ref a0), some (.int a1), some (.int (a2 + (1 : Int32)))]) (v := (a2 + (1 : Int32))) rfl rfl (by decide) rfl rfl dX0_aheadOf_38 ?_
        refine rb_goto 2 (by decide) dX0_aheadOf_41 ?_
        exact ((Kx19).1 c20)
      · skip
        refine rb_iload_n 2 rfl rfl dX0_aheadOf_36 ?_
        exact rb_iret rfl rfl (((Kx19).2 c20)).1.1 (((Kx19).2 c20)).1.2 dX0_aheadOf_37 (((Kx19).2 c20)).2
theorem sgX0_findRing_0 {κ : rb_K} {n : Nat × Nat} {M : rb_H} {a0 : Nat} (K : (∃ fs1, M.2 a0 = some (rb_O 0 fs1) ∧ 19 < fs1.length ∧ rb_Bd κ mX0_findRing n (rb_up M a0 (rb_O 0 (fs1.set 19 (.int (0 : Int32))))) 7 [some (.ref a0), some (.int (0 : Int32)), none, none] [])) : rb_Bd κ mX0_findRing n M 0 [some (.ref a0), none, none, none] [] := by
  refine rb_aload_n 0 rfl rfl (rb_isR_ref _) dX0_findRing_0 ?_
  refine rb_iconst (v := (0 : Int32)) (by decide) dX0_findRing_1 ?_
  obtain ⟨fs1, hMfs1, hlfs1, Kfs1⟩ := K
  refine rb_put fl_X0_285_0 (fun q hq => by cases hq; exact Or.inl rfl) rfl rfl hMfs1 hlfs1 dX0_findRing_2 ?_
  refine rb_iconst (v := (0 : Int32)) (by decide) dX0_findRing_5 ?_
  refine rb_istore_n 1 rfl (ls' := [some (.ref a0), some (.int (0 : Int32)), none, none]) (by decide) rfl rfl dX0_findRing_6 ?_
  exact Kfs1
theorem sgX0_findRing_7 {κ : rb_K} {n : Nat × Nat} {M : rb_H} {a0 : Nat} {a1 : Int32} (K : (∃ (v1 : Value), rb_rd M a0 0 16 (v1) ∧ rb_isR v1 ∧ (∃ q2, v1 = .ref q2 ∧ (∃ (N3 : Nat) (f4 : Nat → Int32) (x5 : Int32), M.2 q2 = some (rb_Z N3 f4) ∧ vp_in a1 N3 ∧ f4 (a1).toNatClampNeg = x5 ∧ ((¬ x5 = 0 → rb_Bd κ mX0_findRing n M 22 [some (.ref a0), some (.int a1), none, none] []) ∧ (x5 = 0 → rb_Bd κ mX0_findRing n M 7 [some (.ref a0), some (.int (a1 + (1 : Int32))), none, none] [])))))) : rb_Bd κ mX0_findRing n M 7 [some (.ref a0), some (.int a1), none, none] [] := by
  refine rb_aload_n 0 rfl rfl (rb_isR_ref _) dX0_findRing_7 ?_
  obtain ⟨v1, hrv1, hv1, Kv1⟩ := K
  refine rc_get fl_X0_161_0 hrv1 dX0_findRing_8 ?_
  refine rb_iload_n 1 rfl rfl dX0_findRing_11 ?_
  obtain ⟨q2, eq2, Kq2⟩ := Kv1
  subst eq2
  obtain ⟨N3, f4, x5, hMx5, hix5, hxx5, Kx5⟩ := Kq2
  refine rc_zald hMx5 hix5 hxx5 dX0_findRing_12 ?_
  refine rb_ifne 22 (by decide) dX0_findRing_13 (fun c6 => ?_) (fun c6 => ?_)
  · skip
    exact ((Kx5).1 c6)
  · skip
    refine rb_iinc (ls' := [some (.ref a0), some (.int (a1 + (1 : Int32))), none, none]) (v := (a1 + (1 : Int32))) rfl rfl (by decide) rfl rfl dX0_findRing_16 ?_
    refine rb_goto 7 (by decide) dX0_findRing_19 ?_
    exact ((Kx5).2 c6)
theorem sgX0_findRing_22 {κ : rb_K} {n : Nat × Nat} {M : rb_H} {a0 : Nat} {a1 : Int32} (K : (∃ (d1 : Nat) (n2 : Nat × Nat) (Q3 : Outcome → rb_H → Prop), rb_Ct κ.1 yX0_placeInRing wX0_placeInRing d1 n2 [.ref a0, .int a1] M Q3 ∧ rb_dp κ d1 ∧ rb_rom κ (n.1 + n2.1, n.2 + n2.2) ∧ rb_ob M a0 0 ∧ ∀ (o : Outcome) (M5 : rb_H), Q3 o M5 → (∃ (x4 : Int32), o = .returned (some (.int x4)) ∧ ((¬ x4 = (-9 : Int32) → (∃ (d7 : Nat) (n8 : Nat × Nat) (Q9 : Outcome → rb_H → Prop), rb_Ct κ.1 yX0_placeInRing wX0_placeInRing d7 n8 [.ref a0, .int a1] M5 Q9 ∧ rb_dp κ d7 ∧ rb_rom κ (n.1 + n2.1 + n8.1, n.2 + n2.2 + n8.2) ∧ rb_ob M5 a0 0 ∧ ∀ (o : Outcome) (M11 : rb_H), Q9 o M11 → (∃ (x10 : Int32), o = .returned (some (.int x10)) ∧ rb_Bd κ mX0_findRing (n.1 + n2.1 + n8.1, n.2 + n2.2 + n8.2) M11 69 [some (.ref a0), some (.int a1), some (.int x10), some (.int x10)] []))) ∧ (x4 = (-9 : Int32) → (∃ (v12 : Value), rb_rd M5 a0 0 18 (v12) ∧ rb_isR v12 ∧ (∃ (x13 : Int32), rb_rd M5 a0 0 19 (.int x13) ∧ (∃ q14, v12 = .ref q14 ∧ (∃ (N15 : Nat) (f16 : Nat → Int32), M5.2 q14 = some (rb_I N15 f16) ∧ vp_in x13 N15 ∧ (∃ (x17 : Int32), rb_rd (rb_up M5 q14 (rb_I N15 (va_up f16 (x13).toNatClampNeg a1))) a0 0 19 (.int x17) ∧ (∃ fs18, (rb_up M5 q14 (rb_I N15 (va_up f16 (x13).toNatClampNeg a1))).2 a0 = some (rb_O 0 fs18) ∧ 19 < fs18.length ∧ (∃ (d19 : Nat) (n20 : Nat × Nat) (Q21 : Outcome → rb_H → Prop), rb_Ct κ.1 yX0_aheadOf wX0_aheadOf d19 n20 [.ref a0, .int a1] (rb_up (rb_up M5 q14 (rb_I N15 (va_up f16 (x13).toNatClampNeg a1))) a0 (rb_O 0 (fs18.set 19 (.int (x17 + (1 : Int32)))))) Q21 ∧ rb_dp κ d19 ∧ rb_rom κ (n.1 + n2.1 + n20.1, n.2 + n2.2 + n20.2) ∧ rb_ob (rb_up (rb_up M5 q14 (rb_I N15 (va_up f16 (x13).toNatClampNeg a1))) a0 (rb_O 0 (fs18.set 19 (.int (x17 + (1 : Int32)))))) a0 0 ∧ ∀ (o : Outcome) (M23 : rb_H), Q21 o M23 → (∃ (x22 : Int32), o = .returned (some (.int x22)) ∧ rb_Bd κ mX0_findRing (n.1 + n2.1 + n20.1, n.2 + n2.2 + n20.2) M23 22 [some (.ref a0), some (.int x22), none, none] []))))))))))))) : rb_Bd κ mX0_findRing n M 22 [some (.ref a0), some (.int a1), none, none] [] := by
  refine rb_aload_n 0 rfl rfl (rb_isR_ref _) dX0_findRing_22 ?_
  refine rb_iload_n 1 rfl rfl dX0_findRing_23 ?_
  obtain ⟨d1, n2, Q3, h1x4, hdx4, hnx4, hox4, Kx4⟩ := K
  refine rb_call st_X0_288_0 (rest := []) h1x4 rfl rfl (rc_rc rfl hox4) (Nat.le_of_ble_eq_true rfl) hdx4.1 hdx4.2 hnx4.1 hnx4.2 dX0_findRing_24 (fun o M5 hpx4 => ?_)
  obtain ⟨x4, eo, KKx4⟩ := Kx4 o M5 hpx4
  subst eo
  show rb_Bd κ mX0_findRing (n.1 + n2.1, n.2 + n2.2) M5 27 [some (.ref a0), some (.int a1), none, none] [.int x4]
  refine rb_bipush (v := (-9 : Int32)) (by decide) dX0_findRing_27 ?_
  refine rb_icne 61 (by decide) dX0_findRing_29 (fun c6 => ?_) (fun c6 => ?_)
  · skip
    refine rb_aload_n 0 rfl rfl (rb_isR_ref _) dX0_findRing_61 ?_
    refine rb_iload_n 1 rfl rfl dX0_findRing_62 ?_
    obtain ⟨d7, n8, Q9, h1x10, hdx10, hnx10, hox10, Kx10⟩ := ((KKx4).1 c6)
    refine rb_call st_X0_288_0 (rest := []) h1x10 rfl rfl (rc_rc rfl hox10) (Nat.le_of_ble_eq_true rfl) hdx10.1 hdx10.2 hnx10.1 hnx10.2 dX0_findRing_63 (fun o M11 hpx10 => ?_)
    obtain ⟨x10, eo, KKx10⟩ := Kx10 o M11 hpx10
    subst eo
    show rb_Bd κ mX0_findRing (n.1 + n2.1 + n8.1, n.2 + n2.2 + n8.2) M11 66 [some (.ref a0), some (.int a1), none, none] [.int x10]
    refine rb_istore_n 2 rfl (ls' := [some (.ref a0), some (.int a1), some (.int x10), none]) (by decide) rfl rfl dX0_findRing_66 ?_
    refine rb_iload_n 2 rfl rfl dX0_findRing_67 ?_
    refine rb_istore_n 3 rfl (ls' := [some (.ref a0), some (.int a1), some (.int x10), some (.int x10)]) (by decide) rfl rfl dX0_findRing_68 ?_
    exact KKx10
  · skip
    refine rb_aload_n 0 rfl rfl (rb_isR_ref _) dX0_findRing_32 ?_
    obtain ⟨v12, hrv12, hv12, Kv12⟩ := ((KKx4).2 c6)
    refine rc_get fl_X0_168_0 hrv12 dX0_findRing_33 ?_
    refine rb_aload_n 0 rfl rfl (rb_isR_ref _) dX0_findRing_36 ?_
    obtain ⟨x13, hrx13, Kx13⟩ := Kv12
    refine rc_get fl_X0_285_0 hrx13 dX0_findRing_37 ?_
    refine rb_iload_n 1 rfl rfl dX0_findRing_40 ?_
    obtain ⟨q14, eq14, Kq14⟩ := Kx13
    subst eq14
    obtain ⟨N15, f16, hMf16, hif16, Kf16⟩ := Kq14
    refine rb_iast hMf16 hif16 dX0_findRing_41 ?_
    refine rb_aload_n 0 rfl rfl (rb_isR_ref _) dX0_findRing_42 ?_
    refine rb_dup rfl dX0_findRing_43 ?_
    obtain ⟨x17, hrx17, Kx17⟩ := Kf16
    refine rc_get fl_X0_285_0 hrx17 dX0_findRing_44 ?_
    refine rb_iconst (v := (1 : Int32)) (by decide) dX0_findRing_47 ?_
    refine rb_iadd (z := (x17 + (1 : Int32))) rfl dX0_findRing_48 ?_
    obtain ⟨fs18, hMfs18, hlfs18, Kfs18⟩ := Kx17
    refine rb_put fl_X0_285_0 (fun q hq => by cases hq; exact Or.inl rfl) rfl rfl hMfs18 hlfs18 dX0_findRing_49 ?_
    refine rb_aload_n 0 rfl rfl (rb_isR_ref _) dX0_findRing_52 ?_
    refine rb_iload_n 1 rfl rfl dX0_findRing_53 ?_
    obtain ⟨d19, n20, Q21, h1x22, hdx22, hnx22, hox22, Kx22⟩ := Kfs18
    refine rb_call st_X0_281_0 (rest := []) h1x22 rfl rfl (rc_rc rfl hox22) (Nat.le_of_ble_eq_true rfl) hdx22.1 hdx22.2 hnx22.1 hnx22.2 dX0_findRing_54 (fun o M23 hpx22 => ?_)
    obtain ⟨x22, eo, KKx22⟩ := Kx22 o M23 hpx22
    subst eo
    show rb_Bd κ mX0_findRing (n.1 + n2.1 + n20.1, n.2 + n2.2 + n20.2) M23 57 [some (.ref a0), some (.int a1), none, none] [.int x22]
    refine rb_istore_n 1 rfl (ls' := [some (.ref a0), some (.int x22), none, none]) (by decide) rfl rfl dX0_findRing_57 ?_
    refine rb_goto 22 (by decide) dX0_findRing_58 ?_
    exact KKx22
theorem sgX0_findRing_69 {κ : rb_K} {n : Nat × Nat} {M : rb_H} {a0 : Nat} {a1 : Int32} {a2 : Int32} {a3 : Int32} (K : (∃ (x1 : Int32), rb_rd M a0 0 19 (.int x1) ∧ ((x1 ≤ a3 → (∃ (x3 : Int32), rb_rd M a0 0 19 (.int x3) ∧ (∃ fs4, M.2 a0 = some (rb_O 0 fs4) ∧ 19 < fs4.length ∧ (rb_fin κ n ∧ κ.2.2.1 (.returned none) (rb_up M a0 (rb_O 0 (fs4.set 19 (.int (x3 - a2))))))))) ∧ (a3 < x1 → (∃ (v5 : Value), rb_rd M a0 0 18 (v5) ∧ rb_isR v5 ∧ (∃ (v6 : Value), rb_rd M a0 0 18 (v6) ∧ rb_isR v6 ∧ (∃ q7, v6 = .ref q7 ∧ (∃ (N8 : Nat) (f9 : Nat → Int32) (x10 : Int32), M.2 q7 = some (rb_I N8 f9) ∧ vp_in a3 N8 ∧ f9 (a3).toNatClampNeg = x10 ∧ (∃ q11, v5 = .ref q11 ∧ (∃ (N12 : Nat) (f13 : Nat → Int32), M.2 q11 = some (rb_I N12 f13) ∧ vp_in (a3 - a2) N12 ∧ rb_Bd κ mX0_findRing n (rb_up M q11 (rb_I N12 (va_up f13 ((a3 - a2)).toNatClampNeg x10))) 69 [some (.ref a0), some (.int a1), some (.int a2), some (.int (a3 + (1 : Int32)))] [])))))))))) : rb_Bd κ mX0_findRing n M 69 [some (.ref a0), some (.int a1), some (.int a2), some (.int a3)] [] := by
  refine rb_iload_n 3 rfl rfl dX0_findRing_69 ?_
  refine rb_aload_n 0 rfl rfl (rb_isR_ref _) dX0_findRing_70 ?_
  obtain ⟨x1, hrx1, Kx1⟩ := K
  refine rc_get fl_X0_285_0 hrx1 dX0_findRing_71 ?_
  refine rb_icge 97 (by decide) dX0_findRing_74 (fun c2 => ?_) (fun c2 => ?_)
  · skip
    refine rb_aload_n 0 rfl rfl (rb_isR_ref _) dX0_findRing_97 ?_
    refine rb_dup rfl dX0_findRing_98 ?_
    obtain ⟨x3, hrx3, Kx3⟩ := ((Kx1).1 c2)
    refine rc_get fl_X0_285_0 hrx3 dX0_findRing_99 ?_
    refine rb_iload_n 2 rfl rfl dX0_findRing_102 ?_
    refine rb_isub (z := (x3 - a2)) rfl dX0_findRing_103 ?_
    obtain ⟨fs4, hMfs4, hlfs4, Kfs4⟩ := Kx3
    refine rb_put fl_X0_285_0 (fun q hq => by cases hq; exact Or.inl rfl) rfl rfl hMfs4 hlfs4 dX0_findRing_104 ?_
    exact rb_vret rfl (Kfs4).1.1 (Kfs4).1.2 dX0_findRing_107 (Kfs4).2
  · skip
    refine rb_aload_n 0 rfl rfl (rb_isR_ref _) dX0_findRing_77 ?_
    obtain ⟨v5, hrv5, hv5, Kv5⟩ := ((Kx1).2 c2)
    refine rc_get fl_X0_168_0 hrv5 dX0_findRing_78 ?_
    refine rb_iload_n 3 rfl rfl dX0_findRing_81 ?_
    refine rb_iload_n 2 rfl rfl dX0_findRing_82 ?_
    refine rb_isub (z := (a3 - a2)) rfl dX0_findRing_83 ?_
    refine rb_aload_n 0 rfl rfl (rb_isR_ref _) dX0_findRing_84 ?_
    obtain ⟨v6, hrv6, hv6, Kv6⟩ := Kv5
    refine rc_get fl_X0_168_0 hrv6 dX0_findRing_85 ?_
    refine rb_iload_n 3 rfl rfl dX0_findRing_88 ?_
    obtain ⟨q7, eq7, Kq7⟩ := Kv6
    subst eq7
    obtain ⟨N8, f9, x10, hMx10, hix10, hxx10, Kx10⟩ := Kq7
    refine rc_iald hMx10 hix10 hxx10 dX0_findRing_89 ?_
    obtain ⟨q11, eq11, Kq11⟩ := Kx10
    subst eq11
    obtain ⟨N12, f13, hMf13, hif13, Kf13⟩ := Kq11
    refine rb_iast hMf13 hif13 dX0_findRing_90 ?_
    refine rb_iinc (ls' := [some (.ref a0), some (.int a1), some (.int a2), some (.int (a3 + (1 : Int32)))]) (v := (a3 + (1 : Int32))) rfl rfl (by decide) rfl rfl dX0_findRing_91 ?_
    refine rb_goto 69 (by decide) dX0_findRing_94 ?_
    exact Kf13
theorem sgX0_placeInRing_0 {κ : rb_K} {n : Nat × Nat} {M : rb_H} {a0 : Nat} {a1 : Int32} (K : rb_Bd κ mX0_placeInRing n M 2 [some (.ref a0), some (.int a1), some (.int (0 : Int32))] []) : rb_Bd κ mX0_placeInRing n M 0 [some (.ref a0), some (.int a1), none] [] := by
  refine rb_iconst (v := (0 : Int32)) (by decide) dX0_placeInRing_0 ?_
  refine rb_istore_n 2 rfl (ls' := [some (.ref a0), some (.int a1), some (.int (0 : Int32))]) (by decide) rfl rfl dX0_placeInRing_1 ?_
  exact K
theorem sgX0_placeInRing_2 {κ : rb_K} {n : Nat × Nat} {M : rb_H} {a0 : Nat} {a1 : Int32} {a2 : Int32} (K : (∃ (x1 : Int32), rb_rd M a0 0 19 (.int x1) ∧ ((x1 ≤ a2 → (rb_fin κ n ∧ κ.2.2.1 (.returned (some (.int (-9 : Int32)))) M)) ∧ (a2 < x1 → (∃ (v3 : Value), rb_rd M a0 0 18 (v3) ∧ rb_isR v3 ∧ (∃ q4, v3 = .ref q4 ∧ (∃ (N5 : Nat) (f6 : Nat → Int32) (x7 : Int32), M.2 q4 = some (rb_I N5 f6) ∧ vp_in a2 N5 ∧ f6 (a2).toNatClampNeg = x7 ∧ ((¬ x7 = a1 → rb_Bd κ mX0_placeInRing n M 2 [some (.ref a0), some (.int a1), some (.int (a2 + (1 : Int32)))] []) ∧ (x7 = a1 → (rb_fin κ n ∧ κ.2.2.1 (.returned (some (.int a2))) M)))))))))) : rb_Bd κ mX0_placeInRing n M 2 [some (.ref a0), some (.int a1), some (.int a2)] [] := by
  refine rb_iload_n 2 rfl rfl dX0_placeInRing_2 ?_
  refine rb_aload_n 0 rfl rfl (rb_isR_ref _) dX0_placeInRing_3 ?_
  obtain ⟨x1, hrx1, Kx1⟩ := K
  refine rc_get fl_X0_285_0 hrx1 dX0_placeInRing_4 ?_
  refine rb_icge 28 (by decide) dX0_placeInRing_7 (fun c2 => ?_) (fun c2 => ?_)
  · skip
    refine rb_bipush (v := (-9 : Int32)) (by decide) dX0_placeInRing_28 ?_
    exact rb_iret rfl rfl (((Kx1).1 c2)).1.1 (((Kx1).1 c2)).1.2 dX0_placeInRing_30 (((Kx1).1 c2)).2
  · skip
    refine rb_aload_n 0 rfl rfl (rb_isR_ref _) dX0_placeInRing_10 ?_
    obtain ⟨v3, hrv3, hv3, Kv3⟩ := ((Kx1).2 c2)
    refine rc_get fl_X0_168_0 hrv3 dX0_placeInRing_11 ?_
    refine rb_iload_n 2 rfl rfl dX0_placeInRing_14 ?_
    obtain ⟨q4, eq4, Kq4⟩ := Kv3
    subst eq4
    obtain ⟨N5, f6, x7, hMx7, hix7, hxx7, Kx7⟩ := Kq4
    refine rc_iald hMx7 hix7 hxx7 dX0_placeInRing_15 ?_
    refine rb_iload_n 1 rfl rfl dX0_placeInRing_16 ?_
    refine rb_icne 22 (by decide) dX0_placeInRing_17 (fun c8 => ?_) (fun c8 => ?_)
    · skip
      refine rb_iinc (ls' := [some (.ref a0), some (.int a1), some (.int (a2 + (1 : Int32)))]) (v := (a2 + (1 : Int32))) rfl rfl (by decide) rfl rfl dX0_placeInRing_22 ?_
      refine rb_goto 2 (by decide) dX0_placeInRing_25 ?_
      exact ((Kx7).1 c8)
    · skip
      refine rb_iload_n 2 rfl rfl dX0_placeInRing_20 ?_
      exact rb_iret rfl rfl (((Kx7).2 c8)).1.1 (((Kx7).2 c8)).1.2 dX0_placeInRing_21 (((Kx7).2 c8)).2
