set_option maxRecDepth 100000
/-! the law: its links, its script, its segments -/
abbrev mL_law : rb_M := ("RoleLoomLaw", cL_law, 4, some .boolean, "law", [])
section RBL
variable {κ : rb_K} {μ : rb_M} {n : Nat × Nat} {M : rb_H} {pc : Nat} {ls : List (Option Value)} {st : List Value}
/-- the script -/
def rb_sc (g : rb_G) (L : Nat) (xs : Nat → Int32) : Prop := va_X g.2.2.1 L xs g.2.1 g.2.1.heap
theorem rb_sld {L : Nat} {xs : Nat → Int32} {i : Int32} (hX : rb_sc κ.1 L xs) (hin : vp_in i L) (d : decode μ.2.1 pc = .ok (.iaload, 1)) (k : rb_Bd κ μ n M (pc + 1) ls (.int (xs i.toNatClampNeg) :: st)) : rb_Bd κ μ n M pc ls (.int i :: .ref κ.1.2.2.1 :: st) := by
  intro hg p e s m args below meth c hC H locs lsA hH hL hl
  have hW := hC.2.2.2.2.2.2.2.2
  obtain ⟨scr, h1, h2, h3, h4, h5⟩ := hX
  have hb : κ.1.2.2.1 < κ.1.2.1.heap.size := (Array.getElem?_eq_some_iff.mp h1).1
  have hlt : i.toNatClampNeg < L := Nat.not_le.mp fun q => hin (Or.inr q)
  exact W.iald hC.1 hC.2.1 (by rw [hH.2.2.1 _ hb]; exact h1) (State.isArrayOf_alike hW.alike h2) h3 (by rw [h4]; exact hin) (h5 _ hlt) rfl rfl d (k hg p e s m args below meth c hC H locs lsA hH hL hl)
theorem rb_slen {L : Nat} {xs : Nat → Int32} (hX : rb_sc κ.1 L xs) (d : decode μ.2.1 pc = .ok (.arraylength, 1)) (k : rb_Bd κ μ n M (pc + 1) ls (.int (nI L) :: st)) : rb_Bd κ μ n M pc ls (.ref κ.1.2.2.1 :: st) := by
  intro hg p e s m args below meth c hC H locs lsA hH hL hl
  have hW := hC.2.2.2.2.2.2.2.2
  obtain ⟨scr, h1, h2, h3, h4, h5⟩ := hX
  have hb : κ.1.2.2.1 < κ.1.2.1.heap.size := (Array.getElem?_eq_some_iff.mp h1).1
  exact W.alen (n := nI L) hC.1 hC.2.1 (by rw [hH.2.2.1 _ hb]; exact h1) (State.isArrayOf_alike hW.alike h2) (by rw [h4]; rfl) rfl rfl d (k hg p e s m args below meth c hC H locs lsA hH hL hl)
end RBL
theorem nw_L_7 : rb_NW "RoleLoomLaw" 7 0 := ⟨_, rfl, q117, q118, q76⟩
theorem st_L_9 (ci : Nat) : rb_Go "RoleLoomLaw" (.invokespecial 9) 3 yX0_init wX0_init (some ci) 1 := rb_goI cw_X0_init rfl q119 q120 ⟨by decide, by decide⟩ (by decide)
theorem nw_L_10 : rb_NW "RoleLoomLaw" 10 4 := ⟨_, rfl, q1500, q1501, q85⟩
theorem st_L_12 (ci : Nat) : rb_Go "RoleLoomLaw" (.invokespecial 12) 3 yX4_init wX4_init (some ci) 1 := rb_goI cw_X4_init rfl q1502 q1503 ⟨by decide, by decide⟩ (by decide)
theorem st_L_13_0 : rb_Go "RoleLoomLaw" (.invokevirtual 13) 3 yX0_part wX0_part (some 0) 4 := rb_goV cw_X0_part rfl q405 q406 q407 ⟨by decide, by decide⟩ (by decide)
theorem st_L_17_4 : rb_Go "RoleLoomLaw" (.invokevirtual 17) 3 yX4_part wX4_part (some 4) 4 := rb_goV cw_X4_part rfl q1727 q1728 q1729 ⟨by decide, by decide⟩ (by decide)
theorem st_L_18_0 : rb_Go "RoleLoomLaw" (.invokevirtual 18) 3 yX0_extend wX0_extend (some 0) 3 := rb_goV cw_X0_extend rfl q545 q546 q547 ⟨by decide, by decide⟩ (by decide)
theorem st_L_22_4 : rb_Go "RoleLoomLaw" (.invokevirtual 22) 3 yX4_extend wX4_extend (some 4) 3 := rb_goV cw_X4_extend rfl q1734 q1735 q1736 ⟨by decide, by decide⟩ (by decide)
theorem st_L_23_0 : rb_Go "RoleLoomLaw" (.invokevirtual 23) 3 yX0_want wX0_want (some 0) 3 := rb_goV cw_X0_want rfl q617 q618 q619 ⟨by decide, by decide⟩ (by decide)
theorem st_L_26_4 : rb_Go "RoleLoomLaw" (.invokevirtual 26) 3 yX4_want wX4_want (some 4) 3 := rb_goV cw_X4_want rfl q1746 q1747 q1748 ⟨by decide, by decide⟩ (by decide)
theorem st_L_27_0 : rb_Go "RoleLoomLaw" (.invokevirtual 27) 3 yX0_body wX0_body (some 0) 5 := rb_goV cw_X0_body rfl q621 q622 q623 ⟨by decide, by decide⟩ (by decide)
theorem st_L_31_4 : rb_Go "RoleLoomLaw" (.invokevirtual 31) 3 yX4_body wX4_body (some 4) 5 := rb_goV cw_X4_body rfl q1750 q1751 q1752 ⟨by decide, by decide⟩ (by decide)
theorem st_L_32_0 : rb_Go "RoleLoomLaw" (.invokevirtual 32) 3 yX0_act wX0_act (some 0) 4 := rb_goV cw_X0_act rfl q654 q655 q656 ⟨by decide, by decide⟩ (by decide)
theorem st_L_35_4 : rb_Go "RoleLoomLaw" (.invokevirtual 35) 3 yX4_act wX4_act (some 4) 4 := rb_goV cw_X4_act rfl q1760 q1761 q1762 ⟨by decide, by decide⟩ (by decide)
theorem st_L_36_0 : rb_Go "RoleLoomLaw" (.invokevirtual 36) 3 yX0_wish wX0_wish (some 0) 3 := rb_goV cw_X0_wish rfl q1075 q1076 q1077 ⟨by decide, by decide⟩ (by decide)
theorem st_L_39_4 : rb_Go "RoleLoomLaw" (.invokevirtual 39) 3 yX4_wish wX4_wish (some 4) 3 := rb_goV cw_X4_wish rfl q1768 q1769 q1770 ⟨by decide, by decide⟩ (by decide)
theorem st_L_40_0 : rb_Go "RoleLoomLaw" (.invokevirtual 40) 3 yX0_name wX0_name (some 0) 2 := rb_goV cw_X0_name rfl q1079 q1080 q1081 ⟨by decide, by decide⟩ (by decide)
theorem st_L_44_4 : rb_Go "RoleLoomLaw" (.invokevirtual 44) 3 yX4_name wX4_name (some 4) 2 := rb_goV cw_X4_name rfl q1772 q1773 q1774 ⟨by decide, by decide⟩ (by decide)
theorem st_L_45_0 : rb_Go "RoleLoomLaw" (.invokevirtual 45) 3 yX0_exclude wX0_exclude (some 0) 3 := rb_goV cw_X0_exclude rfl q1083 q1084 q1085 ⟨by decide, by decide⟩ (by decide)
theorem st_L_48_4 : rb_Go "RoleLoomLaw" (.invokevirtual 48) 3 yX4_exclude wX4_exclude (some 4) 3 := rb_goV cw_X4_exclude rfl q1776 q1777 q1778 ⟨by decide, by decide⟩ (by decide)
theorem st_L_49_0 : rb_Go "RoleLoomLaw" (.invokevirtual 49) 3 yX0_alias wX0_alias (some 0) 4 := rb_goV cw_X0_alias rfl q1087 q1088 q1089 ⟨by decide, by decide⟩ (by decide)
theorem st_L_52_4 : rb_Go "RoleLoomLaw" (.invokevirtual 52) 3 yX4_alias wX4_alias (some 4) 4 := rb_goV cw_X4_alias rfl q1780 q1781 q1782 ⟨by decide, by decide⟩ (by decide)
theorem st_L_53_0 : rb_Go "RoleLoomLaw" (.invokevirtual 53) 3 yX0_weave wX0_weave (some 0) 1 := rb_goV cw_X0_weave rfl q1091 q1092 q1093 ⟨by decide, by decide⟩ (by decide)
theorem st_L_57_4 : rb_Go "RoleLoomLaw" (.invokevirtual 57) 3 yX4_weave wX4_weave (some 4) 1 := rb_goV cw_X4_weave rfl q1784 q1785 q1786 ⟨by decide, by decide⟩ (by decide)
theorem st_L_58_0 : rb_Go "RoleLoomLaw" (.invokevirtual 58) 3 yX0_ring wX0_ring (some 0) 2 := rb_goV cw_X0_ring rfl q1191 q1192 q1193 ⟨by decide, by decide⟩ (by decide)
theorem st_L_61_4 : rb_Go "RoleLoomLaw" (.invokevirtual 61) 3 yX4_ring wX4_ring (some 4) 2 := rb_goV cw_X4_ring rfl q1839 q1840 q1841 ⟨by decide, by decide⟩ (by decide)
theorem st_L_62_0 : rb_Go "RoleLoomLaw" (.invokevirtual 62) 3 yX0_lacks_2 wX0_lacks_2 (some 0) 2 := rb_goV cw_X0_lacks_2 rfl q1195 q1196 q1197 ⟨by decide, by decide⟩ (by decide)
theorem st_L_65_4 : rb_Go "RoleLoomLaw" (.invokevirtual 65) 3 yX4_lacks wX4_lacks (some 4) 2 := rb_goV cw_X4_lacks rfl q1843 q1844 q1845 ⟨by decide, by decide⟩ (by decide)
theorem st_L_66_0 : rb_Go "RoleLoomLaw" (.invokevirtual 66) 3 yX0_line wX0_line (some 0) 3 := rb_goV cw_X0_line rfl q1199 q1200 q1201 ⟨by decide, by decide⟩ (by decide)
theorem st_L_69_4 : rb_Go "RoleLoomLaw" (.invokevirtual 69) 3 yX4_line wX4_line (some 4) 3 := rb_goV cw_X4_line rfl q1847 q1848 q1849 ⟨by decide, by decide⟩ (by decide)
theorem st_L_70_0 : rb_Go "RoleLoomLaw" (.invokevirtual 70) 3 yX0_chain wX0_chain (some 0) 4 := rb_goV cw_X0_chain rfl q1207 q1208 q1209 ⟨by decide, by decide⟩ (by decide)
theorem st_L_73_4 : rb_Go "RoleLoomLaw" (.invokevirtual 73) 3 yX4_chain_2 wX4_chain_2 (some 4) 4 := rb_goV cw_X4_chain_2 rfl q1855 q1856 q1857 ⟨by decide, by decide⟩ (by decide)
theorem st_L_74_0 : rb_Go "RoleLoomLaw" (.invokevirtual 74) 3 yX0_under wX0_under (some 0) 3 := rb_goV cw_X0_under rfl q1211 q1212 q1213 ⟨by decide, by decide⟩ (by decide)
theorem st_L_77_4 : rb_Go "RoleLoomLaw" (.invokevirtual 77) 3 yX4_under wX4_under (some 4) 3 := rb_goV cw_X4_under rfl q1859 q1860 q1861 ⟨by decide, by decide⟩ (by decide)
theorem st_L_78_0 : rb_Go "RoleLoomLaw" (.invokevirtual 78) 3 yX0_step wX0_step (some 0) 3 := rb_goV cw_X0_step rfl q1221 q1222 q1223 ⟨by decide, by decide⟩ (by decide)
theorem st_L_81_4 : rb_Go "RoleLoomLaw" (.invokevirtual 81) 3 yX4_step wX4_step (some 4) 3 := rb_goV cw_X4_step rfl q1871 q1872 q1873 ⟨by decide, by decide⟩ (by decide)
theorem st_L_82_0 : rb_Go "RoleLoomLaw" (.invokevirtual 82) 3 yX0_started wX0_started (some 0) 3 := rb_goV cw_X0_started rfl q1229 q1230 q1231 ⟨by decide, by decide⟩ (by decide)
theorem st_L_85_4 : rb_Go "RoleLoomLaw" (.invokevirtual 85) 3 yX4_started wX4_started (some 4) 3 := rb_goV cw_X4_started rfl q1879 q1880 q1881 ⟨by decide, by decide⟩ (by decide)
theorem st_L_86_0 : rb_Go "RoleLoomLaw" (.invokevirtual 86) 3 yX0_object wX0_object (some 0) 2 := rb_goV cw_X0_object rfl q1233 q1234 q1235 ⟨by decide, by decide⟩ (by decide)
theorem st_L_89_4 : rb_Go "RoleLoomLaw" (.invokevirtual 89) 3 yX4_object wX4_object (some 4) 2 := rb_goV cw_X4_object rfl q1887 q1888 q1889 ⟨by decide, by decide⟩ (by decide)
theorem st_L_92_0 : rb_Go "RoleLoomLaw" (.invokevirtual 92) 3 yX0_call wX0_call (some 0) 4 := rb_goV cw_X0_call rfl q1425 q1426 q1427 ⟨by decide, by decide⟩ (by decide)
theorem st_L_96_4 : rb_Go "RoleLoomLaw" (.invokevirtual 96) 3 yX4_call wX4_call (some 4) 4 := rb_goV cw_X4_call rfl q1968 q1969 q1970 ⟨by decide, by decide⟩ (by decide)
theorem st_L_97_0 : rb_Go "RoleLoomLaw" (.invokevirtual 97) 3 yX0_answer wX0_answer (some 0) 1 := rb_goV cw_X0_answer rfl q1434 q1435 q1436 ⟨by decide, by decide⟩ (by decide)
theorem st_L_101_4 : rb_Go "RoleLoomLaw" (.invokevirtual 101) 3 yX4_answer wX4_answer (some 4) 1 := rb_goV cw_X4_answer rfl q1976 q1977 q1978 ⟨by decide, by decide⟩ (by decide)
theorem st_L_102_0 : rb_Go "RoleLoomLaw" (.invokevirtual 102) 3 yX0_threw wX0_threw (some 0) 2 := rb_goV cw_X0_threw rfl q1438 q1439 q1440 ⟨by decide, by decide⟩ (by decide)
theorem st_L_105_4 : rb_Go "RoleLoomLaw" (.invokevirtual 105) 3 yX4_threw wX4_threw (some 4) 2 := rb_goV cw_X4_threw rfl q1980 q1981 q1982 ⟨by decide, by decide⟩ (by decide)
theorem st_L_106_0 : rb_Go "RoleLoomLaw" (.invokevirtual 106) 3 yX0_with wX0_with (some 0) 1 := rb_goV cw_X0_with rfl q1442 q1443 q1444 ⟨by decide, by decide⟩ (by decide)
theorem st_L_109_4 : rb_Go "RoleLoomLaw" (.invokevirtual 109) 3 yX4_with wX4_with (some 4) 1 := rb_goV cw_X4_with rfl q1984 q1985 q1986 ⟨by decide, by decide⟩ (by decide)
theorem st_L_110_0 : rb_Go "RoleLoomLaw" (.invokevirtual 110) 3 yX0_ran wX0_ran (some 0) 3 := rb_goV cw_X0_ran rfl q1446 q1447 q1448 ⟨by decide, by decide⟩ (by decide)
theorem st_L_113_4 : rb_Go "RoleLoomLaw" (.invokevirtual 113) 3 yX4_ran wX4_ran (some 4) 3 := rb_goV cw_X4_ran rfl q1988 q1989 q1990 ⟨by decide, by decide⟩ (by decide)
theorem st_L_114_0 : rb_Go "RoleLoomLaw" (.invokevirtual 114) 3 yX0_marks wX0_marks (some 0) 1 := rb_goV cw_X0_marks rfl q1450 q1451 q1452 ⟨by decide, by decide⟩ (by decide)
theorem st_L_117_4 : rb_Go "RoleLoomLaw" (.invokevirtual 117) 3 yX4_marks wX4_marks (some 4) 1 := rb_goV cw_X4_marks rfl q1992 q1993 q1994 ⟨by decide, by decide⟩ (by decide)
theorem st_L_118_0 : rb_Go "RoleLoomLaw" (.invokevirtual 118) 3 yX0_mark wX0_mark (some 0) 2 := rb_goV cw_X0_mark rfl q1454 q1455 q1456 ⟨by decide, by decide⟩ (by decide)
theorem st_L_121_4 : rb_Go "RoleLoomLaw" (.invokevirtual 121) 3 yX4_mark wX4_mark (some 4) 2 := rb_goV cw_X4_mark rfl q1996 q1997 q1998 ⟨by decide, by decide⟩ (by decide)
theorem st_L_122_0 : rb_Go "RoleLoomLaw" (.invokevirtual 122) 3 yX0_cell wX0_cell (some 0) 4 := rb_goV cw_X0_cell rfl q1463 q1464 q1465 ⟨by decide, by decide⟩ (by decide)
theorem st_L_125_4 : rb_Go "RoleLoomLaw" (.invokevirtual 125) 3 yX4_cell wX4_cell (some 4) 4 := rb_goV cw_X4_cell rfl q2004 q2005 q2006 ⟨by decide, by decide⟩ (by decide)
theorem st_L_126_0 : rb_Go "RoleLoomLaw" (.invokevirtual 126) 3 yX0_row wX0_row (some 0) 5 := rb_goV cw_X0_row rfl q1471 q1472 q1473 ⟨by decide, by decide⟩ (by decide)
theorem st_L_129_4 : rb_Go "RoleLoomLaw" (.invokevirtual 129) 3 yX4_row wX4_row (some 4) 5 := rb_goV cw_X4_row rfl q2012 q2013 q2014 ⟨by decide, by decide⟩ (by decide)
theorem st_L_130_0 : rb_Go "RoleLoomLaw" (.invokevirtual 130) 3 yX0_hold wX0_hold (some 0) 5 := rb_goV cw_X0_hold rfl q1475 q1476 q1477 ⟨by decide, by decide⟩ (by decide)
theorem st_L_133_4 : rb_Go "RoleLoomLaw" (.invokevirtual 133) 3 yX4_hold wX4_hold (some 4) 5 := rb_goV cw_X4_hold rfl q2016 q2017 q2018 ⟨by decide, by decide⟩ (by decide)
theorem st_L_134_0 : rb_Go "RoleLoomLaw" (.invokevirtual 134) 3 yX0_shared wX0_shared (some 0) 2 := rb_goV cw_X0_shared rfl q1479 q1480 q1481 ⟨by decide, by decide⟩ (by decide)
theorem st_L_137_4 : rb_Go "RoleLoomLaw" (.invokevirtual 137) 3 yX4_shared wX4_shared (some 4) 2 := rb_goV cw_X4_shared rfl q2020 q2021 q2022 ⟨by decide, by decide⟩ (by decide)
theorem st_L_138_0 : rb_Go "RoleLoomLaw" (.invokevirtual 138) 3 yX0_told wX0_told (some 0) 1 := rb_goV cw_X0_told rfl q1483 q1484 q1485 ⟨by decide, by decide⟩ (by decide)
theorem st_L_141_4 : rb_Go "RoleLoomLaw" (.invokevirtual 141) 3 yX4_told wX4_told (some 4) 1 := rb_goV cw_X4_told rfl q2024 q2025 q2026 ⟨by decide, by decide⟩ (by decide)
theorem st_L_142_0 : rb_Go "RoleLoomLaw" (.invokevirtual 142) 3 yX0_count wX0_count (some 0) 2 := rb_goV cw_X0_count rfl q1487 q1488 q1489 ⟨by decide, by decide⟩ (by decide)
theorem st_L_145_4 : rb_Go "RoleLoomLaw" (.invokevirtual 145) 3 yX4_count wX4_count (some 4) 2 := rb_goV cw_X4_count rfl q2028 q2029 q2030 ⟨by decide, by decide⟩ (by decide)
theorem st_L_146_0 : rb_Go "RoleLoomLaw" (.invokevirtual 146) 3 yX0_digest wX0_digest (some 0) 1 := rb_goV cw_X0_digest rfl q1491 q1492 q1493 ⟨by decide, by decide⟩ (by decide)
theorem st_L_149_4 : rb_Go "RoleLoomLaw" (.invokevirtual 149) 3 yX4_digest wX4_digest (some 4) 1 := rb_goV cw_X4_digest rfl q2032 q2033 q2034 ⟨by decide, by decide⟩ (by decide)
theorem sgL_law_0 {κ : rb_K} {n : Nat × Nat} {M : rb_H} {L : Nat} {xs : Nat → Int32} (hX : rb_sc κ.1 L xs) (K : (rb_rom κ (n.1 + 1, n.2 + 36) ∧ (∃ (ci6 : Nat) (d1 : Nat) (n2 : Nat × Nat) (Q3 : Outcome → rb_H → Prop), rb_Ct κ.1 yX0_init wX0_init d1 n2 [.ref M.1] (rb_nw M (rb_O 0 [.null, .null, .null, .null, .null, .int 0, .null, .null, .null, .null, .null, .null, .null, .int 0, .null, .null, .null, .null, .null, .int 0, .int 0, .int 0, .null, .int 0, .null, .null, .int 0, .int 0, .int 0, .int 0, .long 0, .long 0, .long 0, .long 0, .null, .int 0])) Q3 ∧ rb_dp κ d1 ∧ rb_rom κ (n.1 + 1 + n2.1, n.2 + 36 + n2.2) ∧ rb_ob (rb_nw M (rb_O 0 [.null, .null, .null, .null, .null, .int 0, .null, .null, .null, .null, .null, .null, .null, .int 0, .null, .null, .null, .null, .null, .int 0, .int 0, .int 0, .null, .int 0, .null, .null, .int 0, .int 0, .int 0, .int 0, .long 0, .long 0, .long 0, .long 0, .null, .int 0])) M.1 ci6 ∧ ∀ (o : Outcome) (M5 : rb_H), Q3 o M5 → (o = .returned none ∧ (rb_rom κ (n.1 + 1 + n2.1 + 1, n.2 + 36 + n2.2 + 73) ∧ (∃ (ci12 : Nat) (d7 : Nat) (n8 : Nat × Nat) (Q9 : Outcome → rb_H → Prop), rb_Ct κ.1 yX4_init wX4_init d7 n8 [.ref M5.1] (rb_nw M5 (rb_O 4 [.int 0, .null, .null, .null, .null, .null, .null, .int 0, .null, .null, .null, .null, .null, .null, .null, .int 0, .int 0, .null, .int 0, .null, .null, .null, .null, .null, .int 0, .null, .null, .null, .null, .null, .null, .null, .null, .null, .int 0, .int 0, .int 0, .null, .null, .null, .int 0, .null, .null, .null, .null, .null, .null, .int 0, .null, .long 0, .int 0, .null, .null, .null, .null, .null, .null, .null, .null, .null, .int 0, .int 0, .long 0, .long 0, .int 0, .int 0, .int 0, .long 0, .int 0, .null, .null, .null, .null])) Q9 ∧ rb_dp κ d7 ∧ rb_rom κ (n.1 + 1 + n2.1 + 1 + n8.1, n.2 + 36 + n2.2 + 73 + n8.2) ∧ rb_ob (rb_nw M5 (rb_O 4 [.int 0, .null, .null, .null, .null, .null, .null, .int 0, .null, .null, .null, .null, .null, .null, .null, .int 0, .int 0, .null, .int 0, .null, .null, .null, .null, .null, .int 0, .null, .null, .null, .null, .null, .null, .null, .null, .null, .int 0, .int 0, .int 0, .null, .null, .null, .int 0, .null, .null, .null, .null, .null, .null, .int 0, .null, .long 0, .int 0, .null, .null, .null, .null, .null, .null, .null, .null, .null, .int 0, .int 0, .long 0, .long 0, .int 0, .int 0, .int 0, .long 0, .int 0, .null, .null, .null, .null])) M5.1 ci12 ∧ ∀ (o : Outcome) (M11 : rb_H), Q9 o M11 → (o = .returned none ∧ rb_Bd κ mL_law (n.1 + 1 + n2.1 + 1 + n8.1, n.2 + 36 + n2.2 + 73 + n8.2) M11 18 [some (.ref κ.1.2.2.1), some (.ref M.1), some (.ref M5.1), some (.int (0 : Int32))] []))))))) : rb_Bd κ mL_law n M 0 [some (.ref κ.1.2.2.1), none, none, none] [] := by
  refine rb_new nw_L_7 (fs := [.null, .null, .null, .null, .null, .int 0, .null, .null, .null, .null, .null, .null, .null, .int 0, .null, .null, .null, .null, .null, .int 0, .int 0, .int 0, .null, .int 0, .null, .null, .int 0, .int 0, .int 0, .int 0, .long 0, .long 0, .long 0, .long 0, .null, .int 0]) rfl (K).1.1 (K).1.2 dL_law_0 ?_
  show rb_Bd κ mL_law (n.1 + 1, n.2 + 36) (rb_nw M (rb_O 0 [.null, .null, .null, .null, .null, .int 0, .null, .null, .null, .null, .null, .null, .null, .int 0, .null, .null, .null, .null, .null, .int 0, .int 0, .int 0, .null, .int 0, .null, .null, .int 0, .int 0, .int 0, .int 0, .long 0, .long 0, .long 0, .long 0, .null, .int 0])) 3 [some (.ref κ.1.2.2.1), none, none, none] [.ref M.1]
  refine rb_dup rfl dL_law_3 ?_
  obtain ⟨ci6, d1, n2, Q3, h1v4, hdv4, hnv4, hov4, Kv4⟩ := (K).2
  refine rb_call (st_L_9 ci6) (rest := [.ref M.1]) h1v4 rfl rfl (rc_rc rfl hov4) (Nat.le_of_ble_eq_true rfl) hdv4.1 hdv4.2 hnv4.1 hnv4.2 dL_law_4 (fun o M5 hpv4 => ?_)
  obtain ⟨eo, KKv4⟩ := Kv4 o M5 hpv4
  subst eo
  show rb_Bd κ mL_law (n.1 + 1 + n2.1, n.2 + 36 + n2.2) M5 7 [some (.ref κ.1.2.2.1), none, none, none] [.ref M.1]
  refine rb_astore_n 1 rfl (ls' := [some (.ref κ.1.2.2.1), some (.ref M.1), none, none]) (by decide) rfl rfl (rb_isR_ref _) dL_law_7 ?_
  refine rb_new nw_L_10 (fs := [.int 0, .null, .null, .null, .null, .null, .null, .int 0, .null, .null, .null, .null, .null, .null, .null, .int 0, .int 0, .null, .int 0, .null, .null, .null, .null, .null, .int 0, .null, .null, .null, .null, .null, .null, .null, .null, .null, .int 0, .int 0, .int 0, .null, .null, .null, .int 0, .null, .null, .null, .null, .null, .null, .int 0, .null, .long 0, .int 0, .null, .null, .null, .null, .null, .null, .null, .null, .null, .int 0, .int 0, .long 0, .long 0, .int 0, .int 0, .int 0, .long 0, .int 0, .null, .null, .null, .null]) rfl (KKv4).1.1 (KKv4).1.2 dL_law_8 ?_
  show rb_Bd κ mL_law (n.1 + 1 + n2.1 + 1, n.2 + 36 + n2.2 + 73) (rb_nw M5 (rb_O 4 [.int 0, .null, .null, .null, .null, .null, .null, .int 0, .null, .null, .null, .null, .null, .null, .null, .int 0, .int 0, .null, .int 0, .null, .null, .null, .null, .null, .int 0, .null, .null, .null, .null, .null, .null, .null, .null, .null, .int 0, .int 0, .int 0, .null, .null, .null, .int 0, .null, .null, .null, .null, .null, .null, .int 0, .null, .long 0, .int 0, .null, .null, .null, .null, .null, .null, .null, .null, .null, .int 0, .int 0, .long 0, .long 0, .int 0, .int 0, .int 0, .long 0, .int 0, .null, .null, .null, .null])) 11 [some (.ref κ.1.2.2.1), some (.ref M.1), none, none] [.ref M5.1]
  refine rb_dup rfl dL_law_11 ?_
  obtain ⟨ci12, d7, n8, Q9, h1v10, hdv10, hnv10, hov10, Kv10⟩ := (KKv4).2
  refine rb_call (st_L_12 ci12) (rest := [.ref M5.1]) h1v10 rfl rfl (rc_rc rfl hov10) (Nat.le_of_ble_eq_true rfl) hdv10.1 hdv10.2 hnv10.1 hnv10.2 dL_law_12 (fun o M11 hpv10 => ?_)
  obtain ⟨eo, KKv10⟩ := Kv10 o M11 hpv10
  subst eo
  show rb_Bd κ mL_law (n.1 + 1 + n2.1 + 1 + n8.1, n.2 + 36 + n2.2 + 73 + n8.2) M11 15 [some (.ref κ.1.2.2.1), some (.ref M.1), none, none] [.ref M5.1]
  refine rb_astore_n 2 rfl (ls' := [some (.ref κ.1.2.2.1), some (.ref M.1), some (.ref M5.1), none]) (by decide) rfl rfl (rb_isR_ref _) dL_law_15 ?_
  refine rb_iconst (v := (0 : Int32)) (by decide) dL_law_16 ?_
  refine rb_istore_n 3 rfl (ls' := [some (.ref κ.1.2.2.1), some (.ref M.1), some (.ref M5.1), some (.int (0 : Int32))]) (by decide) rfl rfl dL_law_17 ?_
  exact KKv10
theorem sgL_law_18 {κ : rb_K} {n : Nat × Nat} {M : rb_H} {L : Nat} {xs : Nat → Int32} {a1 a2 : Value} {a3 : Int32} (ha1 : rb_isR a1) (ha2 : rb_isR a2) (hX : rb_sc κ.1 L xs) (K : ((((nI L) - (5 : Int32)) < a3 → (rb_fin κ n ∧ κ.2.2.1 (.returned (some (.int (1 : Int32)))) M)) ∧ (a3 ≤ ((nI L) - (5 : Int32)) → (vp_in a3 L ∧ ((((((xs (a3).toNatClampNeg) &&& (31 : Int32))).toInt < 0 ∨ 31 < (((xs (a3).toNatClampNeg) &&& (31 : Int32))).toInt) → rb_Bd κ mL_law n M 1186 [some (.ref κ.1.2.2.1), some a1, some a2, some (.int a3)] []) ∧ ((((xs (a3).toNatClampNeg) &&& (31 : Int32))).toInt = 0 → rb_Bd κ mL_law n M 176 [some (.ref κ.1.2.2.1), some a1, some a2, some (.int a3)] []) ∧ ((((xs (a3).toNatClampNeg) &&& (31 : Int32))).toInt = 1 → rb_Bd κ mL_law n M 219 [some (.ref κ.1.2.2.1), some a1, some a2, some (.int a3)] []) ∧ ((((xs (a3).toNatClampNeg) &&& (31 : Int32))).toInt = 2 → rb_Bd κ mL_law n M 252 [some (.ref κ.1.2.2.1), some a1, some a2, some (.int a3)] []) ∧ ((((xs (a3).toNatClampNeg) &&& (31 : Int32))).toInt = 3 → rb_Bd κ mL_law n M 285 [some (.ref κ.1.2.2.1), some a1, some a2, some (.int a3)] []) ∧ ((((xs (a3).toNatClampNeg) &&& (31 : Int32))).toInt = 4 → rb_Bd κ mL_law n M 338 [some (.ref κ.1.2.2.1), some a1, some a2, some (.int a3)] []) ∧ ((((xs (a3).toNatClampNeg) &&& (31 : Int32))).toInt = 5 → rb_Bd κ mL_law n M 381 [some (.ref κ.1.2.2.1), some a1, some a2, some (.int a3)] []) ∧ ((((xs (a3).toNatClampNeg) &&& (31 : Int32))).toInt = 6 → rb_Bd κ mL_law n M 414 [some (.ref κ.1.2.2.1), some a1, some a2, some (.int a3)] []) ∧ ((((xs (a3).toNatClampNeg) &&& (31 : Int32))).toInt = 7 → rb_Bd κ mL_law n M 437 [some (.ref κ.1.2.2.1), some a1, some a2, some (.int a3)] []) ∧ ((((xs (a3).toNatClampNeg) &&& (31 : Int32))).toInt = 8 → rb_Bd κ mL_law n M 470 [some (.ref κ.1.2.2.1), some a1, some a2, some (.int a3)] []) ∧ ((((xs (a3).toNatClampNeg) &&& (31 : Int32))).toInt = 9 → rb_Bd κ mL_law n M 513 [some (.ref κ.1.2.2.1), some a1, some a2, some (.int a3)] []) ∧ ((((xs (a3).toNatClampNeg) &&& (31 : Int32))).toInt = 10 → rb_Bd κ mL_law n M 526 [some (.ref κ.1.2.2.1), some a1, some a2, some (.int a3)] []) ∧ ((((xs (a3).toNatClampNeg) &&& (31 : Int32))).toInt = 11 → rb_Bd κ mL_law n M 549 [some (.ref κ.1.2.2.1), some a1, some a2, some (.int a3)] []) ∧ ((((xs (a3).toNatClampNeg) &&& (31 : Int32))).toInt = 12 → rb_Bd κ mL_law n M 572 [some (.ref κ.1.2.2.1), some a1, some a2, some (.int a3)] []) ∧ ((((xs (a3).toNatClampNeg) &&& (31 : Int32))).toInt = 13 → rb_Bd κ mL_law n M 605 [some (.ref κ.1.2.2.1), some a1, some a2, some (.int a3)] []) ∧ ((((xs (a3).toNatClampNeg) &&& (31 : Int32))).toInt = 14 → rb_Bd κ mL_law n M 648 [some (.ref κ.1.2.2.1), some a1, some a2, some (.int a3)] []) ∧ ((((xs (a3).toNatClampNeg) &&& (31 : Int32))).toInt = 15 → rb_Bd κ mL_law n M 681 [some (.ref κ.1.2.2.1), some a1, some a2, some (.int a3)] []) ∧ ((((xs (a3).toNatClampNeg) &&& (31 : Int32))).toInt = 16 → rb_Bd κ mL_law n M 714 [some (.ref κ.1.2.2.1), some a1, some a2, some (.int a3)] []) ∧ ((((xs (a3).toNatClampNeg) &&& (31 : Int32))).toInt = 17 → rb_Bd κ mL_law n M 747 [some (.ref κ.1.2.2.1), some a1, some a2, some (.int a3)] []) ∧ ((((xs (a3).toNatClampNeg) &&& (31 : Int32))).toInt = 18 → rb_Bd κ mL_law n M 770 [some (.ref κ.1.2.2.1), some a1, some a2, some (.int a3)] []) ∧ ((((xs (a3).toNatClampNeg) &&& (31 : Int32))).toInt = 19 → rb_Bd κ mL_law n M 843 [some (.ref κ.1.2.2.1), some a1, some a2, some (.int a3)] []) ∧ ((((xs (a3).toNatClampNeg) &&& (31 : Int32))).toInt = 20 → rb_Bd κ mL_law n M 857 [some (.ref κ.1.2.2.1), some a1, some a2, some (.int a3)] []) ∧ ((((xs (a3).toNatClampNeg) &&& (31 : Int32))).toInt = 21 → rb_Bd κ mL_law n M 880 [some (.ref κ.1.2.2.1), some a1, some a2, some (.int a3)] []) ∧ ((((xs (a3).toNatClampNeg) &&& (31 : Int32))).toInt = 22 → rb_Bd κ mL_law n M 894 [some (.ref κ.1.2.2.1), some a1, some a2, some (.int a3)] []) ∧ ((((xs (a3).toNatClampNeg) &&& (31 : Int32))).toInt = 23 → rb_Bd κ mL_law n M 927 [some (.ref κ.1.2.2.1), some a1, some a2, some (.int a3)] []) ∧ ((((xs (a3).toNatClampNeg) &&& (31 : Int32))).toInt = 24 → rb_Bd κ mL_law n M 940 [some (.ref κ.1.2.2.1), some a1, some a2, some (.int a3)] []) ∧ ((((xs (a3).toNatClampNeg) &&& (31 : Int32))).toInt = 25 → rb_Bd κ mL_law n M 963 [some (.ref κ.1.2.2.1), some a1, some a2, some (.int a3)] []) ∧ ((((xs (a3).toNatClampNeg) &&& (31 : Int32))).toInt = 26 → rb_Bd κ mL_law n M 1006 [some (.ref κ.1.2.2.1), some a1, some a2, some (.int a3)] []) ∧ ((((xs (a3).toNatClampNeg) &&& (31 : Int32))).toInt = 27 → rb_Bd κ mL_law n M 1059 [some (.ref κ.1.2.2.1), some a1, some a2, some (.int a3)] []) ∧ ((((xs (a3).toNatClampNeg) &&& (31 : Int32))).toInt = 28 → rb_Bd κ mL_law n M 1112 [some (.ref κ.1.2.2.1), some a1, some a2, some (.int a3)] []) ∧ ((((xs (a3).toNatClampNeg) &&& (31 : Int32))).toInt = 29 → rb_Bd κ mL_law n M 1135 [some (.ref κ.1.2.2.1), some a1, some a2, some (.int a3)] []) ∧ ((((xs (a3).toNatClampNeg) &&& (31 : Int32))).toInt = 30 → rb_Bd κ mL_law n M 1149 [some (.ref κ.1.2.2.1), some a1, some a2, some (.int a3)] []) ∧ ((((xs (a3).toNatClampNeg) &&& (31 : Int32))).toInt = 31 → rb_Bd κ mL_law n M 1172 [some (.ref κ.1.2.2.1), some a1, some a2, some (.int a3)] [])))))) : rb_Bd κ mL_law n M 18 [some (.ref κ.1.2.2.1), some a1, some a2, some (.int a3)] [] := by
  refine rb_iload_n 3 rfl rfl dL_law_18 ?_
  refine rb_aload_n 0 rfl rfl (rb_isR_ref _) dL_law_19 ?_
  refine rb_slen hX dL_law_20 ?_
  refine rb_iconst (v := (5 : Int32)) (by decide) dL_law_21 ?_
  refine rb_isub (z := ((nI L) - (5 : Int32))) rfl dL_law_22 ?_
  refine rb_icgt 1192 (by decide) dL_law_23 (fun c1 => ?_) (fun c1 => ?_)
  · skip
    refine rb_iconst (v := (1 : Int32)) (by decide) dL_law_1192 ?_
    exact rb_iret rfl (by decide) (((K).1 c1)).1.1 (((K).1 c1)).1.2 dL_law_1193 (((K).1 c1)).2
  · skip
    refine rb_aload_n 0 rfl rfl (rb_isR_ref _) dL_law_26 ?_
    refine rb_iload_n 3 rfl rfl dL_law_27 ?_
    refine rb_sld hX (((K).2 c1)).1 dL_law_28 ?_
    refine rb_bipush (v := (31 : Int32)) (by decide) dL_law_29 ?_
    refine rb_iand (z := ((xs (a3).toNatClampNeg) &&& (31 : Int32))) rfl dL_law_31 ?_
    rcases mm_sw31 (((xs (a3).toNatClampNeg) &&& (31 : Int32))).toInt 0 with c2 | c2 | c2 | c2 | c2 | c2 | c2 | c2 | c2 | c2 | c2 | c2 | c2 | c2 | c2 | c2 | c2 | c2 | c2 | c2 | c2 | c2 | c2 | c2 | c2 | c2 | c2 | c2 | c2 | c2 | c2 | c2 | c2
    · skip
      refine rb_tableOut 1186 (by omega) (by decide) dL_law_32 ?_
      exact (((((K).2 c1)).2).1 (by omega))
    · skip
      refine rb_tableIn 176 (by omega) (by omega) (off := 144) (by rw [c2]; rfl) (by decide) dL_law_32 ?_
      exact (((((K).2 c1)).2).2.1 c2)
    · skip
      refine rb_tableIn 219 (by omega) (by omega) (off := 187) (by rw [c2]; rfl) (by decide) dL_law_32 ?_
      exact (((((K).2 c1)).2).2.2.1 c2)
    · skip
      refine rb_tableIn 252 (by omega) (by omega) (off := 220) (by rw [c2]; rfl) (by decide) dL_law_32 ?_
      exact (((((K).2 c1)).2).2.2.2.1 c2)
    · skip
      refine rb_tableIn 285 (by omega) (by omega) (off := 253) (by rw [c2]; rfl) (by decide) dL_law_32 ?_
      exact (((((K).2 c1)).2).2.2.2.2.1 c2)
    · skip
      refine rb_tableIn 338 (by omega) (by omega) (off := 306) (by rw [c2]; rfl) (by decide) dL_law_32 ?_
      exact (((((K).2 c1)).2).2.2.2.2.2.1 c2)
    · skip
      refine rb_tableIn 381 (by omega) (by omega) (off := 349) (by rw [c2]; rfl) (by decide) dL_law_32 ?_
      exact (((((K).2 c1)).2).2.2.2.2.2.2.1 c2)
    · skip
      refine rb_tableIn 414 (by omega) (by omega) (off := 382) (by rw [c2]; rfl) (by decide) dL_law_32 ?_
      exact (((((K).2 c1)).2).2.2.2.2.2.2.2.1 c2)
    · skip
      refine rb_tableIn 437 (by omega) (by omega) (off := 405) (by rw [c2]; rfl) (by decide) dL_law_32 ?_
      exact (((((K).2 c1)).2).2.2.2.2.2.2.2.2.1 c2)
    · skip
      refine rb_tableIn 470 (by omega) (by omega) (off := 438) (by rw [c2]; rfl) (by decide) dL_law_32 ?_
      exact (((((K).2 c1)).2).2.2.2.2.2.2.2.2.2.1 c2)
    · skip
      refine rb_tableIn 513 (by omega) (by omega) (off := 481) (by rw [c2]; rfl) (by decide) dL_law_32 ?_
      exact (((((K).2 c1)).2).2.2.2.2.2.2.2.2.2.2.1 c2)
    · skip
      refine rb_tableIn 526 (by omega) (by omega) (off := 494) (by rw [c2]; rfl) (by decide) dL_law_32 ?_
      exact (((((K).2 c1)).2).2.2.2.2.2.2.2.2.2.2.2.1 c2)
    · skip
      refine rb_tableIn 549 (by omega) (by omega) (off := 517) (by rw [c2]; rfl) (by decide) dL_law_32 ?_
      exact (((((K).2 c1)).2).2.2.2.2.2.2.2.2.2.2.2.2.1 c2)
    · skip
      refine rb_tableIn 572 (by omega) (by omega) (off := 540) (by rw [c2]; rfl) (by decide) dL_law_32 ?_
      exact (((((K).2 c1)).2).2.2.2.2.2.2.2.2.2.2.2.2.2.1 c2)
    · skip
      refine rb_tableIn 605 (by omega) (by omega) (off := 573) (by rw [c2]; rfl) (by decide) dL_law_32 ?_
      exact (((((K).2 c1)).2).2.2.2.2.2.2.2.2.2.2.2.2.2.2.1 c2)
    · skip
      refine rb_tableIn 648 (by omega) (by omega) (off := 616) (by rw [c2]; rfl) (by decide) dL_law_32 ?_
      exact (((((K).2 c1)).2).2.2.2.2.2.2.2.2.2.2.2.2.2.2.2.1 c2)
    · skip
      refine rb_tableIn 681 (by omega) (by omega) (off := 649) (by rw [c2]; rfl) (by decide) dL_law_32 ?_
      exact (((((K).2 c1)).2).2.2.2.2.2.2.2.2.2.2.2.2.2.2.2.2.1 c2)
    · skip
      refine rb_tableIn 714 (by omega) (by omega) (off := 682) (by rw [c2]; rfl) (by decide) dL_law_32 ?_
      exact (((((K).2 c1)).2).2.2.2.2.2.2.2.2.2.2.2.2.2.2.2.2.2.1 c2)
    · skip
      refine rb_tableIn 747 (by omega) (by omega) (off := 715) (by rw [c2]; rfl) (by decide) dL_law_32 ?_
      exact (((((K).2 c1)).2).2.2.2.2.2.2.2.2.2.2.2.2.2.2.2.2.2.2.1 c2)
    · skip
      refine rb_tableIn 770 (by omega) (by omega) (off := 738) (by rw [c2]; rfl) (by decide) dL_law_32 ?_
      exact (((((K).2 c1)).2).2.2.2.2.2.2.2.2.2.2.2.2.2.2.2.2.2.2.2.1 c2)
    · skip
      refine rb_tableIn 843 (by omega) (by omega) (off := 811) (by rw [c2]; rfl) (by decide) dL_law_32 ?_
      exact (((((K).2 c1)).2).2.2.2.2.2.2.2.2.2.2.2.2.2.2.2.2.2.2.2.2.1 c2)
    · skip
      refine rb_tableIn 857 (by omega) (by omega) (off := 825) (by rw [c2]; rfl) (by decide) dL_law_32 ?_
      exact (((((K).2 c1)).2).2.2.2.2.2.2.2.2.2.2.2.2.2.2.2.2.2.2.2.2.2.1 c2)
    · skip
      refine rb_tableIn 880 (by omega) (by omega) (off := 848) (by rw [c2]; rfl) (by decide) dL_law_32 ?_
      exact (((((K).2 c1)).2).2.2.2.2.2.2.2.2.2.2.2.2.2.2.2.2.2.2.2.2.2.2.1 c2)
    · skip
      refine rb_tableIn 894 (by omega) (by omega) (off := 862) (by rw [c2]; rfl) (by decide) dL_law_32 ?_
      exact (((((K).2 c1)).2).2.2.2.2.2.2.2.2.2.2.2.2.2.2.2.2.2.2.2.2.2.2.2.1 c2)
    · skip
      refine rb_tableIn 927 (by omega) (by omega) (off := 895) (by rw [c2]; rfl) (by decide) dL_law_32 ?_
      exact (((((K).2 c1)).2).2.2.2.2.2.2.2.2.2.2.2.2.2.2.2.2.2.2.2.2.2.2.2.2.1 c2)
    · skip
      refine rb_tableIn 940 (by omega) (by omega) (off := 908) (by rw [c2]; rfl) (by decide) dL_law_32 ?_
      exact (((((K).2 c1)).2).2.2.2.2.2.2.2.2.2.2.2.2.2.2.2.2.2.2.2.2.2.2.2.2.2.1 c2)
    · skip
      refine rb_tableIn 963 (by omega) (by omega) (off := 931) (by rw [c2]; rfl) (by decide) dL_law_32 ?_
      exact (((((K).2 c1)).2).2.2.2.2.2.2.2.2.2.2.2.2.2.2.2.2.2.2.2.2.2.2.2.2.2.2.1 c2)
    · skip
      refine rb_tableIn 1006 (by omega) (by omega) (off := 974) (by rw [c2]; rfl) (by decide) dL_law_32 ?_
      exact (((((K).2 c1)).2).2.2.2.2.2.2.2.2.2.2.2.2.2.2.2.2.2.2.2.2.2.2.2.2.2.2.2.1 c2)
    · skip
      refine rb_tableIn 1059 (by omega) (by omega) (off := 1027) (by rw [c2]; rfl) (by decide) dL_law_32 ?_
      exact (((((K).2 c1)).2).2.2.2.2.2.2.2.2.2.2.2.2.2.2.2.2.2.2.2.2.2.2.2.2.2.2.2.2.1 c2)
    · skip
      refine rb_tableIn 1112 (by omega) (by omega) (off := 1080) (by rw [c2]; rfl) (by decide) dL_law_32 ?_
      exact (((((K).2 c1)).2).2.2.2.2.2.2.2.2.2.2.2.2.2.2.2.2.2.2.2.2.2.2.2.2.2.2.2.2.2.1 c2)
    · skip
      refine rb_tableIn 1135 (by omega) (by omega) (off := 1103) (by rw [c2]; rfl) (by decide) dL_law_32 ?_
      exact (((((K).2 c1)).2).2.2.2.2.2.2.2.2.2.2.2.2.2.2.2.2.2.2.2.2.2.2.2.2.2.2.2.2.2.2.1 c2)
    · skip
      refine rb_tableIn 1149 (by omega) (by omega) (off := 1117) (by rw [c2]; rfl) (by decide) dL_law_32 ?_
      exact (((((K).2 c1)).2).2.2.2.2.2.2.2.2.2.2.2.2.2.2.2.2.2.2.2.2.2.2.2.2.2.2.2.2.2.2.2.1 c2)
    · skip
      refine rb_tableIn 1172 (by omega) (by omega) (off := 1140) (by rw [c2]; rfl) (by decide) dL_law_32 ?_
      exact (((((K).2 c1)).2).2.2.2.2.2.2.2.2.2.2.2.2.2.2.2.2.2.2.2.2.2.2.2.2.2.2.2.2.2.2.2.2 c2)
theorem sgL_law_176 {κ : rb_K} {n : Nat × Nat} {M : rb_H} {L : Nat} {xs : Nat → Int32} {a1 a2 : Value} {a3 : Int32} (ha1 : rb_isR a1) (ha2 : rb_isR a2) (hX : rb_sc κ.1 L xs) (K : (vp_in (a3 + (1 : Int32)) L ∧ (vp_in (a3 + (2 : Int32)) L ∧ (vp_in (a3 + (3 : Int32)) L ∧ (∃ q1, a1 = .ref q1 ∧ (∃ (d2 : Nat) (n3 : Nat × Nat) (Q4 : Outcome → rb_H → Prop), rb_Ct κ.1 yX0_part wX0_part d2 n3 [.ref q1, .int (xs ((a3 + (1 : Int32))).toNatClampNeg), .int (xs ((a3 + (2 : Int32))).toNatClampNeg), .int (xs ((a3 + (3 : Int32))).toNatClampNeg)] M Q4 ∧ rb_dp κ d2 ∧ rb_rom κ (n.1 + n3.1, n.2 + n3.2) ∧ rb_ob M q1 0 ∧ ∀ (o : Outcome) (M6 : rb_H), Q4 o M6 → (∃ (x5 : Int32), o = .returned (some (.int x5)) ∧ (vp_in (a3 + (1 : Int32)) L ∧ (vp_in (a3 + (2 : Int32)) L ∧ (vp_in (a3 + (3 : Int32)) L ∧ (∃ q7, a2 = .ref q7 ∧ (∃ (d8 : Nat) (n9 : Nat × Nat) (Q10 : Outcome → rb_H → Prop), rb_Ct κ.1 yX4_part wX4_part d8 n9 [.ref q7, .int (xs ((a3 + (1 : Int32))).toNatClampNeg), .int (xs ((a3 + (2 : Int32))).toNatClampNeg), .int (xs ((a3 + (3 : Int32))).toNatClampNeg)] M6 Q10 ∧ rb_dp κ d8 ∧ rb_rom κ (n.1 + n3.1 + n9.1, n.2 + n3.2 + n9.2) ∧ rb_ob M6 q7 4 ∧ ∀ (o : Outcome) (M12 : rb_H), Q10 o M12 → (∃ (x11 : Int32), o = .returned (some (.int x11)) ∧ ((x5 = x11 → rb_Bd κ mL_law (n.1 + n3.1 + n9.1, n.2 + n3.2 + n9.2) M12 1186 [some (.ref κ.1.2.2.1), some (.ref q1), some (.ref q7), some (.int a3)] []) ∧ (¬ x5 = x11 → (rb_fin κ (n.1 + n3.1 + n9.1, n.2 + n3.2 + n9.2) ∧ κ.2.2.1 (.returned (some (.int (0 : Int32)))) M12)))))))))))))))) : rb_Bd κ mL_law n M 176 [some (.ref κ.1.2.2.1), some a1, some a2, some (.int a3)] [] := by
  refine rb_aload_n 1 rfl rfl ha1 dL_law_176 ?_
  refine rb_aload_n 0 rfl rfl (rb_isR_ref _) dL_law_177 ?_
  refine rb_iload_n 3 rfl rfl dL_law_178 ?_
  refine rb_iconst (v := (1 : Int32)) (by decide) dL_law_179 ?_
  refine rb_iadd (z := (a3 + (1 : Int32))) rfl dL_law_180 ?_
  refine rb_sld hX (K).1 dL_law_181 ?_
  refine rb_aload_n 0 rfl rfl (rb_isR_ref _) dL_law_182 ?_
  refine rb_iload_n 3 rfl rfl dL_law_183 ?_
  refine rb_iconst (v := (2 : Int32)) (by decide) dL_law_184 ?_
  refine rb_iadd (z := (a3 + (2 : Int32))) rfl dL_law_185 ?_
  refine rb_sld hX ((K).2).1 dL_law_186 ?_
  refine rb_aload_n 0 rfl rfl (rb_isR_ref _) dL_law_187 ?_
  refine rb_iload_n 3 rfl rfl dL_law_188 ?_
  refine rb_iconst (v := (3 : Int32)) (by decide) dL_law_189 ?_
  refine rb_iadd (z := (a3 + (3 : Int32))) rfl dL_law_190 ?_
  refine rb_sld hX (((K).2).2).1 dL_law_191 ?_
  obtain ⟨q1, eq1, Kq1⟩ := (((K).2).2).2
  subst eq1
  obtain ⟨d2, n3, Q4, h1x5, hdx5, hnx5, hox5, Kx5⟩ := Kq1
  refine rb_call st_L_13_0 (rest := []) h1x5 rfl rfl (rc_rc rfl hox5) (Nat.le_of_ble_eq_true rfl) hdx5.1 hdx5.2 hnx5.1 hnx5.2 dL_law_192 (fun o M6 hpx5 => ?_)
  obtain ⟨x5, eo, KKx5⟩ := Kx5 o M6 hpx5
  subst eo
  show rb_Bd κ mL_law (n.1 + n3.1, n.2 + n3.2) M6 195 [some (.ref κ.1.2.2.1), some (.ref q1), some a2, some (.int a3)] [.int x5]
  refine rb_aload_n 2 rfl rfl ha2 dL_law_195 ?_
  refine rb_aload_n 0 rfl rfl (rb_isR_ref _) dL_law_196 ?_
  refine rb_iload_n 3 rfl rfl dL_law_197 ?_
  refine rb_iconst (v := (1 : Int32)) (by decide) dL_law_198 ?_
  refine rb_iadd (z := (a3 + (1 : Int32))) rfl dL_law_199 ?_
  refine rb_sld hX (KKx5).1 dL_law_200 ?_
  refine rb_aload_n 0 rfl rfl (rb_isR_ref _) dL_law_201 ?_
  refine rb_iload_n 3 rfl rfl dL_law_202 ?_
  refine rb_iconst (v := (2 : Int32)) (by decide) dL_law_203 ?_
  refine rb_iadd (z := (a3 + (2 : Int32))) rfl dL_law_204 ?_
  refine rb_sld hX ((KKx5).2).1 dL_law_205 ?_
  refine rb_aload_n 0 rfl rfl (rb_isR_ref _) dL_law_206 ?_
  refine rb_iload_n 3 rfl rfl dL_law_207 ?_
  refine rb_iconst (v := (3 : Int32)) (by decide) dL_law_208 ?_
  refine rb_iadd (z := (a3 + (3 : Int32))) rfl dL_law_209 ?_
  refine rb_sld hX (((KKx5).2).2).1 dL_law_210 ?_
  obtain ⟨q7, eq7, Kq7⟩ := (((KKx5).2).2).2
  subst eq7
  obtain ⟨d8, n9, Q10, h1x11, hdx11, hnx11, hox11, Kx11⟩ := Kq7
  refine rb_call st_L_17_4 (rest := [.int x5]) h1x11 rfl rfl (rc_rc rfl hox11) (Nat.le_of_ble_eq_true rfl) hdx11.1 hdx11.2 hnx11.1 hnx11.2 dL_law_211 (fun o M12 hpx11 => ?_)
  obtain ⟨x11, eo, KKx11⟩ := Kx11 o M12 hpx11
  subst eo
  show rb_Bd κ mL_law (n.1 + n3.1 + n9.1, n.2 + n3.2 + n9.2) M12 214 [some (.ref κ.1.2.2.1), some (.ref q1), some (.ref q7), some (.int a3)] [.int x11, .int x5]
  refine rb_iceq 1186 (by decide) dL_law_214 (fun c13 => ?_) (fun c13 => ?_)
  · skip
    exact ((KKx11).1 c13)
  · skip
    refine rb_iconst (v := (0 : Int32)) (by decide) dL_law_217 ?_
    exact rb_iret rfl (by decide) (((KKx11).2 c13)).1.1 (((KKx11).2 c13)).1.2 dL_law_218 (((KKx11).2 c13)).2
theorem sgL_law_219 {κ : rb_K} {n : Nat × Nat} {M : rb_H} {L : Nat} {xs : Nat → Int32} {a1 a2 : Value} {a3 : Int32} (ha1 : rb_isR a1) (ha2 : rb_isR a2) (hX : rb_sc κ.1 L xs) (K : (vp_in (a3 + (1 : Int32)) L ∧ (vp_in (a3 + (2 : Int32)) L ∧ (∃ q1, a1 = .ref q1 ∧ (∃ (d2 : Nat) (n3 : Nat × Nat) (Q4 : Outcome → rb_H → Prop), rb_Ct κ.1 yX0_extend wX0_extend d2 n3 [.ref q1, .int (xs ((a3 + (1 : Int32))).toNatClampNeg), .int (xs ((a3 + (2 : Int32))).toNatClampNeg)] M Q4 ∧ rb_dp κ d2 ∧ rb_rom κ (n.1 + n3.1, n.2 + n3.2) ∧ rb_ob M q1 0 ∧ ∀ (o : Outcome) (M6 : rb_H), Q4 o M6 → (∃ (x5 : Int32), o = .returned (some (.int x5)) ∧ (vp_in (a3 + (1 : Int32)) L ∧ (vp_in (a3 + (2 : Int32)) L ∧ (∃ q7, a2 = .ref q7 ∧ (∃ (d8 : Nat) (n9 : Nat × Nat) (Q10 : Outcome → rb_H → Prop), rb_Ct κ.1 yX4_extend wX4_extend d8 n9 [.ref q7, .int (xs ((a3 + (1 : Int32))).toNatClampNeg), .int (xs ((a3 + (2 : Int32))).toNatClampNeg)] M6 Q10 ∧ rb_dp κ d8 ∧ rb_rom κ (n.1 + n3.1 + n9.1, n.2 + n3.2 + n9.2) ∧ rb_ob M6 q7 4 ∧ ∀ (o : Outcome) (M12 : rb_H), Q10 o M12 → (∃ (x11 : Int32), o = .returned (some (.int x11)) ∧ ((x5 = x11 → rb_Bd κ mL_law (n.1 + n3.1 + n9.1, n.2 + n3.2 + n9.2) M12 1186 [some (.ref κ.1.2.2.1), some (.ref q1), some (.ref q7), some (.int a3)] []) ∧ (¬ x5 = x11 → (rb_fin κ (n.1 + n3.1 + n9.1, n.2 + n3.2 + n9.2) ∧ κ.2.2.1 (.returned (some (.int (0 : Int32)))) M12)))))))))))))) : rb_Bd κ mL_law n M 219 [some (.ref κ.1.2.2.1), some a1, some a2, some (.int a3)] [] := by
  refine rb_aload_n 1 rfl rfl ha1 dL_law_219 ?_
  refine rb_aload_n 0 rfl rfl (rb_isR_ref _) dL_law_220 ?_
  refine rb_iload_n 3 rfl rfl dL_law_221 ?_
  refine rb_iconst (v := (1 : Int32)) (by decide) dL_law_222 ?_
  refine rb_iadd (z := (a3 + (1 : Int32))) rfl dL_law_223 ?_
  refine rb_sld hX (K).1 dL_law_224 ?_
  refine rb_aload_n 0 rfl rfl (rb_isR_ref _) dL_law_225 ?_
  refine rb_iload_n 3 rfl rfl dL_law_226 ?_
  refine rb_iconst (v := (2 : Int32)) (by decide) dL_law_227 ?_
  refine rb_iadd (z := (a3 + (2 : Int32))) rfl dL_law_228 ?_
  refine rb_sld hX ((K).2).1 dL_law_229 ?_
  obtain ⟨q1, eq1, Kq1⟩ := ((K).2).2
  subst eq1
  obtain ⟨d2, n3, Q4, h1x5, hdx5, hnx5, hox5, Kx5⟩ := Kq1
  refine rb_call st_L_18_0 (rest := []) h1x5 rfl rfl (rc_rc rfl hox5) (Nat.le_of_ble_eq_true rfl) hdx5.1 hdx5.2 hnx5.1 hnx5.2 dL_law_230 (fun o M6 hpx5 => ?_)
  obtain ⟨x5, eo, KKx5⟩ := Kx5 o M6 hpx5
  subst eo
  show rb_Bd κ mL_law (n.1 + n3.1, n.2 + n3.2) M6 233 [some (.ref κ.1.2.2.1), some (.ref q1), some a2, some (.int a3)] [.int x5]
  refine rb_aload_n 2 rfl rfl ha2 dL_law_233 ?_
  refine rb_aload_n 0 rfl rfl (rb_isR_ref _) dL_law_234 ?_
  refine rb_iload_n 3 rfl rfl dL_law_235 ?_
  refine rb_iconst (v := (1 : Int32)) (by decide) dL_law_236 ?_
  refine rb_iadd (z := (a3 + (1 : Int32))) rfl dL_law_237 ?_
  refine rb_sld hX (KKx5).1 dL_law_238 ?_
  refine rb_aload_n 0 rfl rfl (rb_isR_ref _) dL_law_239 ?_
  refine rb_iload_n 3 rfl rfl dL_law_240 ?_
  refine rb_iconst (v := (2 : Int32)) (by decide) dL_law_241 ?_
  refine rb_iadd (z := (a3 + (2 : Int32))) rfl dL_law_242 ?_
  refine rb_sld hX ((KKx5).2).1 dL_law_243 ?_
  obtain ⟨q7, eq7, Kq7⟩ := ((KKx5).2).2
  subst eq7
  obtain ⟨d8, n9, Q10, h1x11, hdx11, hnx11, hox11, Kx11⟩ := Kq7
  refine rb_call st_L_22_4 (rest := [.int x5]) h1x11 rfl rfl (rc_rc rfl hox11) (Nat.le_of_ble_eq_true rfl) hdx11.1 hdx11.2 hnx11.1 hnx11.2 dL_law_244 (fun o M12 hpx11 => ?_)
  obtain ⟨x11, eo, KKx11⟩ := Kx11 o M12 hpx11
  subst eo
  show rb_Bd κ mL_law (n.1 + n3.1 + n9.1, n.2 + n3.2 + n9.2) M12 247 [some (.ref κ.1.2.2.1), some (.ref q1), some (.ref q7), some (.int a3)] [.int x11, .int x5]
  refine rb_iceq 1186 (by decide) dL_law_247 (fun c13 => ?_) (fun c13 => ?_)
  · skip
    exact ((KKx11).1 c13)
  · skip
    refine rb_iconst (v := (0 : Int32)) (by decide) dL_law_250 ?_
    exact rb_iret rfl (by decide) (((KKx11).2 c13)).1.1 (((KKx11).2 c13)).1.2 dL_law_251 (((KKx11).2 c13)).2
theorem sgL_law_252 {κ : rb_K} {n : Nat × Nat} {M : rb_H} {L : Nat} {xs : Nat → Int32} {a1 a2 : Value} {a3 : Int32} (ha1 : rb_isR a1) (ha2 : rb_isR a2) (hX : rb_sc κ.1 L xs) (K : (vp_in (a3 + (1 : Int32)) L ∧ (vp_in (a3 + (2 : Int32)) L ∧ (∃ q1, a1 = .ref q1 ∧ (∃ (d2 : Nat) (n3 : Nat × Nat) (Q4 : Outcome → rb_H → Prop), rb_Ct κ.1 yX0_want wX0_want d2 n3 [.ref q1, .int (xs ((a3 + (1 : Int32))).toNatClampNeg), .int (xs ((a3 + (2 : Int32))).toNatClampNeg)] M Q4 ∧ rb_dp κ d2 ∧ rb_rom κ (n.1 + n3.1, n.2 + n3.2) ∧ rb_ob M q1 0 ∧ ∀ (o : Outcome) (M6 : rb_H), Q4 o M6 → (∃ (x5 : Int32), o = .returned (some (.int x5)) ∧ (vp_in (a3 + (1 : Int32)) L ∧ (vp_in (a3 + (2 : Int32)) L ∧ (∃ q7, a2 = .ref q7 ∧ (∃ (d8 : Nat) (n9 : Nat × Nat) (Q10 : Outcome → rb_H → Prop), rb_Ct κ.1 yX4_want wX4_want d8 n9 [.ref q7, .int (xs ((a3 + (1 : Int32))).toNatClampNeg), .int (xs ((a3 + (2 : Int32))).toNatClampNeg)] M6 Q10 ∧ rb_dp κ d8 ∧ rb_rom κ (n.1 + n3.1 + n9.1, n.2 + n3.2 + n9.2) ∧ rb_ob M6 q7 4 ∧ ∀ (o : Outcome) (M12 : rb_H), Q10 o M12 → (∃ (x11 : Int32), o = .returned (some (.int x11)) ∧ ((x5 = x11 → rb_Bd κ mL_law (n.1 + n3.1 + n9.1, n.2 + n3.2 + n9.2) M12 1186 [some (.ref κ.1.2.2.1), some (.ref q1), some (.ref q7), some (.int a3)] []) ∧ (¬ x5 = x11 → (rb_fin κ (n.1 + n3.1 + n9.1, n.2 + n3.2 + n9.2) ∧ κ.2.2.1 (.returned (some (.int (0 : Int32)))) M12)))))))))))))) : rb_Bd κ mL_law n M 252 [some (.ref κ.1.2.2.1), some a1, some a2, some (.int a3)] [] := by
  refine rb_aload_n 1 rfl rfl ha1 dL_law_252 ?_
  refine rb_aload_n 0 rfl rfl (rb_isR_ref _) dL_law_253 ?_
  refine rb_iload_n 3 rfl rfl dL_law_254 ?_
  refine rb_iconst (v := (1 : Int32)) (by decide) dL_law_255 ?_
  refine rb_iadd (z := (a3 + (1 : Int32))) rfl dL_law_256 ?_
  refine rb_sld hX (K).1 dL_law_257 ?_
  refine rb_aload_n 0 rfl rfl (rb_isR_ref _) dL_law_258 ?_
  refine rb_iload_n 3 rfl rfl dL_law_259 ?_
  refine rb_iconst (v := (2 : Int32)) (by decide) dL_law_260 ?_
  refine rb_iadd (z := (a3 + (2 : Int32))) rfl dL_law_261 ?_
  refine rb_sld hX ((K).2).1 dL_law_262 ?_
  obtain ⟨q1, eq1, Kq1⟩ := ((K).2).2
  subst eq1
  obtain ⟨d2, n3, Q4, h1x5, hdx5, hnx5, hox5, Kx5⟩ := Kq1
  refine rb_call st_L_23_0 (rest := []) h1x5 rfl rfl (rc_rc rfl hox5) (Nat.le_of_ble_eq_true rfl) hdx5.1 hdx5.2 hnx5.1 hnx5.2 dL_law_263 (fun o M6 hpx5 => ?_)
  obtain ⟨x5, eo, KKx5⟩ := Kx5 o M6 hpx5
  subst eo
  show rb_Bd κ mL_law (n.1 + n3.1, n.2 + n3.2) M6 266 [some (.ref κ.1.2.2.1), some (.ref q1), some a2, some (.int a3)] [.int x5]
  refine rb_aload_n 2 rfl rfl ha2 dL_law_266 ?_
  refine rb_aload_n 0 rfl rfl (rb_isR_ref _) dL_law_267 ?_
  refine rb_iload_n 3 rfl rfl dL_law_268 ?_
  refine rb_iconst (v := (1 : Int32)) (by decide) dL_law_269 ?_
  refine rb_iadd (z := (a3 + (1 : Int32))) rfl dL_law_270 ?_
  refine rb_sld hX (KKx5).1 dL_law_271 ?_
  refine rb_aload_n 0 rfl rfl (rb_isR_ref _) dL_law_272 ?_
  refine rb_iload_n 3 rfl rfl dL_law_273 ?_
  refine rb_iconst (v := (2 : Int32)) (by decide) dL_law_274 ?_
  refine rb_iadd (z := (a3 + (2 : Int32))) rfl dL_law_275 ?_
  refine rb_sld hX ((KKx5).2).1 dL_law_276 ?_
  obtain ⟨q7, eq7, Kq7⟩ := ((KKx5).2).2
  subst eq7
  obtain ⟨d8, n9, Q10, h1x11, hdx11, hnx11, hox11, Kx11⟩ := Kq7
  refine rb_call st_L_26_4 (rest := [.int x5]) h1x11 rfl rfl (rc_rc rfl hox11) (Nat.le_of_ble_eq_true rfl) hdx11.1 hdx11.2 hnx11.1 hnx11.2 dL_law_277 (fun o M12 hpx11 => ?_)
  obtain ⟨x11, eo, KKx11⟩ := Kx11 o M12 hpx11
  subst eo
  show rb_Bd κ mL_law (n.1 + n3.1 + n9.1, n.2 + n3.2 + n9.2) M12 280 [some (.ref κ.1.2.2.1), some (.ref q1), some (.ref q7), some (.int a3)] [.int x11, .int x5]
  refine rb_iceq 1186 (by decide) dL_law_280 (fun c13 => ?_) (fun c13 => ?_)
  · skip
    exact ((KKx11).1 c13)
  · skip
    refine rb_iconst (v := (0 : Int32)) (by decide) dL_law_283 ?_
    exact rb_iret rfl (by decide) (((KKx11).2 c13)).1.1 (((KKx11).2 c13)).1.2 dL_law_284 (((KKx11).2 c13)).2
theorem sgL_law_285 {κ : rb_K} {n : Nat × Nat} {M : rb_H} {L : Nat} {xs : Nat → Int32} {a1 a2 : Value} {a3 : Int32} (ha1 : rb_isR a1) (ha2 : rb_isR a2) (hX : rb_sc κ.1 L xs) (K : (vp_in (a3 + (1 : Int32)) L ∧ (vp_in (a3 + (2 : Int32)) L ∧ (vp_in (a3 + (3 : Int32)) L ∧ (vp_in (a3 + (4 : Int32)) L ∧ (∃ q1, a1 = .ref q1 ∧ (∃ (d2 : Nat) (n3 : Nat × Nat) (Q4 : Outcome → rb_H → Prop), rb_Ct κ.1 yX0_body wX0_body d2 n3 [.ref q1, .int (xs ((a3 + (1 : Int32))).toNatClampNeg), .int (xs ((a3 + (2 : Int32))).toNatClampNeg), .int (xs ((a3 + (3 : Int32))).toNatClampNeg), .int (xs ((a3 + (4 : Int32))).toNatClampNeg)] M Q4 ∧ rb_dp κ d2 ∧ rb_rom κ (n.1 + n3.1, n.2 + n3.2) ∧ rb_ob M q1 0 ∧ ∀ (o : Outcome) (M6 : rb_H), Q4 o M6 → (∃ (x5 : Int32), o = .returned (some (.int x5)) ∧ (vp_in (a3 + (1 : Int32)) L ∧ (vp_in (a3 + (2 : Int32)) L ∧ (vp_in (a3 + (3 : Int32)) L ∧ (vp_in (a3 + (4 : Int32)) L ∧ (∃ q7, a2 = .ref q7 ∧ (∃ (d8 : Nat) (n9 : Nat × Nat) (Q10 : Outcome → rb_H → Prop), rb_Ct κ.1 yX4_body wX4_body d8 n9 [.ref q7, .int (xs ((a3 + (1 : Int32))).toNatClampNeg), .int (xs ((a3 + (2 : Int32))).toNatClampNeg), .int (xs ((a3 + (3 : Int32))).toNatClampNeg), .int (xs ((a3 + (4 : Int32))).toNatClampNeg)] M6 Q10 ∧ rb_dp κ d8 ∧ rb_rom κ (n.1 + n3.1 + n9.1, n.2 + n3.2 + n9.2) ∧ rb_ob M6 q7 4 ∧ ∀ (o : Outcome) (M12 : rb_H), Q10 o M12 → (∃ (x11 : Int32), o = .returned (some (.int x11)) ∧ ((x5 = x11 → rb_Bd κ mL_law (n.1 + n3.1 + n9.1, n.2 + n3.2 + n9.2) M12 1186 [some (.ref κ.1.2.2.1), some (.ref q1), some (.ref q7), some (.int a3)] []) ∧ (¬ x5 = x11 → (rb_fin κ (n.1 + n3.1 + n9.1, n.2 + n3.2 + n9.2) ∧ κ.2.2.1 (.returned (some (.int (0 : Int32)))) M12)))))))))))))))))) : rb_Bd κ mL_law n M 285 [some (.ref κ.1.2.2.1), some a1, some a2, some (.int a3)] [] := by
  refine rb_aload_n 1 rfl rfl ha1 dL_law_285 ?_
  refine rb_aload_n 0 rfl rfl (rb_isR_ref _) dL_law_286 ?_
  refine rb_iload_n 3 rfl rfl dL_law_287 ?_
  refine rb_iconst (v := (1 : Int32)) (by decide) dL_law_288 ?_
  refine rb_iadd (z := (a3 + (1 : Int32))) rfl dL_law_289 ?_
  refine rb_sld hX (K).1 dL_law_290 ?_
  refine rb_aload_n 0 rfl rfl (rb_isR_ref _) dL_law_291 ?_
  refine rb_iload_n 3 rfl rfl dL_law_292 ?_
  refine rb_iconst (v := (2 : Int32)) (by decide) dL_law_293 ?_
  refine rb_iadd (z := (a3 + (2 : Int32))) rfl dL_law_294 ?_
  refine rb_sld hX ((K).2).1 dL_law_295 ?_
  refine rb_aload_n 0 rfl rfl (rb_isR_ref _) dL_law_296 ?_
  refine rb_iload_n 3 rfl rfl dL_law_297 ?_
  refine rb_iconst (v := (3 : Int32)) (by decide) dL_law_298 ?_
  refine rb_iadd (z := (a3 + (3 : Int32))) rfl dL_law_299 ?_
  refine rb_sld hX (((K).2).2).1 dL_law_300 ?_
  refine rb_aload_n 0 rfl rfl (rb_isR_ref _) dL_law_301 ?_
  refine rb_iload_n 3 rfl rfl dL_law_302 ?_
  refine rb_iconst (v := (4 : Int32)) (by decide) dL_law_303 ?_
  refine rb_iadd (z := (a3 + (4 : Int32))) rfl dL_law_304 ?_
  refine rb_sld hX ((((K).2).2).2).1 dL_law_305 ?_
  obtain ⟨q1, eq1, Kq1⟩ := ((((K).2).2).2).2
  subst eq1
  obtain ⟨d2, n3, Q4, h1x5, hdx5, hnx5, hox5, Kx5⟩ := Kq1
  refine rb_call st_L_27_0 (rest := []) h1x5 rfl rfl (rc_rc rfl hox5) (Nat.le_of_ble_eq_true rfl) hdx5.1 hdx5.2 hnx5.1 hnx5.2 dL_law_306 (fun o M6 hpx5 => ?_)
  obtain ⟨x5, eo, KKx5⟩ := Kx5 o M6 hpx5
  subst eo
  show rb_Bd κ mL_law (n.1 + n3.1, n.2 + n3.2) M6 309 [some (.ref κ.1.2.2.1), some (.ref q1), some a2, some (.int a3)] [.int x5]
  refine rb_aload_n 2 rfl rfl ha2 dL_law_309 ?_
  refine rb_aload_n 0 rfl rfl (rb_isR_ref _) dL_law_310 ?_
  refine rb_iload_n 3 rfl rfl dL_law_311 ?_
  refine rb_iconst (v := (1 : Int32)) (by decide) dL_law_312 ?_
  refine rb_iadd (z := (a3 + (1 : Int32))) rfl dL_law_313 ?_
  refine rb_sld hX (KKx5).1 dL_law_314 ?_
  refine rb_aload_n 0 rfl rfl (rb_isR_ref _) dL_law_315 ?_
  refine rb_iload_n 3 rfl rfl dL_law_316 ?_
  refine rb_iconst (v := (2 : Int32)) (by decide) dL_law_317 ?_
  refine rb_iadd (z := (a3 + (2 : Int32))) rfl dL_law_318 ?_
  refine rb_sld hX ((KKx5).2).1 dL_law_319 ?_
  refine rb_aload_n 0 rfl rfl (rb_isR_ref _) dL_law_320 ?_
  refine rb_iload_n 3 rfl rfl dL_law_321 ?_
  refine rb_iconst (v := (3 : Int32)) (by decide) dL_law_322 ?_
  refine rb_iadd (z := (a3 + (3 : Int32))) rfl dL_law_323 ?_
  refine rb_sld hX (((KKx5).2).2).1 dL_law_324 ?_
  refine rb_aload_n 0 rfl rfl (rb_isR_ref _) dL_law_325 ?_
  refine rb_iload_n 3 rfl rfl dL_law_326 ?_
  refine rb_iconst (v := (4 : Int32)) (by decide) dL_law_327 ?_
  refine rb_iadd (z := (a3 + (4 : Int32))) rfl dL_law_328 ?_
  refine rb_sld hX ((((KKx5).2).2).2).1 dL_law_329 ?_
  obtain ⟨q7, eq7, Kq7⟩ := ((((KKx5).2).2).2).2
  subst eq7
  obtain ⟨d8, n9, Q10, h1x11, hdx11, hnx11, hox11, Kx11⟩ := Kq7
  refine rb_call st_L_31_4 (rest := [.int x5]) h1x11 rfl rfl (rc_rc rfl hox11) (Nat.le_of_ble_eq_true rfl) hdx11.1 hdx11.2 hnx11.1 hnx11.2 dL_law_330 (fun o M12 hpx11 => ?_)
  obtain ⟨x11, eo, KKx11⟩ := Kx11 o M12 hpx11
  subst eo
  show rb_Bd κ mL_law (n.1 + n3.1 + n9.1, n.2 + n3.2 + n9.2) M12 333 [some (.ref κ.1.2.2.1), some (.ref q1), some (.ref q7), some (.int a3)] [.int x11, .int x5]
  refine rb_iceq 1186 (by decide) dL_law_333 (fun c13 => ?_) (fun c13 => ?_)
  · skip
    exact ((KKx11).1 c13)
  · skip
    refine rb_iconst (v := (0 : Int32)) (by decide) dL_law_336 ?_
    exact rb_iret rfl (by decide) (((KKx11).2 c13)).1.1 (((KKx11).2 c13)).1.2 dL_law_337 (((KKx11).2 c13)).2
theorem sgL_law_338 {κ : rb_K} {n : Nat × Nat} {M : rb_H} {L : Nat} {xs : Nat → Int32} {a1 a2 : Value} {a3 : Int32} (ha1 : rb_isR a1) (ha2 : rb_isR a2) (hX : rb_sc κ.1 L xs) (K : (vp_in (a3 + (1 : Int32)) L ∧ (vp_in (a3 + (2 : Int32)) L ∧ (vp_in (a3 + (3 : Int32)) L ∧ (∃ q1, a1 = .ref q1 ∧ (∃ (d2 : Nat) (n3 : Nat × Nat) (Q4 : Outcome → rb_H → Prop), rb_Ct κ.1 yX0_act wX0_act d2 n3 [.ref q1, .int (xs ((a3 + (1 : Int32))).toNatClampNeg), .int (xs ((a3 + (2 : Int32))).toNatClampNeg), .int (xs ((a3 + (3 : Int32))).toNatClampNeg)] M Q4 ∧ rb_dp κ d2 ∧ rb_rom κ (n.1 + n3.1, n.2 + n3.2) ∧ rb_ob M q1 0 ∧ ∀ (o : Outcome) (M6 : rb_H), Q4 o M6 → (∃ (x5 : Int32), o = .returned (some (.int x5)) ∧ (vp_in (a3 + (1 : Int32)) L ∧ (vp_in (a3 + (2 : Int32)) L ∧ (vp_in (a3 + (3 : Int32)) L ∧ (∃ q7, a2 = .ref q7 ∧ (∃ (d8 : Nat) (n9 : Nat × Nat) (Q10 : Outcome → rb_H → Prop), rb_Ct κ.1 yX4_act wX4_act d8 n9 [.ref q7, .int (xs ((a3 + (1 : Int32))).toNatClampNeg), .int (xs ((a3 + (2 : Int32))).toNatClampNeg), .int (xs ((a3 + (3 : Int32))).toNatClampNeg)] M6 Q10 ∧ rb_dp κ d8 ∧ rb_rom κ (n.1 + n3.1 + n9.1, n.2 + n3.2 + n9.2) ∧ rb_ob M6 q7 4 ∧ ∀ (o : Outcome) (M12 : rb_H), Q10 o M12 → (∃ (x11 : Int32), o = .returned (some (.int x11)) ∧ ((x5 = x11 → rb_Bd κ mL_law (n.1 + n3.1 + n9.1, n.2 + n3.2 + n9.2) M12 1186 [some (.ref κ.1.2.2.1), some (.ref q1), some (.ref q7), some (.int a3)] []) ∧ (¬ x5 = x11 → (rb_fin κ (n.1 + n3.1 + n9.1, n.2 + n3.2 + n9.2) ∧ κ.2.2.1 (.returned (some (.int (0 : Int32)))) M12)))))))))))))))) : rb_Bd κ mL_law n M 338 [some (.ref κ.1.2.2.1), some a1, some a2, some (.int a3)] [] := by
  refine rb_aload_n 1 rfl rfl ha1 dL_law_338 ?_
  refine rb_aload_n 0 rfl rfl (rb_isR_ref _) dL_law_339 ?_
  refine rb_iload_n 3 rfl rfl dL_law_340 ?_
  refine rb_iconst (v := (1 : Int32)) (by decide) dL_law_341 ?_
  refine rb_iadd (z := (a3 + (1 : Int32))) rfl dL_law_342 ?_
  refine rb_sld hX (K).1 dL_law_343 ?_
  refine rb_aload_n 0 rfl rfl (rb_isR_ref _) dL_law_344 ?_
  refine rb_iload_n 3 rfl rfl dL_law_345 ?_
  refine rb_iconst (v := (2 : Int32)) (by decide) dL_law_346 ?_
  refine rb_iadd (z := (a3 + (2 : Int32))) rfl dL_law_347 ?_
  refine rb_sld hX ((K).2).1 dL_law_348 ?_
  refine rb_aload_n 0 rfl rfl (rb_isR_ref _) dL_law_349 ?_
  refine rb_iload_n 3 rfl rfl dL_law_350 ?_
  refine rb_iconst (v := (3 : Int32)) (by decide) dL_law_351 ?_
  refine rb_iadd (z := (a3 + (3 : Int32))) rfl dL_law_352 ?_
  refine rb_sld hX (((K).2).2).1 dL_law_353 ?_
  obtain ⟨q1, eq1, Kq1⟩ := (((K).2).2).2
  subst eq1
  obtain ⟨d2, n3, Q4, h1x5, hdx5, hnx5, hox5, Kx5⟩ := Kq1
  refine rb_call st_L_32_0 (rest := []) h1x5 rfl rfl (rc_rc rfl hox5) (Nat.le_of_ble_eq_true rfl) hdx5.1 hdx5.2 hnx5.1 hnx5.2 dL_law_354 (fun o M6 hpx5 => ?_)
  obtain ⟨x5, eo, KKx5⟩ := Kx5 o M6 hpx5
  subst eo
  show rb_Bd κ mL_law (n.1 + n3.1, n.2 + n3.2) M6 357 [some (.ref κ.1.2.2.1), some (.ref q1), some a2, some (.int a3)] [.int x5]
  refine rb_aload_n 2 rfl rfl ha2 dL_law_357 ?_
  refine rb_aload_n 0 rfl rfl (rb_isR_ref _) dL_law_358 ?_
  refine rb_iload_n 3 rfl rfl dL_law_359 ?_
  refine rb_iconst (v := (1 : Int32)) (by decide) dL_law_360 ?_
  refine rb_iadd (z := (a3 + (1 : Int32))) rfl dL_law_361 ?_
  refine rb_sld hX (KKx5).1 dL_law_362 ?_
  refine rb_aload_n 0 rfl rfl (rb_isR_ref _) dL_law_363 ?_
  refine rb_iload_n 3 rfl rfl dL_law_364 ?_
  refine rb_iconst (v := (2 : Int32)) (by decide) dL_law_365 ?_
  refine rb_iadd (z := (a3 + (2 : Int32))) rfl dL_law_366 ?_
  refine rb_sld hX ((KKx5).2).1 dL_law_367 ?_
  refine rb_aload_n 0 rfl rfl (rb_isR_ref _) dL_law_368 ?_
  refine rb_iload_n 3 rfl rfl dL_law_369 ?_
  refine rb_iconst (v := (3 : Int32)) (by decide) dL_law_370 ?_
  refine rb_iadd (z := (a3 + (3 : Int32))) rfl dL_law_371 ?_
  refine rb_sld hX (((KKx5).2).2).1 dL_law_372 ?_
  obtain ⟨q7, eq7, Kq7⟩ := (((KKx5).2).2).2
  subst eq7
  obtain ⟨d8, n9, Q10, h1x11, hdx11, hnx11, hox11, Kx11⟩ := Kq7
  refine rb_call st_L_35_4 (rest := [.int x5]) h1x11 rfl rfl (rc_rc rfl hox11) (Nat.le_of_ble_eq_true rfl) hdx11.1 hdx11.2 hnx11.1 hnx11.2 dL_law_373 (fun o M12 hpx11 => ?_)
  obtain ⟨x11, eo, KKx11⟩ := Kx11 o M12 hpx11
  subst eo
  show rb_Bd κ mL_law (n.1 + n3.1 + n9.1, n.2 + n3.2 + n9.2) M12 376 [some (.ref κ.1.2.2.1), some (.ref q1), some (.ref q7), some (.int a3)] [.int x11, .int x5]
  refine rb_iceq 1186 (by decide) dL_law_376 (fun c13 => ?_) (fun c13 => ?_)
  · skip
    exact ((KKx11).1 c13)
  · skip
    refine rb_iconst (v := (0 : Int32)) (by decide) dL_law_379 ?_
    exact rb_iret rfl (by decide) (((KKx11).2 c13)).1.1 (((KKx11).2 c13)).1.2 dL_law_380 (((KKx11).2 c13)).2
theorem sgL_law_381 {κ : rb_K} {n : Nat × Nat} {M : rb_H} {L : Nat} {xs : Nat → Int32} {a1 a2 : Value} {a3 : Int32} (ha1 : rb_isR a1) (ha2 : rb_isR a2) (hX : rb_sc κ.1 L xs) (K : (vp_in (a3 + (1 : Int32)) L ∧ (vp_in (a3 + (2 : Int32)) L ∧ (∃ q1, a1 = .ref q1 ∧ (∃ (d2 : Nat) (n3 : Nat × Nat) (Q4 : Outcome → rb_H → Prop), rb_Ct κ.1 yX0_wish wX0_wish d2 n3 [.ref q1, .int (xs ((a3 + (1 : Int32))).toNatClampNeg), .int (xs ((a3 + (2 : Int32))).toNatClampNeg)] M Q4 ∧ rb_dp κ d2 ∧ rb_rom κ (n.1 + n3.1, n.2 + n3.2) ∧ rb_ob M q1 0 ∧ ∀ (o : Outcome) (M6 : rb_H), Q4 o M6 → (∃ (x5 : Int32), o = .returned (some (.int x5)) ∧ (vp_in (a3 + (1 : Int32)) L ∧ (vp_in (a3 + (2 : Int32)) L ∧ (∃ q7, a2 = .ref q7 ∧ (∃ (d8 : Nat) (n9 : Nat × Nat) (Q10 : Outcome → rb_H → Prop), rb_Ct κ.1 yX4_wish wX4_wish d8 n9 [.ref q7, .int (xs ((a3 + (1 : Int32))).toNatClampNeg), .int (xs ((a3 + (2 : Int32))).toNatClampNeg)] M6 Q10 ∧ rb_dp κ d8 ∧ rb_rom κ (n.1 + n3.1 + n9.1, n.2 + n3.2 + n9.2) ∧ rb_ob M6 q7 4 ∧ ∀ (o : Outcome) (M12 : rb_H), Q10 o M12 → (∃ (x11 : Int32), o = .returned (some (.int x11)) ∧ ((x5 = x11 → rb_Bd κ mL_law (n.1 + n3.1 + n9.1, n.2 + n3.2 + n9.2) M12 1186 [some (.ref κ.1.2.2.1), some (.ref q1), some (.ref q7), some (.int a3)] []) ∧ (¬ x5 = x11 → (rb_fin κ (n.1 + n3.1 + n9.1, n.2 + n3.2 + n9.2) ∧ κ.2.2.1 (.returned (some (.int (0 : Int32)))) M12)))))))))))))) : rb_Bd κ mL_law n M 381 [some (.ref κ.1.2.2.1), some a1, some a2, some (.int a3)] [] := by
  refine rb_aload_n 1 rfl rfl ha1 dL_law_381 ?_
  refine rb_aload_n 0 rfl rfl (rb_isR_ref _) dL_law_382 ?_
  refine rb_iload_n 3 rfl rfl dL_law_383 ?_
  refine rb_iconst (v := (1 : Int32)) (by decide) dL_law_384 ?_
  refine rb_iadd (z := (a3 + (1 : Int32))) rfl dL_law_385 ?_
  refine rb_sld hX (K).1 dL_law_386 ?_
  refine rb_aload_n 0 rfl rfl (rb_isR_ref _) dL_law_387 ?_
  refine rb_iload_n 3 rfl rfl dL_law_388 ?_
  refine rb_iconst (v := (2 : Int32)) (by decide) dL_law_389 ?_
  refine rb_iadd (z := (a3 + (2 : Int32))) rfl dL_law_390 ?_
  refine rb_sld hX ((K).2).1 dL_law_391 ?_
  obtain ⟨q1, eq1, Kq1⟩ := ((K).2).2
  subst eq1
  obtain ⟨d2, n3, Q4, h1x5, hdx5, hnx5, hox5, Kx5⟩ := Kq1
  refine rb_call st_L_36_0 (rest := []) h1x5 rfl rfl (rc_rc rfl hox5) (Nat.le_of_ble_eq_true rfl) hdx5.1 hdx5.2 hnx5.1 hnx5.2 dL_law_392 (fun o M6 hpx5 => ?_)
  obtain ⟨x5, eo, KKx5⟩ := Kx5 o M6 hpx5
  subst eo
  show rb_Bd κ mL_law (n.1 + n3.1, n.2 + n3.2) M6 395 [some (.ref κ.1.2.2.1), some (.ref q1), some a2, some (.int a3)] [.int x5]
  refine rb_aload_n 2 rfl rfl ha2 dL_law_395 ?_
  refine rb_aload_n 0 rfl rfl (rb_isR_ref _) dL_law_396 ?_
  refine rb_iload_n 3 rfl rfl dL_law_397 ?_
  refine rb_iconst (v := (1 : Int32)) (by decide) dL_law_398 ?_
  refine rb_iadd (z := (a3 + (1 : Int32))) rfl dL_law_399 ?_
  refine rb_sld hX (KKx5).1 dL_law_400 ?_
  refine rb_aload_n 0 rfl rfl (rb_isR_ref _) dL_law_401 ?_
  refine rb_iload_n 3 rfl rfl dL_law_402 ?_
  refine rb_iconst (v := (2 : Int32)) (by decide) dL_law_403 ?_
  refine rb_iadd (z := (a3 + (2 : Int32))) rfl dL_law_404 ?_
  refine rb_sld hX ((KKx5).2).1 dL_law_405 ?_
  obtain ⟨q7, eq7, Kq7⟩ := ((KKx5).2).2
  subst eq7
  obtain ⟨d8, n9, Q10, h1x11, hdx11, hnx11, hox11, Kx11⟩ := Kq7
  refine rb_call st_L_39_4 (rest := [.int x5]) h1x11 rfl rfl (rc_rc rfl hox11) (Nat.le_of_ble_eq_true rfl) hdx11.1 hdx11.2 hnx11.1 hnx11.2 dL_law_406 (fun o M12 hpx11 => ?_)
  obtain ⟨x11, eo, KKx11⟩ := Kx11 o M12 hpx11
  subst eo
  show rb_Bd κ mL_law (n.1 + n3.1 + n9.1, n.2 + n3.2 + n9.2) M12 409 [some (.ref κ.1.2.2.1), some (.ref q1), some (.ref q7), some (.int a3)] [.int x11, .int x5]
  refine rb_iceq 1186 (by decide) dL_law_409 (fun c13 => ?_) (fun c13 => ?_)
  · skip
    exact ((KKx11).1 c13)
  · skip
    refine rb_iconst (v := (0 : Int32)) (by decide) dL_law_412 ?_
    exact rb_iret rfl (by decide) (((KKx11).2 c13)).1.1 (((KKx11).2 c13)).1.2 dL_law_413 (((KKx11).2 c13)).2
theorem sgL_law_414 {κ : rb_K} {n : Nat × Nat} {M : rb_H} {L : Nat} {xs : Nat → Int32} {a1 a2 : Value} {a3 : Int32} (ha1 : rb_isR a1) (ha2 : rb_isR a2) (hX : rb_sc κ.1 L xs) (K : (vp_in (a3 + (1 : Int32)) L ∧ (∃ q1, a1 = .ref q1 ∧ (∃ (d2 : Nat) (n3 : Nat × Nat) (Q4 : Outcome → rb_H → Prop), rb_Ct κ.1 yX0_name wX0_name d2 n3 [.ref q1, .int (xs ((a3 + (1 : Int32))).toNatClampNeg)] M Q4 ∧ rb_dp κ d2 ∧ rb_rom κ (n.1 + n3.1, n.2 + n3.2) ∧ rb_ob M q1 0 ∧ ∀ (o : Outcome) (M6 : rb_H), Q4 o M6 → (∃ (x5 : Int32), o = .returned (some (.int x5)) ∧ (vp_in (a3 + (1 : Int32)) L ∧ (∃ q7, a2 = .ref q7 ∧ (∃ (d8 : Nat) (n9 : Nat × Nat) (Q10 : Outcome → rb_H → Prop), rb_Ct κ.1 yX4_name wX4_name d8 n9 [.ref q7, .int (xs ((a3 + (1 : Int32))).toNatClampNeg)] M6 Q10 ∧ rb_dp κ d8 ∧ rb_rom κ (n.1 + n3.1 + n9.1, n.2 + n3.2 + n9.2) ∧ rb_ob M6 q7 4 ∧ ∀ (o : Outcome) (M12 : rb_H), Q10 o M12 → (∃ (x11 : Int32), o = .returned (some (.int x11)) ∧ ((x5 = x11 → rb_Bd κ mL_law (n.1 + n3.1 + n9.1, n.2 + n3.2 + n9.2) M12 1186 [some (.ref κ.1.2.2.1), some (.ref q1), some (.ref q7), some (.int a3)] []) ∧ (¬ x5 = x11 → (rb_fin κ (n.1 + n3.1 + n9.1, n.2 + n3.2 + n9.2) ∧ κ.2.2.1 (.returned (some (.int (0 : Int32)))) M12)))))))))))) : rb_Bd κ mL_law n M 414 [some (.ref κ.1.2.2.1), some a1, some a2, some (.int a3)] [] := by
  refine rb_aload_n 1 rfl rfl ha1 dL_law_414 ?_
  refine rb_aload_n 0 rfl rfl (rb_isR_ref _) dL_law_415 ?_
  refine rb_iload_n 3 rfl rfl dL_law_416 ?_
  refine rb_iconst (v := (1 : Int32)) (by decide) dL_law_417 ?_
  refine rb_iadd (z := (a3 + (1 : Int32))) rfl dL_law_418 ?_
  refine rb_sld hX (K).1 dL_law_419 ?_
  obtain ⟨q1, eq1, Kq1⟩ := (K).2
  subst eq1
  obtain ⟨d2, n3, Q4, h1x5, hdx5, hnx5, hox5, Kx5⟩ := Kq1
  refine rb_call st_L_40_0 (rest := []) h1x5 rfl rfl (rc_rc rfl hox5) (Nat.le_of_ble_eq_true rfl) hdx5.1 hdx5.2 hnx5.1 hnx5.2 dL_law_420 (fun o M6 hpx5 => ?_)
  obtain ⟨x5, eo, KKx5⟩ := Kx5 o M6 hpx5
  subst eo
  show rb_Bd κ mL_law (n.1 + n3.1, n.2 + n3.2) M6 423 [some (.ref κ.1.2.2.1), some (.ref q1), some a2, some (.int a3)] [.int x5]
  refine rb_aload_n 2 rfl rfl ha2 dL_law_423 ?_
  refine rb_aload_n 0 rfl rfl (rb_isR_ref _) dL_law_424 ?_
  refine rb_iload_n 3 rfl rfl dL_law_425 ?_
  refine rb_iconst (v := (1 : Int32)) (by decide) dL_law_426 ?_
  refine rb_iadd (z := (a3 + (1 : Int32))) rfl dL_law_427 ?_
  refine rb_sld hX (KKx5).1 dL_law_428 ?_
  obtain ⟨q7, eq7, Kq7⟩ := (KKx5).2
  subst eq7
  obtain ⟨d8, n9, Q10, h1x11, hdx11, hnx11, hox11, Kx11⟩ := Kq7
  refine rb_call st_L_44_4 (rest := [.int x5]) h1x11 rfl rfl (rc_rc rfl hox11) (Nat.le_of_ble_eq_true rfl) hdx11.1 hdx11.2 hnx11.1 hnx11.2 dL_law_429 (fun o M12 hpx11 => ?_)
  obtain ⟨x11, eo, KKx11⟩ := Kx11 o M12 hpx11
  subst eo
  show rb_Bd κ mL_law (n.1 + n3.1 + n9.1, n.2 + n3.2 + n9.2) M12 432 [some (.ref κ.1.2.2.1), some (.ref q1), some (.ref q7), some (.int a3)] [.int x11, .int x5]
  refine rb_iceq 1186 (by decide) dL_law_432 (fun c13 => ?_) (fun c13 => ?_)
  · skip
    exact ((KKx11).1 c13)
  · skip
    refine rb_iconst (v := (0 : Int32)) (by decide) dL_law_435 ?_
    exact rb_iret rfl (by decide) (((KKx11).2 c13)).1.1 (((KKx11).2 c13)).1.2 dL_law_436 (((KKx11).2 c13)).2
theorem sgL_law_437 {κ : rb_K} {n : Nat × Nat} {M : rb_H} {L : Nat} {xs : Nat → Int32} {a1 a2 : Value} {a3 : Int32} (ha1 : rb_isR a1) (ha2 : rb_isR a2) (hX : rb_sc κ.1 L xs) (K : (vp_in (a3 + (1 : Int32)) L ∧ (vp_in (a3 + (2 : Int32)) L ∧ (∃ q1, a1 = .ref q1 ∧ (∃ (d2 : Nat) (n3 : Nat × Nat) (Q4 : Outcome → rb_H → Prop), rb_Ct κ.1 yX0_exclude wX0_exclude d2 n3 [.ref q1, .int (xs ((a3 + (1 : Int32))).toNatClampNeg), .int (xs ((a3 + (2 : Int32))).toNatClampNeg)] M Q4 ∧ rb_dp κ d2 ∧ rb_rom κ (n.1 + n3.1, n.2 + n3.2) ∧ rb_ob M q1 0 ∧ ∀ (o : Outcome) (M6 : rb_H), Q4 o M6 → (∃ (x5 : Int32), o = .returned (some (.int x5)) ∧ (vp_in (a3 + (1 : Int32)) L ∧ (vp_in (a3 + (2 : Int32)) L ∧ (∃ q7, a2 = .ref q7 ∧ (∃ (d8 : Nat) (n9 : Nat × Nat) (Q10 : Outcome → rb_H → Prop), rb_Ct κ.1 yX4_exclude wX4_exclude d8 n9 [.ref q7, .int (xs ((a3 + (1 : Int32))).toNatClampNeg), .int (xs ((a3 + (2 : Int32))).toNatClampNeg)] M6 Q10 ∧ rb_dp κ d8 ∧ rb_rom κ (n.1 + n3.1 + n9.1, n.2 + n3.2 + n9.2) ∧ rb_ob M6 q7 4 ∧ ∀ (o : Outcome) (M12 : rb_H), Q10 o M12 → (∃ (x11 : Int32), o = .returned (some (.int x11)) ∧ ((x5 = x11 → rb_Bd κ mL_law (n.1 + n3.1 + n9.1, n.2 + n3.2 + n9.2) M12 1186 [some (.ref κ.1.2.2.1), some (.ref q1), some (.ref q7), some (.int a3)] []) ∧ (¬ x5 = x11 → (rb_fin κ (n.1 + n3.1 + n9.1, n.2 + n3.2 + n9.2) ∧ κ.2.2.1 (.returned (some (.int (0 : Int32)))) M12)))))))))))))) : rb_Bd κ mL_law n M 437 [some (.ref κ.1.2.2.1), some a1, some a2, some (.int a3)] [] := by
  refine rb_aload_n 1 rfl rfl ha1 dL_law_437 ?_
  refine rb_aload_n 0 rfl rfl (rb_isR_ref _) dL_law_438 ?_
  refine rb_iload_n 3 rfl rfl dL_law_439 ?_
  refine rb_iconst (v := (1 : Int32)) (by decide) dL_law_440 ?_
  refine rb_iadd (z := (a3 + (1 : Int32))) rfl dL_law_441 ?_
  refine rb_sld hX (K).1 dL_law_442 ?_
  refine rb_aload_n 0 rfl rfl (rb_isR_ref _) dL_law_443 ?_
  refine rb_iload_n 3 rfl rfl dL_law_444 ?_
  refine rb_iconst (v := (2 : Int32)) (by decide) dL_law_445 ?_
  refine rb_iadd (z := (a3 + (2 : Int32))) rfl dL_law_446 ?_
  refine rb_sld hX ((K).2).1 dL_law_447 ?_
  obtain ⟨q1, eq1, Kq1⟩ := ((K).2).2
  subst eq1
  obtain ⟨d2, n3, Q4, h1x5, hdx5, hnx5, hox5, Kx5⟩ := Kq1
  refine rb_call st_L_45_0 (rest := []) h1x5 rfl rfl (rc_rc rfl hox5) (Nat.le_of_ble_eq_true rfl) hdx5.1 hdx5.2 hnx5.1 hnx5.2 dL_law_448 (fun o M6 hpx5 => ?_)
  obtain ⟨x5, eo, KKx5⟩ := Kx5 o M6 hpx5
  subst eo
  show rb_Bd κ mL_law (n.1 + n3.1, n.2 + n3.2) M6 451 [some (.ref κ.1.2.2.1), some (.ref q1), some a2, some (.int a3)] [.int x5]
  refine rb_aload_n 2 rfl rfl ha2 dL_law_451 ?_
  refine rb_aload_n 0 rfl rfl (rb_isR_ref _) dL_law_452 ?_
  refine rb_iload_n 3 rfl rfl dL_law_453 ?_
  refine rb_iconst (v := (1 : Int32)) (by decide) dL_law_454 ?_
  refine rb_iadd (z := (a3 + (1 : Int32))) rfl dL_law_455 ?_
  refine rb_sld hX (KKx5).1 dL_law_456 ?_
  refine rb_aload_n 0 rfl rfl (rb_isR_ref _) dL_law_457 ?_
  refine rb_iload_n 3 rfl rfl dL_law_458 ?_
  refine rb_iconst (v := (2 : Int32)) (by decide) dL_law_459 ?_
  refine rb_iadd (z := (a3 + (2 : Int32))) rfl dL_law_460 ?_
  refine rb_sld hX ((KKx5).2).1 dL_law_461 ?_
  obtain ⟨q7, eq7, Kq7⟩ := ((KKx5).2).2
  subst eq7
  obtain ⟨d8, n9, Q10, h1x11, hdx11, hnx11, hox11, Kx11⟩ := Kq7
  refine rb_call st_L_48_4 (rest := [.int x5]) h1x11 rfl rfl (rc_rc rfl hox11) (Nat.le_of_ble_eq_true rfl) hdx11.1 hdx11.2 hnx11.1 hnx11.2 dL_law_462 (fun o M12 hpx11 => ?_)
  obtain ⟨x11, eo, KKx11⟩ := Kx11 o M12 hpx11
  subst eo
  show rb_Bd κ mL_law (n.1 + n3.1 + n9.1, n.2 + n3.2 + n9.2) M12 465 [some (.ref κ.1.2.2.1), some (.ref q1), some (.ref q7), some (.int a3)] [.int x11, .int x5]
  refine rb_iceq 1186 (by decide) dL_law_465 (fun c13 => ?_) (fun c13 => ?_)
  · skip
    exact ((KKx11).1 c13)
  · skip
    refine rb_iconst (v := (0 : Int32)) (by decide) dL_law_468 ?_
    exact rb_iret rfl (by decide) (((KKx11).2 c13)).1.1 (((KKx11).2 c13)).1.2 dL_law_469 (((KKx11).2 c13)).2
theorem sgL_law_470 {κ : rb_K} {n : Nat × Nat} {M : rb_H} {L : Nat} {xs : Nat → Int32} {a1 a2 : Value} {a3 : Int32} (ha1 : rb_isR a1) (ha2 : rb_isR a2) (hX : rb_sc κ.1 L xs) (K : (vp_in (a3 + (1 : Int32)) L ∧ (vp_in (a3 + (2 : Int32)) L ∧ (vp_in (a3 + (3 : Int32)) L ∧ (∃ q1, a1 = .ref q1 ∧ (∃ (d2 : Nat) (n3 : Nat × Nat) (Q4 : Outcome → rb_H → Prop), rb_Ct κ.1 yX0_alias wX0_alias d2 n3 [.ref q1, .int (xs ((a3 + (1 : Int32))).toNatClampNeg), .int (xs ((a3 + (2 : Int32))).toNatClampNeg), .int (xs ((a3 + (3 : Int32))).toNatClampNeg)] M Q4 ∧ rb_dp κ d2 ∧ rb_rom κ (n.1 + n3.1, n.2 + n3.2) ∧ rb_ob M q1 0 ∧ ∀ (o : Outcome) (M6 : rb_H), Q4 o M6 → (∃ (x5 : Int32), o = .returned (some (.int x5)) ∧ (vp_in (a3 + (1 : Int32)) L ∧ (vp_in (a3 + (2 : Int32)) L ∧ (vp_in (a3 + (3 : Int32)) L ∧ (∃ q7, a2 = .ref q7 ∧ (∃ (d8 : Nat) (n9 : Nat × Nat) (Q10 : Outcome → rb_H → Prop), rb_Ct κ.1 yX4_alias wX4_alias d8 n9 [.ref q7, .int (xs ((a3 + (1 : Int32))).toNatClampNeg), .int (xs ((a3 + (2 : Int32))).toNatClampNeg), .int (xs ((a3 + (3 : Int32))).toNatClampNeg)] M6 Q10 ∧ rb_dp κ d8 ∧ rb_rom κ (n.1 + n3.1 + n9.1, n.2 + n3.2 + n9.2) ∧ rb_ob M6 q7 4 ∧ ∀ (o : Outcome) (M12 : rb_H), Q10 o M12 → (∃ (x11 : Int32), o = .returned (some (.int x11)) ∧ ((x5 = x11 → rb_Bd κ mL_law (n.1 + n3.1 + n9.1, n.2 + n3.2 + n9.2) M12 1186 [some (.ref κ.1.2.2.1), some (.ref q1), some (.ref q7), some (.int a3)] []) ∧ (¬ x5 = x11 → (rb_fin κ (n.1 + n3.1 + n9.1, n.2 + n3.2 + n9.2) ∧ κ.2.2.1 (.returned (some (.int (0 : Int32)))) M12)))))))))))))))) : rb_Bd κ mL_law n M 470 [some (.ref κ.1.2.2.1), some a1, some a2, some (.int a3)] [] := by
  refine rb_aload_n 1 rfl rfl ha1 dL_law_470 ?_
  refine rb_aload_n 0 rfl rfl (rb_isR_ref _) dL_law_471 ?_
  refine rb_iload_n 3 rfl rfl dL_law_472 ?_
  refine rb_iconst (v := (1 : Int32)) (by decide) dL_law_473 ?_
  refine rb_iadd (z := (a3 + (1 : Int32))) rfl dL_law_474 ?_
  refine rb_sld hX (K).1 dL_law_475 ?_
  refine rb_aload_n 0 rfl rfl (rb_isR_ref _) dL_law_476 ?_
  refine rb_iload_n 3 rfl rfl dL_law_477 ?_
  refine rb_iconst (v := (2 : Int32)) (by decide) dL_law_478 ?_
  refine rb_iadd (z := (a3 + (2 : Int32))) rfl dL_law_479 ?_
  refine rb_sld hX ((K).2).1 dL_law_480 ?_
  refine rb_aload_n 0 rfl rfl (rb_isR_ref _) dL_law_481 ?_
  refine rb_iload_n 3 rfl rfl dL_law_482 ?_
  refine rb_iconst (v := (3 : Int32)) (by decide) dL_law_483 ?_
  refine rb_iadd (z := (a3 + (3 : Int32))) rfl dL_law_484 ?_
  refine rb_sld hX (((K).2).2).1 dL_law_485 ?_
  obtain ⟨q1, eq1, Kq1⟩ := (((K).2).2).2
  subst eq1
  obtain ⟨d2, n3, Q4, h1x5, hdx5, hnx5, hox5, Kx5⟩ := Kq1
  refine rb_call st_L_49_0 (rest := []) h1x5 rfl rfl (rc_rc rfl hox5) (Nat.le_of_ble_eq_true rfl) hdx5.1 hdx5.2 hnx5.1 hnx5.2 dL_law_486 (fun o M6 hpx5 => ?_)
  obtain ⟨x5, eo, KKx5⟩ := Kx5 o M6 hpx5
  subst eo
  show rb_Bd κ mL_law (n.1 + n3.1, n.2 + n3.2) M6 489 [some (.ref κ.1.2.2.1), some (.ref q1), some a2, some (.int a3)] [.int x5]
  refine rb_aload_n 2 rfl rfl ha2 dL_law_489 ?_
  refine rb_aload_n 0 rfl rfl (rb_isR_ref _) dL_law_490 ?_
  refine rb_iload_n 3 rfl rfl dL_law_491 ?_
  refine rb_iconst (v := (1 : Int32)) (by decide) dL_law_492 ?_
  refine rb_iadd (z := (a3 + (1 : Int32))) rfl dL_law_493 ?_
  refine rb_sld hX (KKx5).1 dL_law_494 ?_
  refine rb_aload_n 0 rfl rfl (rb_isR_ref _) dL_law_495 ?_
  refine rb_iload_n 3 rfl rfl dL_law_496 ?_
  refine rb_iconst (v := (2 : Int32)) (by decide) dL_law_497 ?_
  refine rb_iadd (z := (a3 + (2 : Int32))) rfl dL_law_498 ?_
  refine rb_sld hX ((KKx5).2).1 dL_law_499 ?_
  refine rb_aload_n 0 rfl rfl (rb_isR_ref _) dL_law_500 ?_
  refine rb_iload_n 3 rfl rfl dL_law_501 ?_
  refine rb_iconst (v := (3 : Int32)) (by decide) dL_law_502 ?_
  refine rb_iadd (z := (a3 + (3 : Int32))) rfl dL_law_503 ?_
  refine rb_sld hX (((KKx5).2).2).1 dL_law_504 ?_
  obtain ⟨q7, eq7, Kq7⟩ := (((KKx5).2).2).2
  subst eq7
  obtain ⟨d8, n9, Q10, h1x11, hdx11, hnx11, hox11, Kx11⟩ := Kq7
  refine rb_call st_L_52_4 (rest := [.int x5]) h1x11 rfl rfl (rc_rc rfl hox11) (Nat.le_of_ble_eq_true rfl) hdx11.1 hdx11.2 hnx11.1 hnx11.2 dL_law_505 (fun o M12 hpx11 => ?_)
  obtain ⟨x11, eo, KKx11⟩ := Kx11 o M12 hpx11
  subst eo
  show rb_Bd κ mL_law (n.1 + n3.1 + n9.1, n.2 + n3.2 + n9.2) M12 508 [some (.ref κ.1.2.2.1), some (.ref q1), some (.ref q7), some (.int a3)] [.int x11, .int x5]
  refine rb_iceq 1186 (by decide) dL_law_508 (fun c13 => ?_) (fun c13 => ?_)
  · skip
    exact ((KKx11).1 c13)
  · skip
    refine rb_iconst (v := (0 : Int32)) (by decide) dL_law_511 ?_
    exact rb_iret rfl (by decide) (((KKx11).2 c13)).1.1 (((KKx11).2 c13)).1.2 dL_law_512 (((KKx11).2 c13)).2
theorem sgL_law_513 {κ : rb_K} {n : Nat × Nat} {M : rb_H} {L : Nat} {xs : Nat → Int32} {a1 a2 : Value} {a3 : Int32} (ha1 : rb_isR a1) (ha2 : rb_isR a2) (hX : rb_sc κ.1 L xs) (K : (∃ q1, a1 = .ref q1 ∧ (∃ (d2 : Nat) (n3 : Nat × Nat) (Q4 : Outcome → rb_H → Prop), rb_Ct κ.1 yX0_weave wX0_weave d2 n3 [.ref q1] M Q4 ∧ rb_dp κ d2 ∧ rb_rom κ (n.1 + n3.1, n.2 + n3.2) ∧ rb_ob M q1 0 ∧ ∀ (o : Outcome) (M6 : rb_H), Q4 o M6 → (∃ (x5 : Int32), o = .returned (some (.int x5)) ∧ (∃ q7, a2 = .ref q7 ∧ (∃ (d8 : Nat) (n9 : Nat × Nat) (Q10 : Outcome → rb_H → Prop), rb_Ct κ.1 yX4_weave wX4_weave d8 n9 [.ref q7] M6 Q10 ∧ rb_dp κ d8 ∧ rb_rom κ (n.1 + n3.1 + n9.1, n.2 + n3.2 + n9.2) ∧ rb_ob M6 q7 4 ∧ ∀ (o : Outcome) (M12 : rb_H), Q10 o M12 → (∃ (x11 : Int32), o = .returned (some (.int x11)) ∧ ((x5 = x11 → rb_Bd κ mL_law (n.1 + n3.1 + n9.1, n.2 + n3.2 + n9.2) M12 1186 [some (.ref κ.1.2.2.1), some (.ref q1), some (.ref q7), some (.int a3)] []) ∧ (¬ x5 = x11 → (rb_fin κ (n.1 + n3.1 + n9.1, n.2 + n3.2 + n9.2) ∧ κ.2.2.1 (.returned (some (.int (0 : Int32)))) M12)))))))))) : rb_Bd κ mL_law n M 513 [some (.ref κ.1.2.2.1), some a1, some a2, some (.int a3)] [] := by
  refine rb_aload_n 1 rfl rfl ha1 dL_law_513 ?_
  obtain ⟨q1, eq1, Kq1⟩ := K
  subst eq1
  obtain ⟨d2, n3, Q4, h1x5, hdx5, hnx5, hox5, Kx5⟩ := Kq1
  refine rb_call st_L_53_0 (rest := []) h1x5 rfl rfl (rc_rc rfl hox5) (Nat.le_of_ble_eq_true rfl) hdx5.1 hdx5.2 hnx5.1 hnx5.2 dL_law_514 (fun o M6 hpx5 => ?_)
  obtain ⟨x5, eo, KKx5⟩ := Kx5 o M6 hpx5
  subst eo
  show rb_Bd κ mL_law (n.1 + n3.1, n.2 + n3.2) M6 517 [some (.ref κ.1.2.2.1), some (.ref q1), some a2, some (.int a3)] [.int x5]
  refine rb_aload_n 2 rfl rfl ha2 dL_law_517 ?_
  obtain ⟨q7, eq7, Kq7⟩ := KKx5
  subst eq7
  obtain ⟨d8, n9, Q10, h1x11, hdx11, hnx11, hox11, Kx11⟩ := Kq7
  refine rb_call st_L_57_4 (rest := [.int x5]) h1x11 rfl rfl (rc_rc rfl hox11) (Nat.le_of_ble_eq_true rfl) hdx11.1 hdx11.2 hnx11.1 hnx11.2 dL_law_518 (fun o M12 hpx11 => ?_)
  obtain ⟨x11, eo, KKx11⟩ := Kx11 o M12 hpx11
  subst eo
  show rb_Bd κ mL_law (n.1 + n3.1 + n9.1, n.2 + n3.2 + n9.2) M12 521 [some (.ref κ.1.2.2.1), some (.ref q1), some (.ref q7), some (.int a3)] [.int x11, .int x5]
  refine rb_iceq 1186 (by decide) dL_law_521 (fun c13 => ?_) (fun c13 => ?_)
  · skip
    exact ((KKx11).1 c13)
  · skip
    refine rb_iconst (v := (0 : Int32)) (by decide) dL_law_524 ?_
    exact rb_iret rfl (by decide) (((KKx11).2 c13)).1.1 (((KKx11).2 c13)).1.2 dL_law_525 (((KKx11).2 c13)).2
theorem sgL_law_526 {κ : rb_K} {n : Nat × Nat} {M : rb_H} {L : Nat} {xs : Nat → Int32} {a1 a2 : Value} {a3 : Int32} (ha1 : rb_isR a1) (ha2 : rb_isR a2) (hX : rb_sc κ.1 L xs) (K : (vp_in (a3 + (1 : Int32)) L ∧ (∃ q1, a1 = .ref q1 ∧ (∃ (d2 : Nat) (n3 : Nat × Nat) (Q4 : Outcome → rb_H → Prop), rb_Ct κ.1 yX0_ring wX0_ring d2 n3 [.ref q1, .int (xs ((a3 + (1 : Int32))).toNatClampNeg)] M Q4 ∧ rb_dp κ d2 ∧ rb_rom κ (n.1 + n3.1, n.2 + n3.2) ∧ rb_ob M q1 0 ∧ ∀ (o : Outcome) (M6 : rb_H), Q4 o M6 → (∃ (x5 : Int32), o = .returned (some (.int x5)) ∧ (vp_in (a3 + (1 : Int32)) L ∧ (∃ q7, a2 = .ref q7 ∧ (∃ (d8 : Nat) (n9 : Nat × Nat) (Q10 : Outcome → rb_H → Prop), rb_Ct κ.1 yX4_ring wX4_ring d8 n9 [.ref q7, .int (xs ((a3 + (1 : Int32))).toNatClampNeg)] M6 Q10 ∧ rb_dp κ d8 ∧ rb_rom κ (n.1 + n3.1 + n9.1, n.2 + n3.2 + n9.2) ∧ rb_ob M6 q7 4 ∧ ∀ (o : Outcome) (M12 : rb_H), Q10 o M12 → (∃ (x11 : Int32), o = .returned (some (.int x11)) ∧ ((x5 = x11 → rb_Bd κ mL_law (n.1 + n3.1 + n9.1, n.2 + n3.2 + n9.2) M12 1186 [some (.ref κ.1.2.2.1), some (.ref q1), some (.ref q7), some (.int a3)] []) ∧ (¬ x5 = x11 → (rb_fin κ (n.1 + n3.1 + n9.1, n.2 + n3.2 + n9.2) ∧ κ.2.2.1 (.returned (some (.int (0 : Int32)))) M12)))))))))))) : rb_Bd κ mL_law n M 526 [some (.ref κ.1.2.2.1), some a1, some a2, some (.int a3)] [] := by
  refine rb_aload_n 1 rfl rfl ha1 dL_law_526 ?_
  refine rb_aload_n 0 rfl rfl (rb_isR_ref _) dL_law_527 ?_
  refine rb_iload_n 3 rfl rfl dL_law_528 ?_
  refine rb_iconst (v := (1 : Int32)) (by decide) dL_law_529 ?_
  refine rb_iadd (z := (a3 + (1 : Int32))) rfl dL_law_530 ?_
  refine rb_sld hX (K).1 dL_law_531 ?_
  obtain ⟨q1, eq1, Kq1⟩ := (K).2
  subst eq1
  obtain ⟨d2, n3, Q4, h1x5, hdx5, hnx5, hox5, Kx5⟩ := Kq1
  refine rb_call st_L_58_0 (rest := []) h1x5 rfl rfl (rc_rc rfl hox5) (Nat.le_of_ble_eq_true rfl) hdx5.1 hdx5.2 hnx5.1 hnx5.2 dL_law_532 (fun o M6 hpx5 => ?_)
  obtain ⟨x5, eo, KKx5⟩ := Kx5 o M6 hpx5
  subst eo
  show rb_Bd κ mL_law (n.1 + n3.1, n.2 + n3.2) M6 535 [some (.ref κ.1.2.2.1), some (.ref q1), some a2, some (.int a3)] [.int x5]
  refine rb_aload_n 2 rfl rfl ha2 dL_law_535 ?_
  refine rb_aload_n 0 rfl rfl (rb_isR_ref _) dL_law_536 ?_
  refine rb_iload_n 3 rfl rfl dL_law_537 ?_
  refine rb_iconst (v := (1 : Int32)) (by decide) dL_law_538 ?_
  refine rb_iadd (z := (a3 + (1 : Int32))) rfl dL_law_539 ?_
  refine rb_sld hX (KKx5).1 dL_law_540 ?_
  obtain ⟨q7, eq7, Kq7⟩ := (KKx5).2
  subst eq7
  obtain ⟨d8, n9, Q10, h1x11, hdx11, hnx11, hox11, Kx11⟩ := Kq7
  refine rb_call st_L_61_4 (rest := [.int x5]) h1x11 rfl rfl (rc_rc rfl hox11) (Nat.le_of_ble_eq_true rfl) hdx11.1 hdx11.2 hnx11.1 hnx11.2 dL_law_541 (fun o M12 hpx11 => ?_)
  obtain ⟨x11, eo, KKx11⟩ := Kx11 o M12 hpx11
  subst eo
  show rb_Bd κ mL_law (n.1 + n3.1 + n9.1, n.2 + n3.2 + n9.2) M12 544 [some (.ref κ.1.2.2.1), some (.ref q1), some (.ref q7), some (.int a3)] [.int x11, .int x5]
  refine rb_iceq 1186 (by decide) dL_law_544 (fun c13 => ?_) (fun c13 => ?_)
  · skip
    exact ((KKx11).1 c13)
  · skip
    refine rb_iconst (v := (0 : Int32)) (by decide) dL_law_547 ?_
    exact rb_iret rfl (by decide) (((KKx11).2 c13)).1.1 (((KKx11).2 c13)).1.2 dL_law_548 (((KKx11).2 c13)).2
theorem sgL_law_549 {κ : rb_K} {n : Nat × Nat} {M : rb_H} {L : Nat} {xs : Nat → Int32} {a1 a2 : Value} {a3 : Int32} (ha1 : rb_isR a1) (ha2 : rb_isR a2) (hX : rb_sc κ.1 L xs) (K : (vp_in (a3 + (1 : Int32)) L ∧ (∃ q1, a1 = .ref q1 ∧ (∃ (d2 : Nat) (n3 : Nat × Nat) (Q4 : Outcome → rb_H → Prop), rb_Ct κ.1 yX0_lacks_2 wX0_lacks_2 d2 n3 [.ref q1, .int (xs ((a3 + (1 : Int32))).toNatClampNeg)] M Q4 ∧ rb_dp κ d2 ∧ rb_rom κ (n.1 + n3.1, n.2 + n3.2) ∧ rb_ob M q1 0 ∧ ∀ (o : Outcome) (M6 : rb_H), Q4 o M6 → (∃ (x5 : Int32), o = .returned (some (.int x5)) ∧ (vp_in (a3 + (1 : Int32)) L ∧ (∃ q7, a2 = .ref q7 ∧ (∃ (d8 : Nat) (n9 : Nat × Nat) (Q10 : Outcome → rb_H → Prop), rb_Ct κ.1 yX4_lacks wX4_lacks d8 n9 [.ref q7, .int (xs ((a3 + (1 : Int32))).toNatClampNeg)] M6 Q10 ∧ rb_dp κ d8 ∧ rb_rom κ (n.1 + n3.1 + n9.1, n.2 + n3.2 + n9.2) ∧ rb_ob M6 q7 4 ∧ ∀ (o : Outcome) (M12 : rb_H), Q10 o M12 → (∃ (x11 : Int32), o = .returned (some (.int x11)) ∧ ((x5 = x11 → rb_Bd κ mL_law (n.1 + n3.1 + n9.1, n.2 + n3.2 + n9.2) M12 1186 [some (.ref κ.1.2.2.1), some (.ref q1), some (.ref q7), some (.int a3)] []) ∧ (¬ x5 = x11 → (rb_fin κ (n.1 + n3.1 + n9.1, n.2 + n3.2 + n9.2) ∧ κ.2.2.1 (.returned (some (.int (0 : Int32)))) M12)))))))))))) : rb_Bd κ mL_law n M 549 [some (.ref κ.1.2.2.1), some a1, some a2, some (.int a3)] [] := by
  refine rb_aload_n 1 rfl rfl ha1 dL_law_549 ?_
  refine rb_aload_n 0 rfl rfl (rb_isR_ref _) dL_law_550 ?_
  refine rb_iload_n 3 rfl rfl dL_law_551 ?_
  refine rb_iconst (v := (1 : Int32)) (by decide) dL_law_552 ?_
  refine rb_iadd (z := (a3 + (1 : Int32))) rfl dL_law_553 ?_
  refine rb_sld hX (K).1 dL_law_554 ?_
  obtain ⟨q1, eq1, Kq1⟩ := (K).2
  subst eq1
  obtain ⟨d2, n3, Q4, h1x5, hdx5, hnx5, hox5, Kx5⟩ := Kq1
  refine rb_call st_L_62_0 (rest := []) h1x5 rfl rfl (rc_rc rfl hox5) (Nat.le_of_ble_eq_true rfl) hdx5.1 hdx5.2 hnx5.1 hnx5.2 dL_law_555 (fun o M6 hpx5 => ?_)
  obtain ⟨x5, eo, KKx5⟩ := Kx5 o M6 hpx5
  subst eo
  show rb_Bd κ mL_law (n.1 + n3.1, n.2 + n3.2) M6 558 [some (.ref κ.1.2.2.1), some (.ref q1), some a2, some (.int a3)] [.int x5]
  refine rb_aload_n 2 rfl rfl ha2 dL_law_558 ?_
  refine rb_aload_n 0 rfl rfl (rb_isR_ref _) dL_law_559 ?_
  refine rb_iload_n 3 rfl rfl dL_law_560 ?_
  refine rb_iconst (v := (1 : Int32)) (by decide) dL_law_561 ?_
  refine rb_iadd (z := (a3 + (1 : Int32))) rfl dL_law_562 ?_
  refine rb_sld hX (KKx5).1 dL_law_563 ?_
  obtain ⟨q7, eq7, Kq7⟩ := (KKx5).2
  subst eq7
  obtain ⟨d8, n9, Q10, h1x11, hdx11, hnx11, hox11, Kx11⟩ := Kq7
  refine rb_call st_L_65_4 (rest := [.int x5]) h1x11 rfl rfl (rc_rc rfl hox11) (Nat.le_of_ble_eq_true rfl) hdx11.1 hdx11.2 hnx11.1 hnx11.2 dL_law_564 (fun o M12 hpx11 => ?_)
  obtain ⟨x11, eo, KKx11⟩ := Kx11 o M12 hpx11
  subst eo
  show rb_Bd κ mL_law (n.1 + n3.1 + n9.1, n.2 + n3.2 + n9.2) M12 567 [some (.ref κ.1.2.2.1), some (.ref q1), some (.ref q7), some (.int a3)] [.int x11, .int x5]
  refine rb_iceq 1186 (by decide) dL_law_567 (fun c13 => ?_) (fun c13 => ?_)
  · skip
    exact ((KKx11).1 c13)
  · skip
    refine rb_iconst (v := (0 : Int32)) (by decide) dL_law_570 ?_
    exact rb_iret rfl (by decide) (((KKx11).2 c13)).1.1 (((KKx11).2 c13)).1.2 dL_law_571 (((KKx11).2 c13)).2
theorem sgL_law_572 {κ : rb_K} {n : Nat × Nat} {M : rb_H} {L : Nat} {xs : Nat → Int32} {a1 a2 : Value} {a3 : Int32} (ha1 : rb_isR a1) (ha2 : rb_isR a2) (hX : rb_sc κ.1 L xs) (K : (vp_in (a3 + (1 : Int32)) L ∧ (vp_in (a3 + (2 : Int32)) L ∧ (∃ q1, a1 = .ref q1 ∧ (∃ (d2 : Nat) (n3 : Nat × Nat) (Q4 : Outcome → rb_H → Prop), rb_Ct κ.1 yX0_line wX0_line d2 n3 [.ref q1, .int (xs ((a3 + (1 : Int32))).toNatClampNeg), .int (xs ((a3 + (2 : Int32))).toNatClampNeg)] M Q4 ∧ rb_dp κ d2 ∧ rb_rom κ (n.1 + n3.1, n.2 + n3.2) ∧ rb_ob M q1 0 ∧ ∀ (o : Outcome) (M6 : rb_H), Q4 o M6 → (∃ (x5 : Int32), o = .returned (some (.int x5)) ∧ (vp_in (a3 + (1 : Int32)) L ∧ (vp_in (a3 + (2 : Int32)) L ∧ (∃ q7, a2 = .ref q7 ∧ (∃ (d8 : Nat) (n9 : Nat × Nat) (Q10 : Outcome → rb_H → Prop), rb_Ct κ.1 yX4_line wX4_line d8 n9 [.ref q7, .int (xs ((a3 + (1 : Int32))).toNatClampNeg), .int (xs ((a3 + (2 : Int32))).toNatClampNeg)] M6 Q10 ∧ rb_dp κ d8 ∧ rb_rom κ (n.1 + n3.1 + n9.1, n.2 + n3.2 + n9.2) ∧ rb_ob M6 q7 4 ∧ ∀ (o : Outcome) (M12 : rb_H), Q10 o M12 → (∃ (x11 : Int32), o = .returned (some (.int x11)) ∧ ((x5 = x11 → rb_Bd κ mL_law (n.1 + n3.1 + n9.1, n.2 + n3.2 + n9.2) M12 1186 [some (.ref κ.1.2.2.1), some (.ref q1), some (.ref q7), some (.int a3)] []) ∧ (¬ x5 = x11 → (rb_fin κ (n.1 + n3.1 + n9.1, n.2 + n3.2 + n9.2) ∧ κ.2.2.1 (.returned (some (.int (0 : Int32)))) M12)))))))))))))) : rb_Bd κ mL_law n M 572 [some (.ref κ.1.2.2.1), some a1, some a2, some (.int a3)] [] := by
  refine rb_aload_n 1 rfl rfl ha1 dL_law_572 ?_
  refine rb_aload_n 0 rfl rfl (rb_isR_ref _) dL_law_573 ?_
  refine rb_iload_n 3 rfl rfl dL_law_574 ?_
  refine rb_iconst (v := (1 : Int32)) (by decide) dL_law_575 ?_
  refine rb_iadd (z := (a3 + (1 : Int32))) rfl dL_law_576 ?_
  refine rb_sld hX (K).1 dL_law_577 ?_
  refine rb_aload_n 0 rfl rfl (rb_isR_ref _) dL_law_578 ?_
  refine rb_iload_n 3 rfl rfl dL_law_579 ?_
  refine rb_iconst (v := (2 : Int32)) (by decide) dL_law_580 ?_
  refine rb_iadd (z := (a3 + (2 : Int32))) rfl dL_law_581 ?_
  refine rb_sld hX ((K).2).1 dL_law_582 ?_
  obtain ⟨q1, eq1, Kq1⟩ := ((K).2).2
  subst eq1
  obtain ⟨d2, n3, Q4, h1x5, hdx5, hnx5, hox5, Kx5⟩ := Kq1
  refine rb_call st_L_66_0 (rest := []) h1x5 rfl rfl (rc_rc rfl hox5) (Nat.le_of_ble_eq_true rfl) hdx5.1 hdx5.2 hnx5.1 hnx5.2 dL_law_583 (fun o M6 hpx5 => ?_)
  obtain ⟨x5, eo, KKx5⟩ := Kx5 o M6 hpx5
  subst eo
  show rb_Bd κ mL_law (n.1 + n3.1, n.2 + n3.2) M6 586 [some (.ref κ.1.2.2.1), some (.ref q1), some a2, some (.int a3)] [.int x5]
  refine rb_aload_n 2 rfl rfl ha2 dL_law_586 ?_
  refine rb_aload_n 0 rfl rfl (rb_isR_ref _) dL_law_587 ?_
  refine rb_iload_n 3 rfl rfl dL_law_588 ?_
  refine rb_iconst (v := (1 : Int32)) (by decide) dL_law_589 ?_
  refine rb_iadd (z := (a3 + (1 : Int32))) rfl dL_law_590 ?_
  refine rb_sld hX (KKx5).1 dL_law_591 ?_
  refine rb_aload_n 0 rfl rfl (rb_isR_ref _) dL_law_592 ?_
  refine rb_iload_n 3 rfl rfl dL_law_593 ?_
  refine rb_iconst (v := (2 : Int32)) (by decide) dL_law_594 ?_
  refine rb_iadd (z := (a3 + (2 : Int32))) rfl dL_law_595 ?_
  refine rb_sld hX ((KKx5).2).1 dL_law_596 ?_
  obtain ⟨q7, eq7, Kq7⟩ := ((KKx5).2).2
  subst eq7
  obtain ⟨d8, n9, Q10, h1x11, hdx11, hnx11, hox11, Kx11⟩ := Kq7
  refine rb_call st_L_69_4 (rest := [.int x5]) h1x11 rfl rfl (rc_rc rfl hox11) (Nat.le_of_ble_eq_true rfl) hdx11.1 hdx11.2 hnx11.1 hnx11.2 dL_law_597 (fun o M12 hpx11 => ?_)
  obtain ⟨x11, eo, KKx11⟩ := Kx11 o M12 hpx11
  subst eo
  show rb_Bd κ mL_law (n.1 + n3.1 + n9.1, n.2 + n3.2 + n9.2) M12 600 [some (.ref κ.1.2.2.1), some (.ref q1), some (.ref q7), some (.int a3)] [.int x11, .int x5]
  refine rb_iceq 1186 (by decide) dL_law_600 (fun c13 => ?_) (fun c13 => ?_)
  · skip
    exact ((KKx11).1 c13)
  · skip
    refine rb_iconst (v := (0 : Int32)) (by decide) dL_law_603 ?_
    exact rb_iret rfl (by decide) (((KKx11).2 c13)).1.1 (((KKx11).2 c13)).1.2 dL_law_604 (((KKx11).2 c13)).2
theorem sgL_law_605 {κ : rb_K} {n : Nat × Nat} {M : rb_H} {L : Nat} {xs : Nat → Int32} {a1 a2 : Value} {a3 : Int32} (ha1 : rb_isR a1) (ha2 : rb_isR a2) (hX : rb_sc κ.1 L xs) (K : (vp_in (a3 + (1 : Int32)) L ∧ (vp_in (a3 + (2 : Int32)) L ∧ (vp_in (a3 + (3 : Int32)) L ∧ (∃ q1, a1 = .ref q1 ∧ (∃ (d2 : Nat) (n3 : Nat × Nat) (Q4 : Outcome → rb_H → Prop), rb_Ct κ.1 yX0_chain wX0_chain d2 n3 [.ref q1, .int (xs ((a3 + (1 : Int32))).toNatClampNeg), .int (xs ((a3 + (2 : Int32))).toNatClampNeg), .int (xs ((a3 + (3 : Int32))).toNatClampNeg)] M Q4 ∧ rb_dp κ d2 ∧ rb_rom κ (n.1 + n3.1, n.2 + n3.2) ∧ rb_ob M q1 0 ∧ ∀ (o : Outcome) (M6 : rb_H), Q4 o M6 → (∃ (x5 : Int32), o = .returned (some (.int x5)) ∧ (vp_in (a3 + (1 : Int32)) L ∧ (vp_in (a3 + (2 : Int32)) L ∧ (vp_in (a3 + (3 : Int32)) L ∧ (∃ q7, a2 = .ref q7 ∧ (∃ (d8 : Nat) (n9 : Nat × Nat) (Q10 : Outcome → rb_H → Prop), rb_Ct κ.1 yX4_chain_2 wX4_chain_2 d8 n9 [.ref q7, .int (xs ((a3 + (1 : Int32))).toNatClampNeg), .int (xs ((a3 + (2 : Int32))).toNatClampNeg), .int (xs ((a3 + (3 : Int32))).toNatClampNeg)] M6 Q10 ∧ rb_dp κ d8 ∧ rb_rom κ (n.1 + n3.1 + n9.1, n.2 + n3.2 + n9.2) ∧ rb_ob M6 q7 4 ∧ ∀ (o : Outcome) (M12 : rb_H), Q10 o M12 → (∃ (x11 : Int32), o = .returned (some (.int x11)) ∧ ((x5 = x11 → rb_Bd κ mL_law (n.1 + n3.1 + n9.1, n.2 + n3.2 + n9.2) M12 1186 [some (.ref κ.1.2.2.1), some (.ref q1), some (.ref q7), some (.int a3)] []) ∧ (¬ x5 = x11 → (rb_fin κ (n.1 + n3.1 + n9.1, n.2 + n3.2 + n9.2) ∧ κ.2.2.1 (.returned (some (.int (0 : Int32)))) M12)))))))))))))))) : rb_Bd κ mL_law n M 605 [some (.ref κ.1.2.2.1), some a1, some a2, some (.int a3)] [] := by
  refine rb_aload_n 1 rfl rfl ha1 dL_law_605 ?_
  refine rb_aload_n 0 rfl rfl (rb_isR_ref _) dL_law_606 ?_
  refine rb_iload_n 3 rfl rfl dL_law_607 ?_
  refine rb_iconst (v := (1 : Int32)) (by decide) dL_law_608 ?_
  refine rb_iadd (z := (a3 + (1 : Int32))) rfl dL_law_609 ?_
  refine rb_sld hX (K).1 dL_law_610 ?_
  refine rb_aload_n 0 rfl rfl (rb_isR_ref _) dL_law_611 ?_
  refine rb_iload_n 3 rfl rfl dL_law_612 ?_
  refine rb_iconst (v := (2 : Int32)) (by decide) dL_law_613 ?_
  refine rb_iadd (z := (a3 + (2 : Int32))) rfl dL_law_614 ?_
  refine rb_sld hX ((K).2).1 dL_law_615 ?_
  refine rb_aload_n 0 rfl rfl (rb_isR_ref _) dL_law_616 ?_
  refine rb_iload_n 3 rfl rfl dL_law_617 ?_
  refine rb_iconst (v := (3 : Int32)) (by decide) dL_law_618 ?_
  refine rb_iadd (z := (a3 + (3 : Int32))) rfl dL_law_619 ?_
  refine rb_sld hX (((K).2).2).1 dL_law_620 ?_
  obtain ⟨q1, eq1, Kq1⟩ := (((K).2).2).2
  subst eq1
  obtain ⟨d2, n3, Q4, h1x5, hdx5, hnx5, hox5, Kx5⟩ := Kq1
  refine rb_call st_L_70_0 (rest := []) h1x5 rfl rfl (rc_rc rfl hox5) (Nat.le_of_ble_eq_true rfl) hdx5.1 hdx5.2 hnx5.1 hnx5.2 dL_law_621 (fun o M6 hpx5 => ?_)
  obtain ⟨x5, eo, KKx5⟩ := Kx5 o M6 hpx5
  subst eo
  show rb_Bd κ mL_law (n.1 + n3.1, n.2 + n3.2) M6 624 [some (.ref κ.1.2.2.1), some (.ref q1), some a2, some (.int a3)] [.int x5]
  refine rb_aload_n 2 rfl rfl ha2 dL_law_624 ?_
  refine rb_aload_n 0 rfl rfl (rb_isR_ref _) dL_law_625 ?_
  refine rb_iload_n 3 rfl rfl dL_law_626 ?_
  refine rb_iconst (v := (1 : Int32)) (by decide) dL_law_627 ?_
  refine rb_iadd (z := (a3 + (1 : Int32))) rfl dL_law_628 ?_
  refine rb_sld hX (KKx5).1 dL_law_629 ?_
  refine rb_aload_n 0 rfl rfl (rb_isR_ref _) dL_law_630 ?_
  refine rb_iload_n 3 rfl rfl dL_law_631 ?_
  refine rb_iconst (v := (2 : Int32)) (by decide) dL_law_632 ?_
  refine rb_iadd (z := (a3 + (2 : Int32))) rfl dL_law_633 ?_
  refine rb_sld hX ((KKx5).2).1 dL_law_634 ?_
  refine rb_aload_n 0 rfl rfl (rb_isR_ref _) dL_law_635 ?_
  refine rb_iload_n 3 rfl rfl dL_law_636 ?_
  refine rb_iconst (v := (3 : Int32)) (by decide) dL_law_637 ?_
  refine rb_iadd (z := (a3 + (3 : Int32))) rfl dL_law_638 ?_
  refine rb_sld hX (((KKx5).2).2).1 dL_law_639 ?_
  obtain ⟨q7, eq7, Kq7⟩ := (((KKx5).2).2).2
  subst eq7
  obtain ⟨d8, n9, Q10, h1x11, hdx11, hnx11, hox11, Kx11⟩ := Kq7
  refine rb_call st_L_73_4 (rest := [.int x5]) h1x11 rfl rfl (rc_rc rfl hox11) (Nat.le_of_ble_eq_true rfl) hdx11.1 hdx11.2 hnx11.1 hnx11.2 dL_law_640 (fun o M12 hpx11 => ?_)
  obtain ⟨x11, eo, KKx11⟩ := Kx11 o M12 hpx11
  subst eo
  show rb_Bd κ mL_law (n.1 + n3.1 + n9.1, n.2 + n3.2 + n9.2) M12 643 [some (.ref κ.1.2.2.1), some (.ref q1), some (.ref q7), some (.int a3)] [.int x11, .int x5]
  refine rb_iceq 1186 (by decide) dL_law_643 (fun c13 => ?_) (fun c13 => ?_)
  · skip
    exact ((KKx11).1 c13)
  · skip
    refine rb_iconst (v := (0 : Int32)) (by decide) dL_law_646 ?_
    exact rb_iret rfl (by decide) (((KKx11).2 c13)).1.1 (((KKx11).2 c13)).1.2 dL_law_647 (((KKx11).2 c13)).2
theorem sgL_law_648 {κ : rb_K} {n : Nat × Nat} {M : rb_H} {L : Nat} {xs : Nat → Int32} {a1 a2 : Value} {a3 : Int32} (ha1 : rb_isR a1) (ha2 : rb_isR a2) (hX : rb_sc κ.1 L xs) (K : (vp_in (a3 + (1 : Int32)) L ∧ (vp_in (a3 + (2 : Int32)) L ∧ (∃ q1, a1 = .ref q1 ∧ (∃ (d2 : Nat) (n3 : Nat × Nat) (Q4 : Outcome → rb_H → Prop), rb_Ct κ.1 yX0_under wX0_under d2 n3 [.ref q1, .int (xs ((a3 + (1 : Int32))).toNatClampNeg), .int (xs ((a3 + (2 : Int32))).toNatClampNeg)] M Q4 ∧ rb_dp κ d2 ∧ rb_rom κ (n.1 + n3.1, n.2 + n3.2) ∧ rb_ob M q1 0 ∧ ∀ (o : Outcome) (M6 : rb_H), Q4 o M6 → (∃ (x5 : Int32), o = .returned (some (.int x5)) ∧ (vp_in (a3 + (1 : Int32)) L ∧ (vp_in (a3 + (2 : Int32)) L ∧ (∃ q7, a2 = .ref q7 ∧ (∃ (d8 : Nat) (n9 : Nat × Nat) (Q10 : Outcome → rb_H → Prop), rb_Ct κ.1 yX4_under wX4_under d8 n9 [.ref q7, .int (xs ((a3 + (1 : Int32))).toNatClampNeg), .int (xs ((a3 + (2 : Int32))).toNatClampNeg)] M6 Q10 ∧ rb_dp κ d8 ∧ rb_rom κ (n.1 + n3.1 + n9.1, n.2 + n3.2 + n9.2) ∧ rb_ob M6 q7 4 ∧ ∀ (o : Outcome) (M12 : rb_H), Q10 o M12 → (∃ (x11 : Int32), o = .returned (some (.int x11)) ∧ ((x5 = x11 → rb_Bd κ mL_law (n.1 + n3.1 + n9.1, n.2 + n3.2 + n9.2) M12 1186 [some (.ref κ.1.2.2.1), some (.ref q1), some (.ref q7), some (.int a3)] []) ∧ (¬ x5 = x11 → (rb_fin κ (n.1 + n3.1 + n9.1, n.2 + n3.2 + n9.2) ∧ κ.2.2.1 (.returned (some (.int (0 : Int32)))) M12)))))))))))))) : rb_Bd κ mL_law n M 648 [some (.ref κ.1.2.2.1), some a1, some a2, some (.int a3)] [] := by
  refine rb_aload_n 1 rfl rfl ha1 dL_law_648 ?_
  refine rb_aload_n 0 rfl rfl (rb_isR_ref _) dL_law_649 ?_
  refine rb_iload_n 3 rfl rfl dL_law_650 ?_
  refine rb_iconst (v := (1 : Int32)) (by decide) dL_law_651 ?_
  refine rb_iadd (z := (a3 + (1 : Int32))) rfl dL_law_652 ?_
  refine rb_sld hX (K).1 dL_law_653 ?_
  refine rb_aload_n 0 rfl rfl (rb_isR_ref _) dL_law_654 ?_
  refine rb_iload_n 3 rfl rfl dL_law_655 ?_
  refine rb_iconst (v := (2 : Int32)) (by decide) dL_law_656 ?_
  refine rb_iadd (z := (a3 + (2 : Int32))) rfl dL_law_657 ?_
  refine rb_sld hX ((K).2).1 dL_law_658 ?_
  obtain ⟨q1, eq1, Kq1⟩ := ((K).2).2
  subst eq1
  obtain ⟨d2, n3, Q4, h1x5, hdx5, hnx5, hox5, Kx5⟩ := Kq1
  refine rb_call st_L_74_0 (rest := []) h1x5 rfl rfl (rc_rc rfl hox5) (Nat.le_of_ble_eq_true rfl) hdx5.1 hdx5.2 hnx5.1 hnx5.2 dL_law_659 (fun o M6 hpx5 => ?_)
  obtain ⟨x5, eo, KKx5⟩ := Kx5 o M6 hpx5
  subst eo
  show rb_Bd κ mL_law (n.1 + n3.1, n.2 + n3.2) M6 662 [some (.ref κ.1.2.2.1), some (.ref q1), some a2, some (.int a3)] [.int x5]
  refine rb_aload_n 2 rfl rfl ha2 dL_law_662 ?_
  refine rb_aload_n 0 rfl rfl (rb_isR_ref _) dL_law_663 ?_
  refine rb_iload_n 3 rfl rfl dL_law_664 ?_
  refine rb_iconst (v := (1 : Int32)) (by decide) dL_law_665 ?_
  refine rb_iadd (z := (a3 + (1 : Int32))) rfl dL_law_666 ?_
  refine rb_sld hX (KKx5).1 dL_law_667 ?_
  refine rb_aload_n 0 rfl rfl (rb_isR_ref _) dL_law_668 ?_
  refine rb_iload_n 3 rfl rfl dL_law_669 ?_
  refine rb_iconst (v := (2 : Int32)) (by decide) dL_law_670 ?_
  refine rb_iadd (z := (a3 + (2 : Int32))) rfl dL_law_671 ?_
  refine rb_sld hX ((KKx5).2).1 dL_law_672 ?_
  obtain ⟨q7, eq7, Kq7⟩ := ((KKx5).2).2
  subst eq7
  obtain ⟨d8, n9, Q10, h1x11, hdx11, hnx11, hox11, Kx11⟩ := Kq7
  refine rb_call st_L_77_4 (rest := [.int x5]) h1x11 rfl rfl (rc_rc rfl hox11) (Nat.le_of_ble_eq_true rfl) hdx11.1 hdx11.2 hnx11.1 hnx11.2 dL_law_673 (fun o M12 hpx11 => ?_)
  obtain ⟨x11, eo, KKx11⟩ := Kx11 o M12 hpx11
  subst eo
  show rb_Bd κ mL_law (n.1 + n3.1 + n9.1, n.2 + n3.2 + n9.2) M12 676 [some (.ref κ.1.2.2.1), some (.ref q1), some (.ref q7), some (.int a3)] [.int x11, .int x5]
  refine rb_iceq 1186 (by decide) dL_law_676 (fun c13 => ?_) (fun c13 => ?_)
  · skip
    exact ((KKx11).1 c13)
  · skip
    refine rb_iconst (v := (0 : Int32)) (by decide) dL_law_679 ?_
    exact rb_iret rfl (by decide) (((KKx11).2 c13)).1.1 (((KKx11).2 c13)).1.2 dL_law_680 (((KKx11).2 c13)).2
theorem sgL_law_681 {κ : rb_K} {n : Nat × Nat} {M : rb_H} {L : Nat} {xs : Nat → Int32} {a1 a2 : Value} {a3 : Int32} (ha1 : rb_isR a1) (ha2 : rb_isR a2) (hX : rb_sc κ.1 L xs) (K : (vp_in (a3 + (1 : Int32)) L ∧ (vp_in (a3 + (2 : Int32)) L ∧ (∃ q1, a1 = .ref q1 ∧ (∃ (d2 : Nat) (n3 : Nat × Nat) (Q4 : Outcome → rb_H → Prop), rb_Ct κ.1 yX0_step wX0_step d2 n3 [.ref q1, .int (xs ((a3 + (1 : Int32))).toNatClampNeg), .int (xs ((a3 + (2 : Int32))).toNatClampNeg)] M Q4 ∧ rb_dp κ d2 ∧ rb_rom κ (n.1 + n3.1, n.2 + n3.2) ∧ rb_ob M q1 0 ∧ ∀ (o : Outcome) (M6 : rb_H), Q4 o M6 → (∃ (x5 : Int32), o = .returned (some (.int x5)) ∧ (vp_in (a3 + (1 : Int32)) L ∧ (vp_in (a3 + (2 : Int32)) L ∧ (∃ q7, a2 = .ref q7 ∧ (∃ (d8 : Nat) (n9 : Nat × Nat) (Q10 : Outcome → rb_H → Prop), rb_Ct κ.1 yX4_step wX4_step d8 n9 [.ref q7, .int (xs ((a3 + (1 : Int32))).toNatClampNeg), .int (xs ((a3 + (2 : Int32))).toNatClampNeg)] M6 Q10 ∧ rb_dp κ d8 ∧ rb_rom κ (n.1 + n3.1 + n9.1, n.2 + n3.2 + n9.2) ∧ rb_ob M6 q7 4 ∧ ∀ (o : Outcome) (M12 : rb_H), Q10 o M12 → (∃ (x11 : Int32), o = .returned (some (.int x11)) ∧ ((x5 = x11 → rb_Bd κ mL_law (n.1 + n3.1 + n9.1, n.2 + n3.2 + n9.2) M12 1186 [some (.ref κ.1.2.2.1), some (.ref q1), some (.ref q7), some (.int a3)] []) ∧ (¬ x5 = x11 → (rb_fin κ (n.1 + n3.1 + n9.1, n.2 + n3.2 + n9.2) ∧ κ.2.2.1 (.returned (some (.int (0 : Int32)))) M12)))))))))))))) : rb_Bd κ mL_law n M 681 [some (.ref κ.1.2.2.1), some a1, some a2, some (.int a3)] [] := by
  refine rb_aload_n 1 rfl rfl ha1 dL_law_681 ?_
  refine rb_aload_n 0 rfl rfl (rb_isR_ref _) dL_law_682 ?_
  refine rb_iload_n 3 rfl rfl dL_law_683 ?_
  refine rb_iconst (v := (1 : Int32)) (by decide) dL_law_684 ?_
  refine rb_iadd (z := (a3 + (1 : Int32))) rfl dL_law_685 ?_
  refine rb_sld hX (K).1 dL_law_686 ?_
  refine rb_aload_n 0 rfl rfl (rb_isR_ref _) dL_law_687 ?_
  refine rb_iload_n 3 rfl rfl dL_law_688 ?_
  refine rb_iconst (v := (2 : Int32)) (by decide) dL_law_689 ?_
  refine rb_iadd (z := (a3 + (2 : Int32))) rfl dL_law_690 ?_
  refine rb_sld hX ((K).2).1 dL_law_691 ?_
  obtain ⟨q1, eq1, Kq1⟩ := ((K).2).2
  subst eq1
  obtain ⟨d2, n3, Q4, h1x5, hdx5, hnx5, hox5, Kx5⟩ := Kq1
  refine rb_call st_L_78_0 (rest := []) h1x5 rfl rfl (rc_rc rfl hox5) (Nat.le_of_ble_eq_true rfl) hdx5.1 hdx5.2 hnx5.1 hnx5.2 dL_law_692 (fun o M6 hpx5 => ?_)
  obtain ⟨x5, eo, KKx5⟩ := Kx5 o M6 hpx5
  subst eo
  show rb_Bd κ mL_law (n.1 + n3.1, n.2 + n3.2) M6 695 [some (.ref κ.1.2.2.1), some (.ref q1), some a2, some (.int a3)] [.int x5]
  refine rb_aload_n 2 rfl rfl ha2 dL_law_695 ?_
  refine rb_aload_n 0 rfl rfl (rb_isR_ref _) dL_law_696 ?_
  refine rb_iload_n 3 rfl rfl dL_law_697 ?_
  refine rb_iconst (v := (1 : Int32)) (by decide) dL_law_698 ?_
  refine rb_iadd (z := (a3 + (1 : Int32))) rfl dL_law_699 ?_
  refine rb_sld hX (KKx5).1 dL_law_700 ?_
  refine rb_aload_n 0 rfl rfl (rb_isR_ref _) dL_law_701 ?_
  refine rb_iload_n 3 rfl rfl dL_law_702 ?_
  refine rb_iconst (v := (2 : Int32)) (by decide) dL_law_703 ?_
  refine rb_iadd (z := (a3 + (2 : Int32))) rfl dL_law_704 ?_
  refine rb_sld hX ((KKx5).2).1 dL_law_705 ?_
  obtain ⟨q7, eq7, Kq7⟩ := ((KKx5).2).2
  subst eq7
  obtain ⟨d8, n9, Q10, h1x11, hdx11, hnx11, hox11, Kx11⟩ := Kq7
  refine rb_call st_L_81_4 (rest := [.int x5]) h1x11 rfl rfl (rc_rc rfl hox11) (Nat.le_of_ble_eq_true rfl) hdx11.1 hdx11.2 hnx11.1 hnx11.2 dL_law_706 (fun o M12 hpx11 => ?_)
  obtain ⟨x11, eo, KKx11⟩ := Kx11 o M12 hpx11
  subst eo
  show rb_Bd κ mL_law (n.1 + n3.1 + n9.1, n.2 + n3.2 + n9.2) M12 709 [some (.ref κ.1.2.2.1), some (.ref q1), some (.ref q7), some (.int a3)] [.int x11, .int x5]
  refine rb_iceq 1186 (by decide) dL_law_709 (fun c13 => ?_) (fun c13 => ?_)
  · skip
    exact ((KKx11).1 c13)
  · skip
    refine rb_iconst (v := (0 : Int32)) (by decide) dL_law_712 ?_
    exact rb_iret rfl (by decide) (((KKx11).2 c13)).1.1 (((KKx11).2 c13)).1.2 dL_law_713 (((KKx11).2 c13)).2
theorem sgL_law_714 {κ : rb_K} {n : Nat × Nat} {M : rb_H} {L : Nat} {xs : Nat → Int32} {a1 a2 : Value} {a3 : Int32} (ha1 : rb_isR a1) (ha2 : rb_isR a2) (hX : rb_sc κ.1 L xs) (K : (vp_in (a3 + (1 : Int32)) L ∧ (vp_in (a3 + (2 : Int32)) L ∧ (∃ q1, a1 = .ref q1 ∧ (∃ (d2 : Nat) (n3 : Nat × Nat) (Q4 : Outcome → rb_H → Prop), rb_Ct κ.1 yX0_started wX0_started d2 n3 [.ref q1, .int (xs ((a3 + (1 : Int32))).toNatClampNeg), .int (xs ((a3 + (2 : Int32))).toNatClampNeg)] M Q4 ∧ rb_dp κ d2 ∧ rb_rom κ (n.1 + n3.1, n.2 + n3.2) ∧ rb_ob M q1 0 ∧ ∀ (o : Outcome) (M6 : rb_H), Q4 o M6 → (∃ (x5 : Int32), o = .returned (some (.int x5)) ∧ (vp_in (a3 + (1 : Int32)) L ∧ (vp_in (a3 + (2 : Int32)) L ∧ (∃ q7, a2 = .ref q7 ∧ (∃ (d8 : Nat) (n9 : Nat × Nat) (Q10 : Outcome → rb_H → Prop), rb_Ct κ.1 yX4_started wX4_started d8 n9 [.ref q7, .int (xs ((a3 + (1 : Int32))).toNatClampNeg), .int (xs ((a3 + (2 : Int32))).toNatClampNeg)] M6 Q10 ∧ rb_dp κ d8 ∧ rb_rom κ (n.1 + n3.1 + n9.1, n.2 + n3.2 + n9.2) ∧ rb_ob M6 q7 4 ∧ ∀ (o : Outcome) (M12 : rb_H), Q10 o M12 → (∃ (x11 : Int32), o = .returned (some (.int x11)) ∧ ((x5 = x11 → rb_Bd κ mL_law (n.1 + n3.1 + n9.1, n.2 + n3.2 + n9.2) M12 1186 [some (.ref κ.1.2.2.1), some (.ref q1), some (.ref q7), some (.int a3)] []) ∧ (¬ x5 = x11 → (rb_fin κ (n.1 + n3.1 + n9.1, n.2 + n3.2 + n9.2) ∧ κ.2.2.1 (.returned (some (.int (0 : Int32)))) M12)))))))))))))) : rb_Bd κ mL_law n M 714 [some (.ref κ.1.2.2.1), some a1, some a2, some (.int a3)] [] := by
  refine rb_aload_n 1 rfl rfl ha1 dL_law_714 ?_
  refine rb_aload_n 0 rfl rfl (rb_isR_ref _) dL_law_715 ?_
  refine rb_iload_n 3 rfl rfl dL_law_716 ?_
  refine rb_iconst (v := (1 : Int32)) (by decide) dL_law_717 ?_
  refine rb_iadd (z := (a3 + (1 : Int32))) rfl dL_law_718 ?_
  refine rb_sld hX (K).1 dL_law_719 ?_
  refine rb_aload_n 0 rfl rfl (rb_isR_ref _) dL_law_720 ?_
  refine rb_iload_n 3 rfl rfl dL_law_721 ?_
  refine rb_iconst (v := (2 : Int32)) (by decide) dL_law_722 ?_
  refine rb_iadd (z := (a3 + (2 : Int32))) rfl dL_law_723 ?_
  refine rb_sld hX ((K).2).1 dL_law_724 ?_
  obtain ⟨q1, eq1, Kq1⟩ := ((K).2).2
  subst eq1
  obtain ⟨d2, n3, Q4, h1x5, hdx5, hnx5, hox5, Kx5⟩ := Kq1
  refine rb_call st_L_82_0 (rest := []) h1x5 rfl rfl (rc_rc rfl hox5) (Nat.le_of_ble_eq_true rfl) hdx5.1 hdx5.2 hnx5.1 hnx5.2 dL_law_725 (fun o M6 hpx5 => ?_)
  obtain ⟨x5, eo, KKx5⟩ := Kx5 o M6 hpx5
  subst eo
  show rb_Bd κ mL_law (n.1 + n3.1, n.2 + n3.2) M6 728 [some (.ref κ.1.2.2.1), some (.ref q1), some a2, some (.int a3)] [.int x5]
  refine rb_aload_n 2 rfl rfl ha2 dL_law_728 ?_
  refine rb_aload_n 0 rfl rfl (rb_isR_ref _) dL_law_729 ?_
  refine rb_iload_n 3 rfl rfl dL_law_730 ?_
  refine rb_iconst (v := (1 : Int32)) (by decide) dL_law_731 ?_
  refine rb_iadd (z := (a3 + (1 : Int32))) rfl dL_law_732 ?_
  refine rb_sld hX (KKx5).1 dL_law_733 ?_
  refine rb_aload_n 0 rfl rfl (rb_isR_ref _) dL_law_734 ?_
  refine rb_iload_n 3 rfl rfl dL_law_735 ?_
  refine rb_iconst (v := (2 : Int32)) (by decide) dL_law_736 ?_
  refine rb_iadd (z := (a3 + (2 : Int32))) rfl dL_law_737 ?_
  refine rb_sld hX ((KKx5).2).1 dL_law_738 ?_
  obtain ⟨q7, eq7, Kq7⟩ := ((KKx5).2).2
  subst eq7
  obtain ⟨d8, n9, Q10, h1x11, hdx11, hnx11, hox11, Kx11⟩ := Kq7
  refine rb_call st_L_85_4 (rest := [.int x5]) h1x11 rfl rfl (rc_rc rfl hox11) (Nat.le_of_ble_eq_true rfl) hdx11.1 hdx11.2 hnx11.1 hnx11.2 dL_law_739 (fun o M12 hpx11 => ?_)
  obtain ⟨x11, eo, KKx11⟩ := Kx11 o M12 hpx11
  subst eo
  show rb_Bd κ mL_law (n.1 + n3.1 + n9.1, n.2 + n3.2 + n9.2) M12 742 [some (.ref κ.1.2.2.1), some (.ref q1), some (.ref q7), some (.int a3)] [.int x11, .int x5]
  refine rb_iceq 1186 (by decide) dL_law_742 (fun c13 => ?_) (fun c13 => ?_)
  · skip
    exact ((KKx11).1 c13)
  · skip
    refine rb_iconst (v := (0 : Int32)) (by decide) dL_law_745 ?_
    exact rb_iret rfl (by decide) (((KKx11).2 c13)).1.1 (((KKx11).2 c13)).1.2 dL_law_746 (((KKx11).2 c13)).2
theorem sgL_law_747 {κ : rb_K} {n : Nat × Nat} {M : rb_H} {L : Nat} {xs : Nat → Int32} {a1 a2 : Value} {a3 : Int32} (ha1 : rb_isR a1) (ha2 : rb_isR a2) (hX : rb_sc κ.1 L xs) (K : (vp_in (a3 + (1 : Int32)) L ∧ (∃ q1, a1 = .ref q1 ∧ (∃ (d2 : Nat) (n3 : Nat × Nat) (Q4 : Outcome → rb_H → Prop), rb_Ct κ.1 yX0_object wX0_object d2 n3 [.ref q1, .int (xs ((a3 + (1 : Int32))).toNatClampNeg)] M Q4 ∧ rb_dp κ d2 ∧ rb_rom κ (n.1 + n3.1, n.2 + n3.2) ∧ rb_ob M q1 0 ∧ ∀ (o : Outcome) (M6 : rb_H), Q4 o M6 → (∃ (x5 : Int32), o = .returned (some (.int x5)) ∧ (vp_in (a3 + (1 : Int32)) L ∧ (∃ q7, a2 = .ref q7 ∧ (∃ (d8 : Nat) (n9 : Nat × Nat) (Q10 : Outcome → rb_H → Prop), rb_Ct κ.1 yX4_object wX4_object d8 n9 [.ref q7, .int (xs ((a3 + (1 : Int32))).toNatClampNeg)] M6 Q10 ∧ rb_dp κ d8 ∧ rb_rom κ (n.1 + n3.1 + n9.1, n.2 + n3.2 + n9.2) ∧ rb_ob M6 q7 4 ∧ ∀ (o : Outcome) (M12 : rb_H), Q10 o M12 → (∃ (x11 : Int32), o = .returned (some (.int x11)) ∧ ((x5 = x11 → rb_Bd κ mL_law (n.1 + n3.1 + n9.1, n.2 + n3.2 + n9.2) M12 1186 [some (.ref κ.1.2.2.1), some (.ref q1), some (.ref q7), some (.int a3)] []) ∧ (¬ x5 = x11 → (rb_fin κ (n.1 + n3.1 + n9.1, n.2 + n3.2 + n9.2) ∧ κ.2.2.1 (.returned (some (.int (0 : Int32)))) M12)))))))))))) : rb_Bd κ mL_law n M 747 [some (.ref κ.1.2.2.1), some a1, some a2, some (.int a3)] [] := by
  refine rb_aload_n 1 rfl rfl ha1 dL_law_747 ?_
  refine rb_aload_n 0 rfl rfl (rb_isR_ref _) dL_law_748 ?_
  refine rb_iload_n 3 rfl rfl dL_law_749 ?_
  refine rb_iconst (v := (1 : Int32)) (by decide) dL_law_750 ?_
  refine rb_iadd (z := (a3 + (1 : Int32))) rfl dL_law_751 ?_
  refine rb_sld hX (K).1 dL_law_752 ?_
  obtain ⟨q1, eq1, Kq1⟩ := (K).2
  subst eq1
  obtain ⟨d2, n3, Q4, h1x5, hdx5, hnx5, hox5, Kx5⟩ := Kq1
  refine rb_call st_L_86_0 (rest := []) h1x5 rfl rfl (rc_rc rfl hox5) (Nat.le_of_ble_eq_true rfl) hdx5.1 hdx5.2 hnx5.1 hnx5.2 dL_law_753 (fun o M6 hpx5 => ?_)
  obtain ⟨x5, eo, KKx5⟩ := Kx5 o M6 hpx5
  subst eo
  show rb_Bd κ mL_law (n.1 + n3.1, n.2 + n3.2) M6 756 [some (.ref κ.1.2.2.1), some (.ref q1), some a2, some (.int a3)] [.int x5]
  refine rb_aload_n 2 rfl rfl ha2 dL_law_756 ?_
  refine rb_aload_n 0 rfl rfl (rb_isR_ref _) dL_law_757 ?_
  refine rb_iload_n 3 rfl rfl dL_law_758 ?_
  refine rb_iconst (v := (1 : Int32)) (by decide) dL_law_759 ?_
  refine rb_iadd (z := (a3 + (1 : Int32))) rfl dL_law_760 ?_
  refine rb_sld hX (KKx5).1 dL_law_761 ?_
  obtain ⟨q7, eq7, Kq7⟩ := (KKx5).2
  subst eq7
  obtain ⟨d8, n9, Q10, h1x11, hdx11, hnx11, hox11, Kx11⟩ := Kq7
  refine rb_call st_L_89_4 (rest := [.int x5]) h1x11 rfl rfl (rc_rc rfl hox11) (Nat.le_of_ble_eq_true rfl) hdx11.1 hdx11.2 hnx11.1 hnx11.2 dL_law_762 (fun o M12 hpx11 => ?_)
  obtain ⟨x11, eo, KKx11⟩ := Kx11 o M12 hpx11
  subst eo
  show rb_Bd κ mL_law (n.1 + n3.1 + n9.1, n.2 + n3.2 + n9.2) M12 765 [some (.ref κ.1.2.2.1), some (.ref q1), some (.ref q7), some (.int a3)] [.int x11, .int x5]
  refine rb_iceq 1186 (by decide) dL_law_765 (fun c13 => ?_) (fun c13 => ?_)
  · skip
    exact ((KKx11).1 c13)
  · skip
    refine rb_iconst (v := (0 : Int32)) (by decide) dL_law_768 ?_
    exact rb_iret rfl (by decide) (((KKx11).2 c13)).1.1 (((KKx11).2 c13)).1.2 dL_law_769 (((KKx11).2 c13)).2
theorem sgL_law_770 {κ : rb_K} {n : Nat × Nat} {M : rb_H} {L : Nat} {xs : Nat → Int32} {a1 a2 : Value} {a3 : Int32} (ha1 : rb_isR a1) (ha2 : rb_isR a2) (hX : rb_sc κ.1 L xs) (K : (vp_in (a3 + (1 : Int32)) L ∧ (vp_in (a3 + (2 : Int32)) L ∧ (vp_in (a3 + (3 : Int32)) L ∧ (vp_in (a3 + (4 : Int32)) L ∧ (∃ q1, a1 = .ref q1 ∧ (∃ (d2 : Nat) (n3 : Nat × Nat) (Q4 : Outcome → rb_H → Prop), rb_Ct κ.1 yX0_call wX0_call d2 n3 [.ref q1, .int (xs ((a3 + (1 : Int32))).toNatClampNeg), .int (xs ((a3 + (2 : Int32))).toNatClampNeg), .long ((((xs ((a3 + (3 : Int32))).toNatClampNeg)).toInt64 <<< (((32 : Int32)).toInt64 &&& 63)) ||| (((xs ((a3 + (4 : Int32))).toNatClampNeg)).toInt64 &&& (4294967295 : Int64)))] M Q4 ∧ rb_dp κ d2 ∧ rb_rom κ (n.1 + n3.1, n.2 + n3.2) ∧ rb_ob M q1 0 ∧ ∀ (o : Outcome) (M6 : rb_H), Q4 o M6 → (∃ (x5 : Int32), o = .returned (some (.int x5)) ∧ (vp_in (a3 + (1 : Int32)) L ∧ (vp_in (a3 + (2 : Int32)) L ∧ (vp_in (a3 + (3 : Int32)) L ∧ (vp_in (a3 + (4 : Int32)) L ∧ (∃ q7, a2 = .ref q7 ∧ (∃ (d8 : Nat) (n9 : Nat × Nat) (Q10 : Outcome → rb_H → Prop), rb_Ct κ.1 yX4_call wX4_call d8 n9 [.ref q7, .int (xs ((a3 + (1 : Int32))).toNatClampNeg), .int (xs ((a3 + (2 : Int32))).toNatClampNeg), .long ((((xs ((a3 + (3 : Int32))).toNatClampNeg)).toInt64 <<< (((32 : Int32)).toInt64 &&& 63)) ||| (((xs ((a3 + (4 : Int32))).toNatClampNeg)).toInt64 &&& (4294967295 : Int64)))] M6 Q10 ∧ rb_dp κ d8 ∧ rb_rom κ (n.1 + n3.1 + n9.1, n.2 + n3.2 + n9.2) ∧ rb_ob M6 q7 4 ∧ ∀ (o : Outcome) (M12 : rb_H), Q10 o M12 → (∃ (x11 : Int32), o = .returned (some (.int x11)) ∧ ((x5 = x11 → rb_Bd κ mL_law (n.1 + n3.1 + n9.1, n.2 + n3.2 + n9.2) M12 1186 [some (.ref κ.1.2.2.1), some (.ref q1), some (.ref q7), some (.int a3)] []) ∧ (¬ x5 = x11 → (rb_fin κ (n.1 + n3.1 + n9.1, n.2 + n3.2 + n9.2) ∧ κ.2.2.1 (.returned (some (.int (0 : Int32)))) M12)))))))))))))))))) : rb_Bd κ mL_law n M 770 [some (.ref κ.1.2.2.1), some a1, some a2, some (.int a3)] [] := by
  refine rb_aload_n 1 rfl rfl ha1 dL_law_770 ?_
  refine rb_aload_n 0 rfl rfl (rb_isR_ref _) dL_law_771 ?_
  refine rb_iload_n 3 rfl rfl dL_law_772 ?_
  refine rb_iconst (v := (1 : Int32)) (by decide) dL_law_773 ?_
  refine rb_iadd (z := (a3 + (1 : Int32))) rfl dL_law_774 ?_
  refine rb_sld hX (K).1 dL_law_775 ?_
  refine rb_aload_n 0 rfl rfl (rb_isR_ref _) dL_law_776 ?_
  refine rb_iload_n 3 rfl rfl dL_law_777 ?_
  refine rb_iconst (v := (2 : Int32)) (by decide) dL_law_778 ?_
  refine rb_iadd (z := (a3 + (2 : Int32))) rfl dL_law_779 ?_
  refine rb_sld hX ((K).2).1 dL_law_780 ?_
  refine rb_aload_n 0 rfl rfl (rb_isR_ref _) dL_law_781 ?_
  refine rb_iload_n 3 rfl rfl dL_law_782 ?_
  refine rb_iconst (v := (3 : Int32)) (by decide) dL_law_783 ?_
  refine rb_iadd (z := (a3 + (3 : Int32))) rfl dL_law_784 ?_
  refine rb_sld hX (((K).2).2).1 dL_law_785 ?_
  refine rb_i2l (z := ((xs ((a3 + (3 : Int32))).toNatClampNeg)).toInt64) rfl dL_law_786 ?_
  refine rb_bipush (v := (32 : Int32)) (by decide) dL_law_787 ?_
  refine rb_lshl (z := (((xs ((a3 + (3 : Int32))).toNatClampNeg)).toInt64 <<< (((32 : Int32)).toInt64 &&& 63))) rfl dL_law_789 ?_
  refine rb_aload_n 0 rfl rfl (rb_isR_ref _) dL_law_790 ?_
  refine rb_iload_n 3 rfl rfl dL_law_791 ?_
  refine rb_iconst (v := (4 : Int32)) (by decide) dL_law_792 ?_
  refine rb_iadd (z := (a3 + (4 : Int32))) rfl dL_law_793 ?_
  refine rb_sld hX ((((K).2).2).2).1 dL_law_794 ?_
  refine rb_i2l (z := ((xs ((a3 + (4 : Int32))).toNatClampNeg)).toInt64) rfl dL_law_795 ?_
  refine rb_ldc2 q2042 dL_law_796 ?_
  refine rb_land (z := (((xs ((a3 + (4 : Int32))).toNatClampNeg)).toInt64 &&& (4294967295 : Int64))) rfl dL_law_799 ?_
  refine rb_lor (z := ((((xs ((a3 + (3 : Int32))).toNatClampNeg)).toInt64 <<< (((32 : Int32)).toInt64 &&& 63)) ||| (((xs ((a3 + (4 : Int32))).toNatClampNeg)).toInt64 &&& (4294967295 : Int64)))) rfl dL_law_800 ?_
  obtain ⟨q1, eq1, Kq1⟩ := ((((K).2).2).2).2
  subst eq1
  obtain ⟨d2, n3, Q4, h1x5, hdx5, hnx5, hox5, Kx5⟩ := Kq1
  refine rb_call st_L_92_0 (rest := []) h1x5 rfl rfl (rc_rc rfl hox5) (Nat.le_of_ble_eq_true rfl) hdx5.1 hdx5.2 hnx5.1 hnx5.2 dL_law_801 (fun o M6 hpx5 => ?_)
  obtain ⟨x5, eo, KKx5⟩ := Kx5 o M6 hpx5
  subst eo
  show rb_Bd κ mL_law (n.1 + n3.1, n.2 + n3.2) M6 804 [some (.ref κ.1.2.2.1), some (.ref q1), some a2, some (.int a3)] [.int x5]
  refine rb_aload_n 2 rfl rfl ha2 dL_law_804 ?_
  refine rb_aload_n 0 rfl rfl (rb_isR_ref _) dL_law_805 ?_
  refine rb_iload_n 3 rfl rfl dL_law_806 ?_
  refine rb_iconst (v := (1 : Int32)) (by decide) dL_law_807 ?_
  refine rb_iadd (z := (a3 + (1 : Int32))) rfl dL_law_808 ?_
  refine rb_sld hX (KKx5).1 dL_law_809 ?_
  refine rb_aload_n 0 rfl rfl (rb_isR_ref _) dL_law_810 ?_
  refine rb_iload_n 3 rfl rfl dL_law_811 ?_
  refine rb_iconst (v := (2 : Int32)) (by decide) dL_law_812 ?_
  refine rb_iadd (z := (a3 + (2 : Int32))) rfl dL_law_813 ?_
  refine rb_sld hX ((KKx5).2).1 dL_law_814 ?_
  refine rb_aload_n 0 rfl rfl (rb_isR_ref _) dL_law_815 ?_
  refine rb_iload_n 3 rfl rfl dL_law_816 ?_
  refine rb_iconst (v := (3 : Int32)) (by decide) dL_law_817 ?_
  refine rb_iadd (z := (a3 + (3 : Int32))) rfl dL_law_818 ?_
  refine rb_sld hX (((KKx5).2).2).1 dL_law_819 ?_
  refine rb_i2l (z := ((xs ((a3 + (3 : Int32))).toNatClampNeg)).toInt64) rfl dL_law_820 ?_
  refine rb_bipush (v := (32 : Int32)) (by decide) dL_law_821 ?_
  refine rb_lshl (z := (((xs ((a3 + (3 : Int32))).toNatClampNeg)).toInt64 <<< (((32 : Int32)).toInt64 &&& 63))) rfl dL_law_823 ?_
  refine rb_aload_n 0 rfl rfl (rb_isR_ref _) dL_law_824 ?_
  refine rb_iload_n 3 rfl rfl dL_law_825 ?_
  refine rb_iconst (v := (4 : Int32)) (by decide) dL_law_826 ?_
  refine rb_iadd (z := (a3 + (4 : Int32))) rfl dL_law_827 ?_
  refine rb_sld hX ((((KKx5).2).2).2).1 dL_law_828 ?_
  refine rb_i2l (z := ((xs ((a3 + (4 : Int32))).toNatClampNeg)).toInt64) rfl dL_law_829 ?_
  refine rb_ldc2 q2042 dL_law_830 ?_
  refine rb_land (z := (((xs ((a3 + (4 : Int32))).toNatClampNeg)).toInt64 &&& (4294967295 : Int64))) rfl dL_law_833 ?_
  refine rb_lor (z := ((((xs ((a3 + (3 : Int32))).toNatClampNeg)).toInt64 <<< (((32 : Int32)).toInt64 &&& 63)) ||| (((xs ((a3 + (4 : Int32))).toNatClampNeg)).toInt64 &&& (4294967295 : Int64)))) rfl dL_law_834 ?_
  obtain ⟨q7, eq7, Kq7⟩ := ((((KKx5).2).2).2).2
  subst eq7
  obtain ⟨d8, n9, Q10, h1x11, hdx11, hnx11, hox11, Kx11⟩ := Kq7
  refine rb_call st_L_96_4 (rest := [.int x5]) h1x11 rfl rfl (rc_rc rfl hox11) (Nat.le_of_ble_eq_true rfl) hdx11.1 hdx11.2 hnx11.1 hnx11.2 dL_law_835 (fun o M12 hpx11 => ?_)
  obtain ⟨x11, eo, KKx11⟩ := Kx11 o M12 hpx11
  subst eo
  show rb_Bd κ mL_law (n.1 + n3.1 + n9.1, n.2 + n3.2 + n9.2) M12 838 [some (.ref κ.1.2.2.1), some (.ref q1), some (.ref q7), some (.int a3)] [.int x11, .int x5]
  refine rb_iceq 1186 (by decide) dL_law_838 (fun c13 => ?_) (fun c13 => ?_)
  · skip
    exact ((KKx11).1 c13)
  · skip
    refine rb_iconst (v := (0 : Int32)) (by decide) dL_law_841 ?_
    exact rb_iret rfl (by decide) (((KKx11).2 c13)).1.1 (((KKx11).2 c13)).1.2 dL_law_842 (((KKx11).2 c13)).2
theorem sgL_law_843 {κ : rb_K} {n : Nat × Nat} {M : rb_H} {L : Nat} {xs : Nat → Int32} {a1 a2 : Value} {a3 : Int32} (ha1 : rb_isR a1) (ha2 : rb_isR a2) (hX : rb_sc κ.1 L xs) (K : (∃ q1, a1 = .ref q1 ∧ (∃ (d2 : Nat) (n3 : Nat × Nat) (Q4 : Outcome → rb_H → Prop), rb_Ct κ.1 yX0_answer wX0_answer d2 n3 [.ref q1] M Q4 ∧ rb_dp κ d2 ∧ rb_rom κ (n.1 + n3.1, n.2 + n3.2) ∧ rb_ob M q1 0 ∧ ∀ (o : Outcome) (M6 : rb_H), Q4 o M6 → (∃ (x5 : Int64), o = .returned (some (.long x5)) ∧ (∃ q7, a2 = .ref q7 ∧ (∃ (d8 : Nat) (n9 : Nat × Nat) (Q10 : Outcome → rb_H → Prop), rb_Ct κ.1 yX4_answer wX4_answer d8 n9 [.ref q7] M6 Q10 ∧ rb_dp κ d8 ∧ rb_rom κ (n.1 + n3.1 + n9.1, n.2 + n3.2 + n9.2) ∧ rb_ob M6 q7 4 ∧ ∀ (o : Outcome) (M12 : rb_H), Q10 o M12 → (∃ (x11 : Int64), o = .returned (some (.long x11)) ∧ ((x5 = x11 → rb_Bd κ mL_law (n.1 + n3.1 + n9.1, n.2 + n3.2 + n9.2) M12 1186 [some (.ref κ.1.2.2.1), some (.ref q1), some (.ref q7), some (.int a3)] []) ∧ (¬ x5 = x11 → (rb_fin κ (n.1 + n3.1 + n9.1, n.2 + n3.2 + n9.2) ∧ κ.2.2.1 (.returned (some (.int (0 : Int32)))) M12)))))))))) : rb_Bd κ mL_law n M 843 [some (.ref κ.1.2.2.1), some a1, some a2, some (.int a3)] [] := by
  refine rb_aload_n 1 rfl rfl ha1 dL_law_843 ?_
  obtain ⟨q1, eq1, Kq1⟩ := K
  subst eq1
  obtain ⟨d2, n3, Q4, h1x5, hdx5, hnx5, hox5, Kx5⟩ := Kq1
  refine rb_call st_L_97_0 (rest := []) h1x5 rfl rfl (rc_rc rfl hox5) (Nat.le_of_ble_eq_true rfl) hdx5.1 hdx5.2 hnx5.1 hnx5.2 dL_law_844 (fun o M6 hpx5 => ?_)
  obtain ⟨x5, eo, KKx5⟩ := Kx5 o M6 hpx5
  subst eo
  show rb_Bd κ mL_law (n.1 + n3.1, n.2 + n3.2) M6 847 [some (.ref κ.1.2.2.1), some (.ref q1), some a2, some (.int a3)] [.long x5]
  refine rb_aload_n 2 rfl rfl ha2 dL_law_847 ?_
  obtain ⟨q7, eq7, Kq7⟩ := KKx5
  subst eq7
  obtain ⟨d8, n9, Q10, h1x11, hdx11, hnx11, hox11, Kx11⟩ := Kq7
  refine rb_call st_L_101_4 (rest := [.long x5]) h1x11 rfl rfl (rc_rc rfl hox11) (Nat.le_of_ble_eq_true rfl) hdx11.1 hdx11.2 hnx11.1 hnx11.2 dL_law_848 (fun o M12 hpx11 => ?_)
  obtain ⟨x11, eo, KKx11⟩ := Kx11 o M12 hpx11
  subst eo
  show rb_Bd κ mL_law (n.1 + n3.1 + n9.1, n.2 + n3.2 + n9.2) M12 851 [some (.ref κ.1.2.2.1), some (.ref q1), some (.ref q7), some (.int a3)] [.long x11, .long x5]
  refine rb_lc_eq 1186 (by decide) dL_law_851 dL_law_852 (fun c13 => ?_) (fun c13 => ?_)
  · skip
    exact ((KKx11).1 c13)
  · skip
    refine rb_iconst (v := (0 : Int32)) (by decide) dL_law_855 ?_
    exact rb_iret rfl (by decide) (((KKx11).2 c13)).1.1 (((KKx11).2 c13)).1.2 dL_law_856 (((KKx11).2 c13)).2
theorem sgL_law_857 {κ : rb_K} {n : Nat × Nat} {M : rb_H} {L : Nat} {xs : Nat → Int32} {a1 a2 : Value} {a3 : Int32} (ha1 : rb_isR a1) (ha2 : rb_isR a2) (hX : rb_sc κ.1 L xs) (K : (vp_in (a3 + (1 : Int32)) L ∧ (∃ q1, a1 = .ref q1 ∧ (∃ (d2 : Nat) (n3 : Nat × Nat) (Q4 : Outcome → rb_H → Prop), rb_Ct κ.1 yX0_threw wX0_threw d2 n3 [.ref q1, .int (xs ((a3 + (1 : Int32))).toNatClampNeg)] M Q4 ∧ rb_dp κ d2 ∧ rb_rom κ (n.1 + n3.1, n.2 + n3.2) ∧ rb_ob M q1 0 ∧ ∀ (o : Outcome) (M6 : rb_H), Q4 o M6 → (∃ (x5 : Int32), o = .returned (some (.int x5)) ∧ (vp_in (a3 + (1 : Int32)) L ∧ (∃ q7, a2 = .ref q7 ∧ (∃ (d8 : Nat) (n9 : Nat × Nat) (Q10 : Outcome → rb_H → Prop), rb_Ct κ.1 yX4_threw wX4_threw d8 n9 [.ref q7, .int (xs ((a3 + (1 : Int32))).toNatClampNeg)] M6 Q10 ∧ rb_dp κ d8 ∧ rb_rom κ (n.1 + n3.1 + n9.1, n.2 + n3.2 + n9.2) ∧ rb_ob M6 q7 4 ∧ ∀ (o : Outcome) (M12 : rb_H), Q10 o M12 → (∃ (x11 : Int32), o = .returned (some (.int x11)) ∧ ((x5 = x11 → rb_Bd κ mL_law (n.1 + n3.1 + n9.1, n.2 + n3.2 + n9.2) M12 1186 [some (.ref κ.1.2.2.1), some (.ref q1), some (.ref q7), some (.int a3)] []) ∧ (¬ x5 = x11 → (rb_fin κ (n.1 + n3.1 + n9.1, n.2 + n3.2 + n9.2) ∧ κ.2.2.1 (.returned (some (.int (0 : Int32)))) M12)))))))))))) : rb_Bd κ mL_law n M 857 [some (.ref κ.1.2.2.1), some a1, some a2, some (.int a3)] [] := by
  refine rb_aload_n 1 rfl rfl ha1 dL_law_857 ?_
  refine rb_aload_n 0 rfl rfl (rb_isR_ref _) dL_law_858 ?_
  refine rb_iload_n 3 rfl rfl dL_law_859 ?_
  refine rb_iconst (v := (1 : Int32)) (by decide) dL_law_860 ?_
  refine rb_iadd (z := (a3 + (1 : Int32))) rfl dL_law_861 ?_
  refine rb_sld hX (K).1 dL_law_862 ?_
  obtain ⟨q1, eq1, Kq1⟩ := (K).2
  subst eq1
  obtain ⟨d2, n3, Q4, h1x5, hdx5, hnx5, hox5, Kx5⟩ := Kq1
  refine rb_call st_L_102_0 (rest := []) h1x5 rfl rfl (rc_rc rfl hox5) (Nat.le_of_ble_eq_true rfl) hdx5.1 hdx5.2 hnx5.1 hnx5.2 dL_law_863 (fun o M6 hpx5 => ?_)
  obtain ⟨x5, eo, KKx5⟩ := Kx5 o M6 hpx5
  subst eo
  show rb_Bd κ mL_law (n.1 + n3.1, n.2 + n3.2) M6 866 [some (.ref κ.1.2.2.1), some (.ref q1), some a2, some (.int a3)] [.int x5]
  refine rb_aload_n 2 rfl rfl ha2 dL_law_866 ?_
  refine rb_aload_n 0 rfl rfl (rb_isR_ref _) dL_law_867 ?_
  refine rb_iload_n 3 rfl rfl dL_law_868 ?_
  refine rb_iconst (v := (1 : Int32)) (by decide) dL_law_869 ?_
  refine rb_iadd (z := (a3 + (1 : Int32))) rfl dL_law_870 ?_
  refine rb_sld hX (KKx5).1 dL_law_871 ?_
  obtain ⟨q7, eq7, Kq7⟩ := (KKx5).2
  subst eq7
  obtain ⟨d8, n9, Q10, h1x11, hdx11, hnx11, hox11, Kx11⟩ := Kq7
  refine rb_call st_L_105_4 (rest := [.int x5]) h1x11 rfl rfl (rc_rc rfl hox11) (Nat.le_of_ble_eq_true rfl) hdx11.1 hdx11.2 hnx11.1 hnx11.2 dL_law_872 (fun o M12 hpx11 => ?_)
  obtain ⟨x11, eo, KKx11⟩ := Kx11 o M12 hpx11
  subst eo
  show rb_Bd κ mL_law (n.1 + n3.1 + n9.1, n.2 + n3.2 + n9.2) M12 875 [some (.ref κ.1.2.2.1), some (.ref q1), some (.ref q7), some (.int a3)] [.int x11, .int x5]
  refine rb_iceq 1186 (by decide) dL_law_875 (fun c13 => ?_) (fun c13 => ?_)
  · skip
    exact ((KKx11).1 c13)
  · skip
    refine rb_iconst (v := (0 : Int32)) (by decide) dL_law_878 ?_
    exact rb_iret rfl (by decide) (((KKx11).2 c13)).1.1 (((KKx11).2 c13)).1.2 dL_law_879 (((KKx11).2 c13)).2
theorem sgL_law_880 {κ : rb_K} {n : Nat × Nat} {M : rb_H} {L : Nat} {xs : Nat → Int32} {a1 a2 : Value} {a3 : Int32} (ha1 : rb_isR a1) (ha2 : rb_isR a2) (hX : rb_sc κ.1 L xs) (K : (∃ q1, a1 = .ref q1 ∧ (∃ (d2 : Nat) (n3 : Nat × Nat) (Q4 : Outcome → rb_H → Prop), rb_Ct κ.1 yX0_with wX0_with d2 n3 [.ref q1] M Q4 ∧ rb_dp κ d2 ∧ rb_rom κ (n.1 + n3.1, n.2 + n3.2) ∧ rb_ob M q1 0 ∧ ∀ (o : Outcome) (M6 : rb_H), Q4 o M6 → (∃ (x5 : Int64), o = .returned (some (.long x5)) ∧ (∃ q7, a2 = .ref q7 ∧ (∃ (d8 : Nat) (n9 : Nat × Nat) (Q10 : Outcome → rb_H → Prop), rb_Ct κ.1 yX4_with wX4_with d8 n9 [.ref q7] M6 Q10 ∧ rb_dp κ d8 ∧ rb_rom κ (n.1 + n3.1 + n9.1, n.2 + n3.2 + n9.2) ∧ rb_ob M6 q7 4 ∧ ∀ (o : Outcome) (M12 : rb_H), Q10 o M12 → (∃ (x11 : Int64), o = .returned (some (.long x11)) ∧ ((x5 = x11 → rb_Bd κ mL_law (n.1 + n3.1 + n9.1, n.2 + n3.2 + n9.2) M12 1186 [some (.ref κ.1.2.2.1), some (.ref q1), some (.ref q7), some (.int a3)] []) ∧ (¬ x5 = x11 → (rb_fin κ (n.1 + n3.1 + n9.1, n.2 + n3.2 + n9.2) ∧ κ.2.2.1 (.returned (some (.int (0 : Int32)))) M12)))))))))) : rb_Bd κ mL_law n M 880 [some (.ref κ.1.2.2.1), some a1, some a2, some (.int a3)] [] := by
  refine rb_aload_n 1 rfl rfl ha1 dL_law_880 ?_
  obtain ⟨q1, eq1, Kq1⟩ := K
  subst eq1
  obtain ⟨d2, n3, Q4, h1x5, hdx5, hnx5, hox5, Kx5⟩ := Kq1
  refine rb_call st_L_106_0 (rest := []) h1x5 rfl rfl (rc_rc rfl hox5) (Nat.le_of_ble_eq_true rfl) hdx5.1 hdx5.2 hnx5.1 hnx5.2 dL_law_881 (fun o M6 hpx5 => ?_)
  obtain ⟨x5, eo, KKx5⟩ := Kx5 o M6 hpx5
  subst eo
  show rb_Bd κ mL_law (n.1 + n3.1, n.2 + n3.2) M6 884 [some (.ref κ.1.2.2.1), some (.ref q1), some a2, some (.int a3)] [.long x5]
  refine rb_aload_n 2 rfl rfl ha2 dL_law_884 ?_
  obtain ⟨q7, eq7, Kq7⟩ := KKx5
  subst eq7
  obtain ⟨d8, n9, Q10, h1x11, hdx11, hnx11, hox11, Kx11⟩ := Kq7
  refine rb_call st_L_109_4 (rest := [.long x5]) h1x11 rfl rfl (rc_rc rfl hox11) (Nat.le_of_ble_eq_true rfl) hdx11.1 hdx11.2 hnx11.1 hnx11.2 dL_law_885 (fun o M12 hpx11 => ?_)
  obtain ⟨x11, eo, KKx11⟩ := Kx11 o M12 hpx11
  subst eo
  show rb_Bd κ mL_law (n.1 + n3.1 + n9.1, n.2 + n3.2 + n9.2) M12 888 [some (.ref κ.1.2.2.1), some (.ref q1), some (.ref q7), some (.int a3)] [.long x11, .long x5]
  refine rb_lc_eq 1186 (by decide) dL_law_888 dL_law_889 (fun c13 => ?_) (fun c13 => ?_)
  · skip
    exact ((KKx11).1 c13)
  · skip
    refine rb_iconst (v := (0 : Int32)) (by decide) dL_law_892 ?_
    exact rb_iret rfl (by decide) (((KKx11).2 c13)).1.1 (((KKx11).2 c13)).1.2 dL_law_893 (((KKx11).2 c13)).2
theorem sgL_law_894 {κ : rb_K} {n : Nat × Nat} {M : rb_H} {L : Nat} {xs : Nat → Int32} {a1 a2 : Value} {a3 : Int32} (ha1 : rb_isR a1) (ha2 : rb_isR a2) (hX : rb_sc κ.1 L xs) (K : (vp_in (a3 + (1 : Int32)) L ∧ (vp_in (a3 + (2 : Int32)) L ∧ (∃ q1, a1 = .ref q1 ∧ (∃ (d2 : Nat) (n3 : Nat × Nat) (Q4 : Outcome → rb_H → Prop), rb_Ct κ.1 yX0_ran wX0_ran d2 n3 [.ref q1, .int (xs ((a3 + (1 : Int32))).toNatClampNeg), .int (xs ((a3 + (2 : Int32))).toNatClampNeg)] M Q4 ∧ rb_dp κ d2 ∧ rb_rom κ (n.1 + n3.1, n.2 + n3.2) ∧ rb_ob M q1 0 ∧ ∀ (o : Outcome) (M6 : rb_H), Q4 o M6 → (∃ (x5 : Int32), o = .returned (some (.int x5)) ∧ (vp_in (a3 + (1 : Int32)) L ∧ (vp_in (a3 + (2 : Int32)) L ∧ (∃ q7, a2 = .ref q7 ∧ (∃ (d8 : Nat) (n9 : Nat × Nat) (Q10 : Outcome → rb_H → Prop), rb_Ct κ.1 yX4_ran wX4_ran d8 n9 [.ref q7, .int (xs ((a3 + (1 : Int32))).toNatClampNeg), .int (xs ((a3 + (2 : Int32))).toNatClampNeg)] M6 Q10 ∧ rb_dp κ d8 ∧ rb_rom κ (n.1 + n3.1 + n9.1, n.2 + n3.2 + n9.2) ∧ rb_ob M6 q7 4 ∧ ∀ (o : Outcome) (M12 : rb_H), Q10 o M12 → (∃ (x11 : Int32), o = .returned (some (.int x11)) ∧ ((x5 = x11 → rb_Bd κ mL_law (n.1 + n3.1 + n9.1, n.2 + n3.2 + n9.2) M12 1186 [some (.ref κ.1.2.2.1), some (.ref q1), some (.ref q7), some (.int a3)] []) ∧ (¬ x5 = x11 → (rb_fin κ (n.1 + n3.1 + n9.1, n.2 + n3.2 + n9.2) ∧ κ.2.2.1 (.returned (some (.int (0 : Int32)))) M12)))))))))))))) : rb_Bd κ mL_law n M 894 [some (.ref κ.1.2.2.1), some a1, some a2, some (.int a3)] [] := by
  refine rb_aload_n 1 rfl rfl ha1 dL_law_894 ?_
  refine rb_aload_n 0 rfl rfl (rb_isR_ref _) dL_law_895 ?_
  refine rb_iload_n 3 rfl rfl dL_law_896 ?_
  refine rb_iconst (v := (1 : Int32)) (by decide) dL_law_897 ?_
  refine rb_iadd (z := (a3 + (1 : Int32))) rfl dL_law_898 ?_
  refine rb_sld hX (K).1 dL_law_899 ?_
  refine rb_aload_n 0 rfl rfl (rb_isR_ref _) dL_law_900 ?_
  refine rb_iload_n 3 rfl rfl dL_law_901 ?_
  refine rb_iconst (v := (2 : Int32)) (by decide) dL_law_902 ?_
  refine rb_iadd (z := (a3 + (2 : Int32))) rfl dL_law_903 ?_
  refine rb_sld hX ((K).2).1 dL_law_904 ?_
  obtain ⟨q1, eq1, Kq1⟩ := ((K).2).2
  subst eq1
  obtain ⟨d2, n3, Q4, h1x5, hdx5, hnx5, hox5, Kx5⟩ := Kq1
  refine rb_call st_L_110_0 (rest := []) h1x5 rfl rfl (rc_rc rfl hox5) (Nat.le_of_ble_eq_true rfl) hdx5.1 hdx5.2 hnx5.1 hnx5.2 dL_law_905 (fun o M6 hpx5 => ?_)
  obtain ⟨x5, eo, KKx5⟩ := Kx5 o M6 hpx5
  subst eo
  show rb_Bd κ mL_law (n.1 + n3.1, n.2 + n3.2) M6 908 [some (.ref κ.1.2.2.1), some (.ref q1), some a2, some (.int a3)] [.int x5]
  refine rb_aload_n 2 rfl rfl ha2 dL_law_908 ?_
  refine rb_aload_n 0 rfl rfl (rb_isR_ref _) dL_law_909 ?_
  refine rb_iload_n 3 rfl rfl dL_law_910 ?_
  refine rb_iconst (v := (1 : Int32)) (by decide) dL_law_911 ?_
  refine rb_iadd (z := (a3 + (1 : Int32))) rfl dL_law_912 ?_
  refine rb_sld hX (KKx5).1 dL_law_913 ?_
  refine rb_aload_n 0 rfl rfl (rb_isR_ref _) dL_law_914 ?_
  refine rb_iload_n 3 rfl rfl dL_law_915 ?_
  refine rb_iconst (v := (2 : Int32)) (by decide) dL_law_916 ?_
  refine rb_iadd (z := (a3 + (2 : Int32))) rfl dL_law_917 ?_
  refine rb_sld hX ((KKx5).2).1 dL_law_918 ?_
  obtain ⟨q7, eq7, Kq7⟩ := ((KKx5).2).2
  subst eq7
  obtain ⟨d8, n9, Q10, h1x11, hdx11, hnx11, hox11, Kx11⟩ := Kq7
  refine rb_call st_L_113_4 (rest := [.int x5]) h1x11 rfl rfl (rc_rc rfl hox11) (Nat.le_of_ble_eq_true rfl) hdx11.1 hdx11.2 hnx11.1 hnx11.2 dL_law_919 (fun o M12 hpx11 => ?_)
  obtain ⟨x11, eo, KKx11⟩ := Kx11 o M12 hpx11
  subst eo
  show rb_Bd κ mL_law (n.1 + n3.1 + n9.1, n.2 + n3.2 + n9.2) M12 922 [some (.ref κ.1.2.2.1), some (.ref q1), some (.ref q7), some (.int a3)] [.int x11, .int x5]
  refine rb_iceq 1186 (by decide) dL_law_922 (fun c13 => ?_) (fun c13 => ?_)
  · skip
    exact ((KKx11).1 c13)
  · skip
    refine rb_iconst (v := (0 : Int32)) (by decide) dL_law_925 ?_
    exact rb_iret rfl (by decide) (((KKx11).2 c13)).1.1 (((KKx11).2 c13)).1.2 dL_law_926 (((KKx11).2 c13)).2
theorem sgL_law_927 {κ : rb_K} {n : Nat × Nat} {M : rb_H} {L : Nat} {xs : Nat → Int32} {a1 a2 : Value} {a3 : Int32} (ha1 : rb_isR a1) (ha2 : rb_isR a2) (hX : rb_sc κ.1 L xs) (K : (∃ q1, a1 = .ref q1 ∧ (∃ (d2 : Nat) (n3 : Nat × Nat) (Q4 : Outcome → rb_H → Prop), rb_Ct κ.1 yX0_marks wX0_marks d2 n3 [.ref q1] M Q4 ∧ rb_dp κ d2 ∧ rb_rom κ (n.1 + n3.1, n.2 + n3.2) ∧ rb_ob M q1 0 ∧ ∀ (o : Outcome) (M6 : rb_H), Q4 o M6 → (∃ (x5 : Int32), o = .returned (some (.int x5)) ∧ (∃ q7, a2 = .ref q7 ∧ (∃ (d8 : Nat) (n9 : Nat × Nat) (Q10 : Outcome → rb_H → Prop), rb_Ct κ.1 yX4_marks wX4_marks d8 n9 [.ref q7] M6 Q10 ∧ rb_dp κ d8 ∧ rb_rom κ (n.1 + n3.1 + n9.1, n.2 + n3.2 + n9.2) ∧ rb_ob M6 q7 4 ∧ ∀ (o : Outcome) (M12 : rb_H), Q10 o M12 → (∃ (x11 : Int32), o = .returned (some (.int x11)) ∧ ((x5 = x11 → rb_Bd κ mL_law (n.1 + n3.1 + n9.1, n.2 + n3.2 + n9.2) M12 1186 [some (.ref κ.1.2.2.1), some (.ref q1), some (.ref q7), some (.int a3)] []) ∧ (¬ x5 = x11 → (rb_fin κ (n.1 + n3.1 + n9.1, n.2 + n3.2 + n9.2) ∧ κ.2.2.1 (.returned (some (.int (0 : Int32)))) M12)))))))))) : rb_Bd κ mL_law n M 927 [some (.ref κ.1.2.2.1), some a1, some a2, some (.int a3)] [] := by
  refine rb_aload_n 1 rfl rfl ha1 dL_law_927 ?_
  obtain ⟨q1, eq1, Kq1⟩ := K
  subst eq1
  obtain ⟨d2, n3, Q4, h1x5, hdx5, hnx5, hox5, Kx5⟩ := Kq1
  refine rb_call st_L_114_0 (rest := []) h1x5 rfl rfl (rc_rc rfl hox5) (Nat.le_of_ble_eq_true rfl) hdx5.1 hdx5.2 hnx5.1 hnx5.2 dL_law_928 (fun o M6 hpx5 => ?_)
  obtain ⟨x5, eo, KKx5⟩ := Kx5 o M6 hpx5
  subst eo
  show rb_Bd κ mL_law (n.1 + n3.1, n.2 + n3.2) M6 931 [some (.ref κ.1.2.2.1), some (.ref q1), some a2, some (.int a3)] [.int x5]
  refine rb_aload_n 2 rfl rfl ha2 dL_law_931 ?_
  obtain ⟨q7, eq7, Kq7⟩ := KKx5
  subst eq7
  obtain ⟨d8, n9, Q10, h1x11, hdx11, hnx11, hox11, Kx11⟩ := Kq7
  refine rb_call st_L_117_4 (rest := [.int x5]) h1x11 rfl rfl (rc_rc rfl hox11) (Nat.le_of_ble_eq_true rfl) hdx11.1 hdx11.2 hnx11.1 hnx11.2 dL_law_932 (fun o M12 hpx11 => ?_)
  obtain ⟨x11, eo, KKx11⟩ := Kx11 o M12 hpx11
  subst eo
  show rb_Bd κ mL_law (n.1 + n3.1 + n9.1, n.2 + n3.2 + n9.2) M12 935 [some (.ref κ.1.2.2.1), some (.ref q1), some (.ref q7), some (.int a3)] [.int x11, .int x5]
  refine rb_iceq 1186 (by decide) dL_law_935 (fun c13 => ?_) (fun c13 => ?_)
  · skip
    exact ((KKx11).1 c13)
  · skip
    refine rb_iconst (v := (0 : Int32)) (by decide) dL_law_938 ?_
    exact rb_iret rfl (by decide) (((KKx11).2 c13)).1.1 (((KKx11).2 c13)).1.2 dL_law_939 (((KKx11).2 c13)).2
theorem sgL_law_940 {κ : rb_K} {n : Nat × Nat} {M : rb_H} {L : Nat} {xs : Nat → Int32} {a1 a2 : Value} {a3 : Int32} (ha1 : rb_isR a1) (ha2 : rb_isR a2) (hX : rb_sc κ.1 L xs) (K : (vp_in (a3 + (1 : Int32)) L ∧ (∃ q1, a1 = .ref q1 ∧ (∃ (d2 : Nat) (n3 : Nat × Nat) (Q4 : Outcome → rb_H → Prop), rb_Ct κ.1 yX0_mark wX0_mark d2 n3 [.ref q1, .int (xs ((a3 + (1 : Int32))).toNatClampNeg)] M Q4 ∧ rb_dp κ d2 ∧ rb_rom κ (n.1 + n3.1, n.2 + n3.2) ∧ rb_ob M q1 0 ∧ ∀ (o : Outcome) (M6 : rb_H), Q4 o M6 → (∃ (x5 : Int32), o = .returned (some (.int x5)) ∧ (vp_in (a3 + (1 : Int32)) L ∧ (∃ q7, a2 = .ref q7 ∧ (∃ (d8 : Nat) (n9 : Nat × Nat) (Q10 : Outcome → rb_H → Prop), rb_Ct κ.1 yX4_mark wX4_mark d8 n9 [.ref q7, .int (xs ((a3 + (1 : Int32))).toNatClampNeg)] M6 Q10 ∧ rb_dp κ d8 ∧ rb_rom κ (n.1 + n3.1 + n9.1, n.2 + n3.2 + n9.2) ∧ rb_ob M6 q7 4 ∧ ∀ (o : Outcome) (M12 : rb_H), Q10 o M12 → (∃ (x11 : Int32), o = .returned (some (.int x11)) ∧ ((x5 = x11 → rb_Bd κ mL_law (n.1 + n3.1 + n9.1, n.2 + n3.2 + n9.2) M12 1186 [some (.ref κ.1.2.2.1), some (.ref q1), some (.ref q7), some (.int a3)] []) ∧ (¬ x5 = x11 → (rb_fin κ (n.1 + n3.1 + n9.1, n.2 + n3.2 + n9.2) ∧ κ.2.2.1 (.returned (some (.int (0 : Int32)))) M12)))))))))))) : rb_Bd κ mL_law n M 940 [some (.ref κ.1.2.2.1), some a1, some a2, some (.int a3)] [] := by
  refine rb_aload_n 1 rfl rfl ha1 dL_law_940 ?_
  refine rb_aload_n 0 rfl rfl (rb_isR_ref _) dL_law_941 ?_
  refine rb_iload_n 3 rfl rfl dL_law_942 ?_
  refine rb_iconst (v := (1 : Int32)) (by decide) dL_law_943 ?_
  refine rb_iadd (z := (a3 + (1 : Int32))) rfl dL_law_944 ?_
  refine rb_sld hX (K).1 dL_law_945 ?_
  obtain ⟨q1, eq1, Kq1⟩ := (K).2
  subst eq1
  obtain ⟨d2, n3, Q4, h1x5, hdx5, hnx5, hox5, Kx5⟩ := Kq1
  refine rb_call st_L_118_0 (rest := []) h1x5 rfl rfl (rc_rc rfl hox5) (Nat.le_of_ble_eq_true rfl) hdx5.1 hdx5.2 hnx5.1 hnx5.2 dL_law_946 (fun o M6 hpx5 => ?_)
  obtain ⟨x5, eo, KKx5⟩ := Kx5 o M6 hpx5
  subst eo
  show rb_Bd κ mL_law (n.1 + n3.1, n.2 + n3.2) M6 949 [some (.ref κ.1.2.2.1), some (.ref q1), some a2, some (.int a3)] [.int x5]
  refine rb_aload_n 2 rfl rfl ha2 dL_law_949 ?_
  refine rb_aload_n 0 rfl rfl (rb_isR_ref _) dL_law_950 ?_
  refine rb_iload_n 3 rfl rfl dL_law_951 ?_
  refine rb_iconst (v := (1 : Int32)) (by decide) dL_law_952 ?_
  refine rb_iadd (z := (a3 + (1 : Int32))) rfl dL_law_953 ?_
  refine rb_sld hX (KKx5).1 dL_law_954 ?_
  obtain ⟨q7, eq7, Kq7⟩ := (KKx5).2
  subst eq7
  obtain ⟨d8, n9, Q10, h1x11, hdx11, hnx11, hox11, Kx11⟩ := Kq7
  refine rb_call st_L_121_4 (rest := [.int x5]) h1x11 rfl rfl (rc_rc rfl hox11) (Nat.le_of_ble_eq_true rfl) hdx11.1 hdx11.2 hnx11.1 hnx11.2 dL_law_955 (fun o M12 hpx11 => ?_)
  obtain ⟨x11, eo, KKx11⟩ := Kx11 o M12 hpx11
  subst eo
  show rb_Bd κ mL_law (n.1 + n3.1 + n9.1, n.2 + n3.2 + n9.2) M12 958 [some (.ref κ.1.2.2.1), some (.ref q1), some (.ref q7), some (.int a3)] [.int x11, .int x5]
  refine rb_iceq 1186 (by decide) dL_law_958 (fun c13 => ?_) (fun c13 => ?_)
  · skip
    exact ((KKx11).1 c13)
  · skip
    refine rb_iconst (v := (0 : Int32)) (by decide) dL_law_961 ?_
    exact rb_iret rfl (by decide) (((KKx11).2 c13)).1.1 (((KKx11).2 c13)).1.2 dL_law_962 (((KKx11).2 c13)).2
theorem sgL_law_963 {κ : rb_K} {n : Nat × Nat} {M : rb_H} {L : Nat} {xs : Nat → Int32} {a1 a2 : Value} {a3 : Int32} (ha1 : rb_isR a1) (ha2 : rb_isR a2) (hX : rb_sc κ.1 L xs) (K : (vp_in (a3 + (1 : Int32)) L ∧ (vp_in (a3 + (2 : Int32)) L ∧ (vp_in (a3 + (3 : Int32)) L ∧ (∃ q1, a1 = .ref q1 ∧ (∃ (d2 : Nat) (n3 : Nat × Nat) (Q4 : Outcome → rb_H → Prop), rb_Ct κ.1 yX0_cell wX0_cell d2 n3 [.ref q1, .int (xs ((a3 + (1 : Int32))).toNatClampNeg), .int (xs ((a3 + (2 : Int32))).toNatClampNeg), .int (xs ((a3 + (3 : Int32))).toNatClampNeg)] M Q4 ∧ rb_dp κ d2 ∧ rb_rom κ (n.1 + n3.1, n.2 + n3.2) ∧ rb_ob M q1 0 ∧ ∀ (o : Outcome) (M6 : rb_H), Q4 o M6 → (∃ (x5 : Int32), o = .returned (some (.int x5)) ∧ (vp_in (a3 + (1 : Int32)) L ∧ (vp_in (a3 + (2 : Int32)) L ∧ (vp_in (a3 + (3 : Int32)) L ∧ (∃ q7, a2 = .ref q7 ∧ (∃ (d8 : Nat) (n9 : Nat × Nat) (Q10 : Outcome → rb_H → Prop), rb_Ct κ.1 yX4_cell wX4_cell d8 n9 [.ref q7, .int (xs ((a3 + (1 : Int32))).toNatClampNeg), .int (xs ((a3 + (2 : Int32))).toNatClampNeg), .int (xs ((a3 + (3 : Int32))).toNatClampNeg)] M6 Q10 ∧ rb_dp κ d8 ∧ rb_rom κ (n.1 + n3.1 + n9.1, n.2 + n3.2 + n9.2) ∧ rb_ob M6 q7 4 ∧ ∀ (o : Outcome) (M12 : rb_H), Q10 o M12 → (∃ (x11 : Int32), o = .returned (some (.int x11)) ∧ ((x5 = x11 → rb_Bd κ mL_law (n.1 + n3.1 + n9.1, n.2 + n3.2 + n9.2) M12 1186 [some (.ref κ.1.2.2.1), some (.ref q1), some (.ref q7), some (.int a3)] []) ∧ (¬ x5 = x11 → (rb_fin κ (n.1 + n3.1 + n9.1, n.2 + n3.2 + n9.2) ∧ κ.2.2.1 (.returned (some (.int (0 : Int32)))) M12)))))))))))))))) : rb_Bd κ mL_law n M 963 [some (.ref κ.1.2.2.1), some a1, some a2, some (.int a3)] [] := by
  refine rb_aload_n 1 rfl rfl ha1 dL_law_963 ?_
  refine rb_aload_n 0 rfl rfl (rb_isR_ref _) dL_law_964 ?_
  refine rb_iload_n 3 rfl rfl dL_law_965 ?_
  refine rb_iconst (v := (1 : Int32)) (by decide) dL_law_966 ?_
  refine rb_iadd (z := (a3 + (1 : Int32))) rfl dL_law_967 ?_
  refine rb_sld hX (K).1 dL_law_968 ?_
  refine rb_aload_n 0 rfl rfl (rb_isR_ref _) dL_law_969 ?_
  refine rb_iload_n 3 rfl rfl dL_law_970 ?_
  refine rb_iconst (v := (2 : Int32)) (by decide) dL_law_971 ?_
  refine rb_iadd (z := (a3 + (2 : Int32))) rfl dL_law_972 ?_
  refine rb_sld hX ((K).2).1 dL_law_973 ?_
  refine rb_aload_n 0 rfl rfl (rb_isR_ref _) dL_law_974 ?_
  refine rb_iload_n 3 rfl rfl dL_law_975 ?_
  refine rb_iconst (v := (3 : Int32)) (by decide) dL_law_976 ?_
  refine rb_iadd (z := (a3 + (3 : Int32))) rfl dL_law_977 ?_
  refine rb_sld hX (((K).2).2).1 dL_law_978 ?_
  obtain ⟨q1, eq1, Kq1⟩ := (((K).2).2).2
  subst eq1
  obtain ⟨d2, n3, Q4, h1x5, hdx5, hnx5, hox5, Kx5⟩ := Kq1
  refine rb_call st_L_122_0 (rest := []) h1x5 rfl rfl (rc_rc rfl hox5) (Nat.le_of_ble_eq_true rfl) hdx5.1 hdx5.2 hnx5.1 hnx5.2 dL_law_979 (fun o M6 hpx5 => ?_)
  obtain ⟨x5, eo, KKx5⟩ := Kx5 o M6 hpx5
  subst eo
  show rb_Bd κ mL_law (n.1 + n3.1, n.2 + n3.2) M6 982 [some (.ref κ.1.2.2.1), some (.ref q1), some a2, some (.int a3)] [.int x5]
  refine rb_aload_n 2 rfl rfl ha2 dL_law_982 ?_
  refine rb_aload_n 0 rfl rfl (rb_isR_ref _) dL_law_983 ?_
  refine rb_iload_n 3 rfl rfl dL_law_984 ?_
  refine rb_iconst (v := (1 : Int32)) (by decide) dL_law_985 ?_
  refine rb_iadd (z := (a3 + (1 : Int32))) rfl dL_law_986 ?_
  refine rb_sld hX (KKx5).1 dL_law_987 ?_
  refine rb_aload_n 0 rfl rfl (rb_isR_ref _) dL_law_988 ?_
  refine rb_iload_n 3 rfl rfl dL_law_989 ?_
  refine rb_iconst (v := (2 : Int32)) (by decide) dL_law_990 ?_
  refine rb_iadd (z := (a3 + (2 : Int32))) rfl dL_law_991 ?_
  refine rb_sld hX ((KKx5).2).1 dL_law_992 ?_
  refine rb_aload_n 0 rfl rfl (rb_isR_ref _) dL_law_993 ?_
  refine rb_iload_n 3 rfl rfl dL_law_994 ?_
  refine rb_iconst (v := (3 : Int32)) (by decide) dL_law_995 ?_
  refine rb_iadd (z := (a3 + (3 : Int32))) rfl dL_law_996 ?_
  refine rb_sld hX (((KKx5).2).2).1 dL_law_997 ?_
  obtain ⟨q7, eq7, Kq7⟩ := (((KKx5).2).2).2
  subst eq7
  obtain ⟨d8, n9, Q10, h1x11, hdx11, hnx11, hox11, Kx11⟩ := Kq7
  refine rb_call st_L_125_4 (rest := [.int x5]) h1x11 rfl rfl (rc_rc rfl hox11) (Nat.le_of_ble_eq_true rfl) hdx11.1 hdx11.2 hnx11.1 hnx11.2 dL_law_998 (fun o M12 hpx11 => ?_)
  obtain ⟨x11, eo, KKx11⟩ := Kx11 o M12 hpx11
  subst eo
  show rb_Bd κ mL_law (n.1 + n3.1 + n9.1, n.2 + n3.2 + n9.2) M12 1001 [some (.ref κ.1.2.2.1), some (.ref q1), some (.ref q7), some (.int a3)] [.int x11, .int x5]
  refine rb_iceq 1186 (by decide) dL_law_1001 (fun c13 => ?_) (fun c13 => ?_)
  · skip
    exact ((KKx11).1 c13)
  · skip
    refine rb_iconst (v := (0 : Int32)) (by decide) dL_law_1004 ?_
    exact rb_iret rfl (by decide) (((KKx11).2 c13)).1.1 (((KKx11).2 c13)).1.2 dL_law_1005 (((KKx11).2 c13)).2
theorem sgL_law_1006 {κ : rb_K} {n : Nat × Nat} {M : rb_H} {L : Nat} {xs : Nat → Int32} {a1 a2 : Value} {a3 : Int32} (ha1 : rb_isR a1) (ha2 : rb_isR a2) (hX : rb_sc κ.1 L xs) (K : (vp_in (a3 + (1 : Int32)) L ∧ (vp_in (a3 + (2 : Int32)) L ∧ (vp_in (a3 + (3 : Int32)) L ∧ (vp_in (a3 + (4 : Int32)) L ∧ (∃ q1, a1 = .ref q1 ∧ (∃ (d2 : Nat) (n3 : Nat × Nat) (Q4 : Outcome → rb_H → Prop), rb_Ct κ.1 yX0_row wX0_row d2 n3 [.ref q1, .int (xs ((a3 + (1 : Int32))).toNatClampNeg), .int (xs ((a3 + (2 : Int32))).toNatClampNeg), .int (xs ((a3 + (3 : Int32))).toNatClampNeg), .int (xs ((a3 + (4 : Int32))).toNatClampNeg)] M Q4 ∧ rb_dp κ d2 ∧ rb_rom κ (n.1 + n3.1, n.2 + n3.2) ∧ rb_ob M q1 0 ∧ ∀ (o : Outcome) (M6 : rb_H), Q4 o M6 → (∃ (x5 : Int32), o = .returned (some (.int x5)) ∧ (vp_in (a3 + (1 : Int32)) L ∧ (vp_in (a3 + (2 : Int32)) L ∧ (vp_in (a3 + (3 : Int32)) L ∧ (vp_in (a3 + (4 : Int32)) L ∧ (∃ q7, a2 = .ref q7 ∧ (∃ (d8 : Nat) (n9 : Nat × Nat) (Q10 : Outcome → rb_H → Prop), rb_Ct κ.1 yX4_row wX4_row d8 n9 [.ref q7, .int (xs ((a3 + (1 : Int32))).toNatClampNeg), .int (xs ((a3 + (2 : Int32))).toNatClampNeg), .int (xs ((a3 + (3 : Int32))).toNatClampNeg), .int (xs ((a3 + (4 : Int32))).toNatClampNeg)] M6 Q10 ∧ rb_dp κ d8 ∧ rb_rom κ (n.1 + n3.1 + n9.1, n.2 + n3.2 + n9.2) ∧ rb_ob M6 q7 4 ∧ ∀ (o : Outcome) (M12 : rb_H), Q10 o M12 → (∃ (x11 : Int32), o = .returned (some (.int x11)) ∧ ((x5 = x11 → rb_Bd κ mL_law (n.1 + n3.1 + n9.1, n.2 + n3.2 + n9.2) M12 1186 [some (.ref κ.1.2.2.1), some (.ref q1), some (.ref q7), some (.int a3)] []) ∧ (¬ x5 = x11 → (rb_fin κ (n.1 + n3.1 + n9.1, n.2 + n3.2 + n9.2) ∧ κ.2.2.1 (.returned (some (.int (0 : Int32)))) M12)))))))))))))))))) : rb_Bd κ mL_law n M 1006 [some (.ref κ.1.2.2.1), some a1, some a2, some (.int a3)] [] := by
  refine rb_aload_n 1 rfl rfl ha1 dL_law_1006 ?_
  refine rb_aload_n 0 rfl rfl (rb_isR_ref _) dL_law_1007 ?_
  refine rb_iload_n 3 rfl rfl dL_law_1008 ?_
  refine rb_iconst (v := (1 : Int32)) (by decide) dL_law_1009 ?_
  refine rb_iadd (z := (a3 + (1 : Int32))) rfl dL_law_1010 ?_
  refine rb_sld hX (K).1 dL_law_1011 ?_
  refine rb_aload_n 0 rfl rfl (rb_isR_ref _) dL_law_1012 ?_
  refine rb_iload_n 3 rfl rfl dL_law_1013 ?_
  refine rb_iconst (v := (2 : Int32)) (by decide) dL_law_1014 ?_
  refine rb_iadd (z := (a3 + (2 : Int32))) rfl dL_law_1015 ?_
  refine rb_sld hX ((K).2).1 dL_law_1016 ?_
  refine rb_aload_n 0 rfl rfl (rb_isR_ref _) dL_law_1017 ?_
  refine rb_iload_n 3 rfl rfl dL_law_1018 ?_
  refine rb_iconst (v := (3 : Int32)) (by decide) dL_law_1019 ?_
  refine rb_iadd (z := (a3 + (3 : Int32))) rfl dL_law_1020 ?_
  refine rb_sld hX (((K).2).2).1 dL_law_1021 ?_
  refine rb_aload_n 0 rfl rfl (rb_isR_ref _) dL_law_1022 ?_
  refine rb_iload_n 3 rfl rfl dL_law_1023 ?_
  refine rb_iconst (v := (4 : Int32)) (by decide) dL_law_1024 ?_
  refine rb_iadd (z := (a3 + (4 : Int32))) rfl dL_law_1025 ?_
  refine rb_sld hX ((((K).2).2).2).1 dL_law_1026 ?_
  obtain ⟨q1, eq1, Kq1⟩ := ((((K).2).2).2).2
  subst eq1
  obtain ⟨d2, n3, Q4, h1x5, hdx5, hnx5, hox5, Kx5⟩ := Kq1
  refine rb_call st_L_126_0 (rest := []) h1x5 rfl rfl (rc_rc rfl hox5) (Nat.le_of_ble_eq_true rfl) hdx5.1 hdx5.2 hnx5.1 hnx5.2 dL_law_1027 (fun o M6 hpx5 => ?_)
  obtain ⟨x5, eo, KKx5⟩ := Kx5 o M6 hpx5
  subst eo
  show rb_Bd κ mL_law (n.1 + n3.1, n.2 + n3.2) M6 1030 [some (.ref κ.1.2.2.1), some (.ref q1), some a2, some (.int a3)] [.int x5]
  refine rb_aload_n 2 rfl rfl ha2 dL_law_1030 ?_
  refine rb_aload_n 0 rfl rfl (rb_isR_ref _) dL_law_1031 ?_
  refine rb_iload_n 3 rfl rfl dL_law_1032 ?_
  refine rb_iconst (v := (1 : Int32)) (by decide) dL_law_1033 ?_
  refine rb_iadd (z := (a3 + (1 : Int32))) rfl dL_law_1034 ?_
  refine rb_sld hX (KKx5).1 dL_law_1035 ?_
  refine rb_aload_n 0 rfl rfl (rb_isR_ref _) dL_law_1036 ?_
  refine rb_iload_n 3 rfl rfl dL_law_1037 ?_
  refine rb_iconst (v := (2 : Int32)) (by decide) dL_law_1038 ?_
  refine rb_iadd (z := (a3 + (2 : Int32))) rfl dL_law_1039 ?_
  refine rb_sld hX ((KKx5).2).1 dL_law_1040 ?_
  refine rb_aload_n 0 rfl rfl (rb_isR_ref _) dL_law_1041 ?_
  refine rb_iload_n 3 rfl rfl dL_law_1042 ?_
  refine rb_iconst (v := (3 : Int32)) (by decide) dL_law_1043 ?_
  refine rb_iadd (z := (a3 + (3 : Int32))) rfl dL_law_1044 ?_
  refine rb_sld hX (((KKx5).2).2).1 dL_law_1045 ?_
  refine rb_aload_n 0 rfl rfl (rb_isR_ref _) dL_law_1046 ?_
  refine rb_iload_n 3 rfl rfl dL_law_1047 ?_
  refine rb_iconst (v := (4 : Int32)) (by decide) dL_law_1048 ?_
  refine rb_iadd (z := (a3 + (4 : Int32))) rfl dL_law_1049 ?_
  refine rb_sld hX ((((KKx5).2).2).2).1 dL_law_1050 ?_
  obtain ⟨q7, eq7, Kq7⟩ := ((((KKx5).2).2).2).2
  subst eq7
  obtain ⟨d8, n9, Q10, h1x11, hdx11, hnx11, hox11, Kx11⟩ := Kq7
  refine rb_call st_L_129_4 (rest := [.int x5]) h1x11 rfl rfl (rc_rc rfl hox11) (Nat.le_of_ble_eq_true rfl) hdx11.1 hdx11.2 hnx11.1 hnx11.2 dL_law_1051 (fun o M12 hpx11 => ?_)
  obtain ⟨x11, eo, KKx11⟩ := Kx11 o M12 hpx11
  subst eo
  show rb_Bd κ mL_law (n.1 + n3.1 + n9.1, n.2 + n3.2 + n9.2) M12 1054 [some (.ref κ.1.2.2.1), some (.ref q1), some (.ref q7), some (.int a3)] [.int x11, .int x5]
  refine rb_iceq 1186 (by decide) dL_law_1054 (fun c13 => ?_) (fun c13 => ?_)
  · skip
    exact ((KKx11).1 c13)
  · skip
    refine rb_iconst (v := (0 : Int32)) (by decide) dL_law_1057 ?_
    exact rb_iret rfl (by decide) (((KKx11).2 c13)).1.1 (((KKx11).2 c13)).1.2 dL_law_1058 (((KKx11).2 c13)).2
theorem sgL_law_1059 {κ : rb_K} {n : Nat × Nat} {M : rb_H} {L : Nat} {xs : Nat → Int32} {a1 a2 : Value} {a3 : Int32} (ha1 : rb_isR a1) (ha2 : rb_isR a2) (hX : rb_sc κ.1 L xs) (K : (vp_in (a3 + (1 : Int32)) L ∧ (vp_in (a3 + (2 : Int32)) L ∧ (vp_in (a3 + (3 : Int32)) L ∧ (vp_in (a3 + (4 : Int32)) L ∧ (∃ q1, a1 = .ref q1 ∧ (∃ (d2 : Nat) (n3 : Nat × Nat) (Q4 : Outcome → rb_H → Prop), rb_Ct κ.1 yX0_hold wX0_hold d2 n3 [.ref q1, .int (xs ((a3 + (1 : Int32))).toNatClampNeg), .int (xs ((a3 + (2 : Int32))).toNatClampNeg), .int (xs ((a3 + (3 : Int32))).toNatClampNeg), .int (xs ((a3 + (4 : Int32))).toNatClampNeg)] M Q4 ∧ rb_dp κ d2 ∧ rb_rom κ (n.1 + n3.1, n.2 + n3.2) ∧ rb_ob M q1 0 ∧ ∀ (o : Outcome) (M6 : rb_H), Q4 o M6 → (∃ (x5 : Int32), o = .returned (some (.int x5)) ∧ (vp_in (a3 + (1 : Int32)) L ∧ (vp_in (a3 + (2 : Int32)) L ∧ (vp_in (a3 + (3 : Int32)) L ∧ (vp_in (a3 + (4 : Int32)) L ∧ (∃ q7, a2 = .ref q7 ∧ (∃ (d8 : Nat) (n9 : Nat × Nat) (Q10 : Outcome → rb_H → Prop), rb_Ct κ.1 yX4_hold wX4_hold d8 n9 [.ref q7, .int (xs ((a3 + (1 : Int32))).toNatClampNeg), .int (xs ((a3 + (2 : Int32))).toNatClampNeg), .int (xs ((a3 + (3 : Int32))).toNatClampNeg), .int (xs ((a3 + (4 : Int32))).toNatClampNeg)] M6 Q10 ∧ rb_dp κ d8 ∧ rb_rom κ (n.1 + n3.1 + n9.1, n.2 + n3.2 + n9.2) ∧ rb_ob M6 q7 4 ∧ ∀ (o : Outcome) (M12 : rb_H), Q10 o M12 → (∃ (x11 : Int32), o = .returned (some (.int x11)) ∧ ((x5 = x11 → rb_Bd κ mL_law (n.1 + n3.1 + n9.1, n.2 + n3.2 + n9.2) M12 1186 [some (.ref κ.1.2.2.1), some (.ref q1), some (.ref q7), some (.int a3)] []) ∧ (¬ x5 = x11 → (rb_fin κ (n.1 + n3.1 + n9.1, n.2 + n3.2 + n9.2) ∧ κ.2.2.1 (.returned (some (.int (0 : Int32)))) M12)))))))))))))))))) : rb_Bd κ mL_law n M 1059 [some (.ref κ.1.2.2.1), some a1, some a2, some (.int a3)] [] := by
  refine rb_aload_n 1 rfl rfl ha1 dL_law_1059 ?_
  refine rb_aload_n 0 rfl rfl (rb_isR_ref _) dL_law_1060 ?_
  refine rb_iload_n 3 rfl rfl dL_law_1061 ?_
  refine rb_iconst (v := (1 : Int32)) (by decide) dL_law_1062 ?_
  refine rb_iadd (z := (a3 + (1 : Int32))) rfl dL_law_1063 ?_
  refine rb_sld hX (K).1 dL_law_1064 ?_
  refine rb_aload_n 0 rfl rfl (rb_isR_ref _) dL_law_1065 ?_
  refine rb_iload_n 3 rfl rfl dL_law_1066 ?_
  refine rb_iconst (v := (2 : Int32)) (by decide) dL_law_1067 ?_
  refine rb_iadd (z := (a3 + (2 : Int32))) rfl dL_law_1068 ?_
  refine rb_sld hX ((K).2).1 dL_law_1069 ?_
  refine rb_aload_n 0 rfl rfl (rb_isR_ref _) dL_law_1070 ?_
  refine rb_iload_n 3 rfl rfl dL_law_1071 ?_
  refine rb_iconst (v := (3 : Int32)) (by decide) dL_law_1072 ?_
  refine rb_iadd (z := (a3 + (3 : Int32))) rfl dL_law_1073 ?_
  refine rb_sld hX (((K).2).2).1 dL_law_1074 ?_
  refine rb_aload_n 0 rfl rfl (rb_isR_ref _) dL_law_1075 ?_
  refine rb_iload_n 3 rfl rfl dL_law_1076 ?_
  refine rb_iconst (v := (4 : Int32)) (by decide) dL_law_1077 ?_
  refine rb_iadd (z := (a3 + (4 : Int32))) rfl dL_law_1078 ?_
  refine rb_sld hX ((((K).2).2).2).1 dL_law_1079 ?_
  obtain ⟨q1, eq1, Kq1⟩ := ((((K).2).2).2).2
  subst eq1
  obtain ⟨d2, n3, Q4, h1x5, hdx5, hnx5, hox5, Kx5⟩ := Kq1
  refine rb_call st_L_130_0 (rest := []) h1x5 rfl rfl (rc_rc rfl hox5) (Nat.le_of_ble_eq_true rfl) hdx5.1 hdx5.2 hnx5.1 hnx5.2 dL_law_1080 (fun o M6 hpx5 => ?_)
  obtain ⟨x5, eo, KKx5⟩ := Kx5 o M6 hpx5
  subst eo
  show rb_Bd κ mL_law (n.1 + n3.1, n.2 + n3.2) M6 1083 [some (.ref κ.1.2.2.1), some (.ref q1), some a2, some (.int a3)] [.int x5]
  refine rb_aload_n 2 rfl rfl ha2 dL_law_1083 ?_
  refine rb_aload_n 0 rfl rfl (rb_isR_ref _) dL_law_1084 ?_
  refine rb_iload_n 3 rfl rfl dL_law_1085 ?_
  refine rb_iconst (v := (1 : Int32)) (by decide) dL_law_1086 ?_
  refine rb_iadd (z := (a3 + (1 : Int32))) rfl dL_law_1087 ?_
  refine rb_sld hX (KKx5).1 dL_law_1088 ?_
  refine rb_aload_n 0 rfl rfl (rb_isR_ref _) dL_law_1089 ?_
  refine rb_iload_n 3 rfl rfl dL_law_1090 ?_
  refine rb_iconst (v := (2 : Int32)) (by decide) dL_law_1091 ?_
  refine rb_iadd (z := (a3 + (2 : Int32))) rfl dL_law_1092 ?_
  refine rb_sld hX ((KKx5).2).1 dL_law_1093 ?_
  refine rb_aload_n 0 rfl rfl (rb_isR_ref _) dL_law_1094 ?_
  refine rb_iload_n 3 rfl rfl dL_law_1095 ?_
  refine rb_iconst (v := (3 : Int32)) (by decide) dL_law_1096 ?_
  refine rb_iadd (z := (a3 + (3 : Int32))) rfl dL_law_1097 ?_
  refine rb_sld hX (((KKx5).2).2).1 dL_law_1098 ?_
  refine rb_aload_n 0 rfl rfl (rb_isR_ref _) dL_law_1099 ?_
  refine rb_iload_n 3 rfl rfl dL_law_1100 ?_
  refine rb_iconst (v := (4 : Int32)) (by decide) dL_law_1101 ?_
  refine rb_iadd (z := (a3 + (4 : Int32))) rfl dL_law_1102 ?_
  refine rb_sld hX ((((KKx5).2).2).2).1 dL_law_1103 ?_
  obtain ⟨q7, eq7, Kq7⟩ := ((((KKx5).2).2).2).2
  subst eq7
  obtain ⟨d8, n9, Q10, h1x11, hdx11, hnx11, hox11, Kx11⟩ := Kq7
  refine rb_call st_L_133_4 (rest := [.int x5]) h1x11 rfl rfl (rc_rc rfl hox11) (Nat.le_of_ble_eq_true rfl) hdx11.1 hdx11.2 hnx11.1 hnx11.2 dL_law_1104 (fun o M12 hpx11 => ?_)
  obtain ⟨x11, eo, KKx11⟩ := Kx11 o M12 hpx11
  subst eo
  show rb_Bd κ mL_law (n.1 + n3.1 + n9.1, n.2 + n3.2 + n9.2) M12 1107 [some (.ref κ.1.2.2.1), some (.ref q1), some (.ref q7), some (.int a3)] [.int x11, .int x5]
  refine rb_iceq 1186 (by decide) dL_law_1107 (fun c13 => ?_) (fun c13 => ?_)
  · skip
    exact ((KKx11).1 c13)
  · skip
    refine rb_iconst (v := (0 : Int32)) (by decide) dL_law_1110 ?_
    exact rb_iret rfl (by decide) (((KKx11).2 c13)).1.1 (((KKx11).2 c13)).1.2 dL_law_1111 (((KKx11).2 c13)).2
theorem sgL_law_1112 {κ : rb_K} {n : Nat × Nat} {M : rb_H} {L : Nat} {xs : Nat → Int32} {a1 a2 : Value} {a3 : Int32} (ha1 : rb_isR a1) (ha2 : rb_isR a2) (hX : rb_sc κ.1 L xs) (K : (vp_in (a3 + (1 : Int32)) L ∧ (∃ q1, a1 = .ref q1 ∧ (∃ (d2 : Nat) (n3 : Nat × Nat) (Q4 : Outcome → rb_H → Prop), rb_Ct κ.1 yX0_shared wX0_shared d2 n3 [.ref q1, .int (xs ((a3 + (1 : Int32))).toNatClampNeg)] M Q4 ∧ rb_dp κ d2 ∧ rb_rom κ (n.1 + n3.1, n.2 + n3.2) ∧ rb_ob M q1 0 ∧ ∀ (o : Outcome) (M6 : rb_H), Q4 o M6 → (∃ (x5 : Int32), o = .returned (some (.int x5)) ∧ (vp_in (a3 + (1 : Int32)) L ∧ (∃ q7, a2 = .ref q7 ∧ (∃ (d8 : Nat) (n9 : Nat × Nat) (Q10 : Outcome → rb_H → Prop), rb_Ct κ.1 yX4_shared wX4_shared d8 n9 [.ref q7, .int (xs ((a3 + (1 : Int32))).toNatClampNeg)] M6 Q10 ∧ rb_dp κ d8 ∧ rb_rom κ (n.1 + n3.1 + n9.1, n.2 + n3.2 + n9.2) ∧ rb_ob M6 q7 4 ∧ ∀ (o : Outcome) (M12 : rb_H), Q10 o M12 → (∃ (x11 : Int32), o = .returned (some (.int x11)) ∧ ((x5 = x11 → rb_Bd κ mL_law (n.1 + n3.1 + n9.1, n.2 + n3.2 + n9.2) M12 1186 [some (.ref κ.1.2.2.1), some (.ref q1), some (.ref q7), some (.int a3)] []) ∧ (¬ x5 = x11 → (rb_fin κ (n.1 + n3.1 + n9.1, n.2 + n3.2 + n9.2) ∧ κ.2.2.1 (.returned (some (.int (0 : Int32)))) M12)))))))))))) : rb_Bd κ mL_law n M 1112 [some (.ref κ.1.2.2.1), some a1, some a2, some (.int a3)] [] := by
  refine rb_aload_n 1 rfl rfl ha1 dL_law_1112 ?_
  refine rb_aload_n 0 rfl rfl (rb_isR_ref _) dL_law_1113 ?_
  refine rb_iload_n 3 rfl rfl dL_law_1114 ?_
  refine rb_iconst (v := (1 : Int32)) (by decide) dL_law_1115 ?_
  refine rb_iadd (z := (a3 + (1 : Int32))) rfl dL_law_1116 ?_
  refine rb_sld hX (K).1 dL_law_1117 ?_
  obtain ⟨q1, eq1, Kq1⟩ := (K).2
  subst eq1
  obtain ⟨d2, n3, Q4, h1x5, hdx5, hnx5, hox5, Kx5⟩ := Kq1
  refine rb_call st_L_134_0 (rest := []) h1x5 rfl rfl (rc_rc rfl hox5) (Nat.le_of_ble_eq_true rfl) hdx5.1 hdx5.2 hnx5.1 hnx5.2 dL_law_1118 (fun o M6 hpx5 => ?_)
  obtain ⟨x5, eo, KKx5⟩ := Kx5 o M6 hpx5
  subst eo
  show rb_Bd κ mL_law (n.1 + n3.1, n.2 + n3.2) M6 1121 [some (.ref κ.1.2.2.1), some (.ref q1), some a2, some (.int a3)] [.int x5]
  refine rb_aload_n 2 rfl rfl ha2 dL_law_1121 ?_
  refine rb_aload_n 0 rfl rfl (rb_isR_ref _) dL_law_1122 ?_
  refine rb_iload_n 3 rfl rfl dL_law_1123 ?_
  refine rb_iconst (v := (1 : Int32)) (by decide) dL_law_1124 ?_
  refine rb_iadd (z := (a3 + (1 : Int32))) rfl dL_law_1125 ?_
  refine rb_sld hX (KKx5).1 dL_law_1126 ?_
  obtain ⟨q7, eq7, Kq7⟩ := (KKx5).2
  subst eq7
  obtain ⟨d8, n9, Q10, h1x11, hdx11, hnx11, hox11, Kx11⟩ := Kq7
  refine rb_call st_L_137_4 (rest := [.int x5]) h1x11 rfl rfl (rc_rc rfl hox11) (Nat.le_of_ble_eq_true rfl) hdx11.1 hdx11.2 hnx11.1 hnx11.2 dL_law_1127 (fun o M12 hpx11 => ?_)
  obtain ⟨x11, eo, KKx11⟩ := Kx11 o M12 hpx11
  subst eo
  show rb_Bd κ mL_law (n.1 + n3.1 + n9.1, n.2 + n3.2 + n9.2) M12 1130 [some (.ref κ.1.2.2.1), some (.ref q1), some (.ref q7), some (.int a3)] [.int x11, .int x5]
  refine rb_iceq 1186 (by decide) dL_law_1130 (fun c13 => ?_) (fun c13 => ?_)
  · skip
    exact ((KKx11).1 c13)
  · skip
    refine rb_iconst (v := (0 : Int32)) (by decide) dL_law_1133 ?_
    exact rb_iret rfl (by decide) (((KKx11).2 c13)).1.1 (((KKx11).2 c13)).1.2 dL_law_1134 (((KKx11).2 c13)).2
theorem sgL_law_1135 {κ : rb_K} {n : Nat × Nat} {M : rb_H} {L : Nat} {xs : Nat → Int32} {a1 a2 : Value} {a3 : Int32} (ha1 : rb_isR a1) (ha2 : rb_isR a2) (hX : rb_sc κ.1 L xs) (K : (∃ q1, a1 = .ref q1 ∧ (∃ (d2 : Nat) (n3 : Nat × Nat) (Q4 : Outcome → rb_H → Prop), rb_Ct κ.1 yX0_told wX0_told d2 n3 [.ref q1] M Q4 ∧ rb_dp κ d2 ∧ rb_rom κ (n.1 + n3.1, n.2 + n3.2) ∧ rb_ob M q1 0 ∧ ∀ (o : Outcome) (M6 : rb_H), Q4 o M6 → (∃ (x5 : Int64), o = .returned (some (.long x5)) ∧ (∃ q7, a2 = .ref q7 ∧ (∃ (d8 : Nat) (n9 : Nat × Nat) (Q10 : Outcome → rb_H → Prop), rb_Ct κ.1 yX4_told wX4_told d8 n9 [.ref q7] M6 Q10 ∧ rb_dp κ d8 ∧ rb_rom κ (n.1 + n3.1 + n9.1, n.2 + n3.2 + n9.2) ∧ rb_ob M6 q7 4 ∧ ∀ (o : Outcome) (M12 : rb_H), Q10 o M12 → (∃ (x11 : Int64), o = .returned (some (.long x11)) ∧ ((x5 = x11 → rb_Bd κ mL_law (n.1 + n3.1 + n9.1, n.2 + n3.2 + n9.2) M12 1186 [some (.ref κ.1.2.2.1), some (.ref q1), some (.ref q7), some (.int a3)] []) ∧ (¬ x5 = x11 → (rb_fin κ (n.1 + n3.1 + n9.1, n.2 + n3.2 + n9.2) ∧ κ.2.2.1 (.returned (some (.int (0 : Int32)))) M12)))))))))) : rb_Bd κ mL_law n M 1135 [some (.ref κ.1.2.2.1), some a1, some a2, some (.int a3)] [] := by
  refine rb_aload_n 1 rfl rfl ha1 dL_law_1135 ?_
  obtain ⟨q1, eq1, Kq1⟩ := K
  subst eq1
  obtain ⟨d2, n3, Q4, h1x5, hdx5, hnx5, hox5, Kx5⟩ := Kq1
  refine rb_call st_L_138_0 (rest := []) h1x5 rfl rfl (rc_rc rfl hox5) (Nat.le_of_ble_eq_true rfl) hdx5.1 hdx5.2 hnx5.1 hnx5.2 dL_law_1136 (fun o M6 hpx5 => ?_)
  obtain ⟨x5, eo, KKx5⟩ := Kx5 o M6 hpx5
  subst eo
  show rb_Bd κ mL_law (n.1 + n3.1, n.2 + n3.2) M6 1139 [some (.ref κ.1.2.2.1), some (.ref q1), some a2, some (.int a3)] [.long x5]
  refine rb_aload_n 2 rfl rfl ha2 dL_law_1139 ?_
  obtain ⟨q7, eq7, Kq7⟩ := KKx5
  subst eq7
  obtain ⟨d8, n9, Q10, h1x11, hdx11, hnx11, hox11, Kx11⟩ := Kq7
  refine rb_call st_L_141_4 (rest := [.long x5]) h1x11 rfl rfl (rc_rc rfl hox11) (Nat.le_of_ble_eq_true rfl) hdx11.1 hdx11.2 hnx11.1 hnx11.2 dL_law_1140 (fun o M12 hpx11 => ?_)
  obtain ⟨x11, eo, KKx11⟩ := Kx11 o M12 hpx11
  subst eo
  show rb_Bd κ mL_law (n.1 + n3.1 + n9.1, n.2 + n3.2 + n9.2) M12 1143 [some (.ref κ.1.2.2.1), some (.ref q1), some (.ref q7), some (.int a3)] [.long x11, .long x5]
  refine rb_lc_eq 1186 (by decide) dL_law_1143 dL_law_1144 (fun c13 => ?_) (fun c13 => ?_)
  · skip
    exact ((KKx11).1 c13)
  · skip
    refine rb_iconst (v := (0 : Int32)) (by decide) dL_law_1147 ?_
    exact rb_iret rfl (by decide) (((KKx11).2 c13)).1.1 (((KKx11).2 c13)).1.2 dL_law_1148 (((KKx11).2 c13)).2
theorem sgL_law_1149 {κ : rb_K} {n : Nat × Nat} {M : rb_H} {L : Nat} {xs : Nat → Int32} {a1 a2 : Value} {a3 : Int32} (ha1 : rb_isR a1) (ha2 : rb_isR a2) (hX : rb_sc κ.1 L xs) (K : (vp_in (a3 + (1 : Int32)) L ∧ (∃ q1, a1 = .ref q1 ∧ (∃ (d2 : Nat) (n3 : Nat × Nat) (Q4 : Outcome → rb_H → Prop), rb_Ct κ.1 yX0_count wX0_count d2 n3 [.ref q1, .int (xs ((a3 + (1 : Int32))).toNatClampNeg)] M Q4 ∧ rb_dp κ d2 ∧ rb_rom κ (n.1 + n3.1, n.2 + n3.2) ∧ rb_ob M q1 0 ∧ ∀ (o : Outcome) (M6 : rb_H), Q4 o M6 → (∃ (x5 : Int32), o = .returned (some (.int x5)) ∧ (vp_in (a3 + (1 : Int32)) L ∧ (∃ q7, a2 = .ref q7 ∧ (∃ (d8 : Nat) (n9 : Nat × Nat) (Q10 : Outcome → rb_H → Prop), rb_Ct κ.1 yX4_count wX4_count d8 n9 [.ref q7, .int (xs ((a3 + (1 : Int32))).toNatClampNeg)] M6 Q10 ∧ rb_dp κ d8 ∧ rb_rom κ (n.1 + n3.1 + n9.1, n.2 + n3.2 + n9.2) ∧ rb_ob M6 q7 4 ∧ ∀ (o : Outcome) (M12 : rb_H), Q10 o M12 → (∃ (x11 : Int32), o = .returned (some (.int x11)) ∧ ((x5 = x11 → rb_Bd κ mL_law (n.1 + n3.1 + n9.1, n.2 + n3.2 + n9.2) M12 1186 [some (.ref κ.1.2.2.1), some (.ref q1), some (.ref q7), some (.int a3)] []) ∧ (¬ x5 = x11 → (rb_fin κ (n.1 + n3.1 + n9.1, n.2 + n3.2 + n9.2) ∧ κ.2.2.1 (.returned (some (.int (0 : Int32)))) M12)))))))))))) : rb_Bd κ mL_law n M 1149 [some (.ref κ.1.2.2.1), some a1, some a2, some (.int a3)] [] := by
  refine rb_aload_n 1 rfl rfl ha1 dL_law_1149 ?_
  refine rb_aload_n 0 rfl rfl (rb_isR_ref _) dL_law_1150 ?_
  refine rb_iload_n 3 rfl rfl dL_law_1151 ?_
  refine rb_iconst (v := (1 : Int32)) (by decide) dL_law_1152 ?_
  refine rb_iadd (z := (a3 + (1 : Int32))) rfl dL_law_1153 ?_
  refine rb_sld hX (K).1 dL_law_1154 ?_
  obtain ⟨q1, eq1, Kq1⟩ := (K).2
  subst eq1
  obtain ⟨d2, n3, Q4, h1x5, hdx5, hnx5, hox5, Kx5⟩ := Kq1
  refine rb_call st_L_142_0 (rest := []) h1x5 rfl rfl (rc_rc rfl hox5) (Nat.le_of_ble_eq_true rfl) hdx5.1 hdx5.2 hnx5.1 hnx5.2 dL_law_1155 (fun o M6 hpx5 => ?_)
  obtain ⟨x5, eo, KKx5⟩ := Kx5 o M6 hpx5
  subst eo
  show rb_Bd κ mL_law (n.1 + n3.1, n.2 + n3.2) M6 1158 [some (.ref κ.1.2.2.1), some (.ref q1), some a2, some (.int a3)] [.int x5]
  refine rb_aload_n 2 rfl rfl ha2 dL_law_1158 ?_
  refine rb_aload_n 0 rfl rfl (rb_isR_ref _) dL_law_1159 ?_
  refine rb_iload_n 3 rfl rfl dL_law_1160 ?_
  refine rb_iconst (v := (1 : Int32)) (by decide) dL_law_1161 ?_
  refine rb_iadd (z := (a3 + (1 : Int32))) rfl dL_law_1162 ?_
  refine rb_sld hX (KKx5).1 dL_law_1163 ?_
  obtain ⟨q7, eq7, Kq7⟩ := (KKx5).2
  subst eq7
  obtain ⟨d8, n9, Q10, h1x11, hdx11, hnx11, hox11, Kx11⟩ := Kq7
  refine rb_call st_L_145_4 (rest := [.int x5]) h1x11 rfl rfl (rc_rc rfl hox11) (Nat.le_of_ble_eq_true rfl) hdx11.1 hdx11.2 hnx11.1 hnx11.2 dL_law_1164 (fun o M12 hpx11 => ?_)
  obtain ⟨x11, eo, KKx11⟩ := Kx11 o M12 hpx11
  subst eo
  show rb_Bd κ mL_law (n.1 + n3.1 + n9.1, n.2 + n3.2 + n9.2) M12 1167 [some (.ref κ.1.2.2.1), some (.ref q1), some (.ref q7), some (.int a3)] [.int x11, .int x5]
  refine rb_iceq 1186 (by decide) dL_law_1167 (fun c13 => ?_) (fun c13 => ?_)
  · skip
    exact ((KKx11).1 c13)
  · skip
    refine rb_iconst (v := (0 : Int32)) (by decide) dL_law_1170 ?_
    exact rb_iret rfl (by decide) (((KKx11).2 c13)).1.1 (((KKx11).2 c13)).1.2 dL_law_1171 (((KKx11).2 c13)).2
theorem sgL_law_1172 {κ : rb_K} {n : Nat × Nat} {M : rb_H} {L : Nat} {xs : Nat → Int32} {a1 a2 : Value} {a3 : Int32} (ha1 : rb_isR a1) (ha2 : rb_isR a2) (hX : rb_sc κ.1 L xs) (K : (∃ q1, a1 = .ref q1 ∧ (∃ (d2 : Nat) (n3 : Nat × Nat) (Q4 : Outcome → rb_H → Prop), rb_Ct κ.1 yX0_digest wX0_digest d2 n3 [.ref q1] M Q4 ∧ rb_dp κ d2 ∧ rb_rom κ (n.1 + n3.1, n.2 + n3.2) ∧ rb_ob M q1 0 ∧ ∀ (o : Outcome) (M6 : rb_H), Q4 o M6 → (∃ (x5 : Int64), o = .returned (some (.long x5)) ∧ (∃ q7, a2 = .ref q7 ∧ (∃ (d8 : Nat) (n9 : Nat × Nat) (Q10 : Outcome → rb_H → Prop), rb_Ct κ.1 yX4_digest wX4_digest d8 n9 [.ref q7] M6 Q10 ∧ rb_dp κ d8 ∧ rb_rom κ (n.1 + n3.1 + n9.1, n.2 + n3.2 + n9.2) ∧ rb_ob M6 q7 4 ∧ ∀ (o : Outcome) (M12 : rb_H), Q10 o M12 → (∃ (x11 : Int64), o = .returned (some (.long x11)) ∧ ((x5 = x11 → rb_Bd κ mL_law (n.1 + n3.1 + n9.1, n.2 + n3.2 + n9.2) M12 1186 [some (.ref κ.1.2.2.1), some (.ref q1), some (.ref q7), some (.int a3)] []) ∧ (¬ x5 = x11 → (rb_fin κ (n.1 + n3.1 + n9.1, n.2 + n3.2 + n9.2) ∧ κ.2.2.1 (.returned (some (.int (0 : Int32)))) M12)))))))))) : rb_Bd κ mL_law n M 1172 [some (.ref κ.1.2.2.1), some a1, some a2, some (.int a3)] [] := by
  refine rb_aload_n 1 rfl rfl ha1 dL_law_1172 ?_
  obtain ⟨q1, eq1, Kq1⟩ := K
  subst eq1
  obtain ⟨d2, n3, Q4, h1x5, hdx5, hnx5, hox5, Kx5⟩ := Kq1
  refine rb_call st_L_146_0 (rest := []) h1x5 rfl rfl (rc_rc rfl hox5) (Nat.le_of_ble_eq_true rfl) hdx5.1 hdx5.2 hnx5.1 hnx5.2 dL_law_1173 (fun o M6 hpx5 => ?_)
  obtain ⟨x5, eo, KKx5⟩ := Kx5 o M6 hpx5
  subst eo
  show rb_Bd κ mL_law (n.1 + n3.1, n.2 + n3.2) M6 1176 [some (.ref κ.1.2.2.1), some (.ref q1), some a2, some (.int a3)] [.long x5]
  refine rb_aload_n 2 rfl rfl ha2 dL_law_1176 ?_
  obtain ⟨q7, eq7, Kq7⟩ := KKx5
  subst eq7
  obtain ⟨d8, n9, Q10, h1x11, hdx11, hnx11, hox11, Kx11⟩ := Kq7
  refine rb_call st_L_149_4 (rest := [.long x5]) h1x11 rfl rfl (rc_rc rfl hox11) (Nat.le_of_ble_eq_true rfl) hdx11.1 hdx11.2 hnx11.1 hnx11.2 dL_law_1177 (fun o M12 hpx11 => ?_)
  obtain ⟨x11, eo, KKx11⟩ := Kx11 o M12 hpx11
  subst eo
  show rb_Bd κ mL_law (n.1 + n3.1 + n9.1, n.2 + n3.2 + n9.2) M12 1180 [some (.ref κ.1.2.2.1), some (.ref q1), some (.ref q7), some (.int a3)] [.long x11, .long x5]
  refine rb_lc_eq 1186 (by decide) dL_law_1180 dL_law_1181 (fun c13 => ?_) (fun c13 => ?_)
  · skip
    exact ((KKx11).1 c13)
  · skip
    refine rb_iconst (v := (0 : Int32)) (by decide) dL_law_1184 ?_
    exact rb_iret rfl (by decide) (((KKx11).2 c13)).1.1 (((KKx11).2 c13)).1.2 dL_law_1185 (((KKx11).2 c13)).2
theorem sgL_law_1186 {κ : rb_K} {n : Nat × Nat} {M : rb_H} {L : Nat} {xs : Nat → Int32} {a1 a2 : Value} {a3 : Int32} (ha1 : rb_isR a1) (ha2 : rb_isR a2) (hX : rb_sc κ.1 L xs) (K : rb_Bd κ mL_law n M 18 [some (.ref κ.1.2.2.1), some a1, some a2, some (.int (a3 + (5 : Int32)))] []) : rb_Bd κ mL_law n M 1186 [some (.ref κ.1.2.2.1), some a1, some a2, some (.int a3)] [] := by
  refine rb_iinc (ls' := [some (.ref κ.1.2.2.1), some a1, some a2, some (.int (a3 + (5 : Int32)))]) (v := (a3 + (5 : Int32))) rfl rfl (by decide) (by simp [rb_o1, rb_isR_cat ha2]) rfl dL_law_1186 ?_
  refine rb_goto 18 (by decide) dL_law_1189 ?_
  exact K
