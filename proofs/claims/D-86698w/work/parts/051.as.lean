set_option maxRecDepth 100000
theorem as3_0 : rb_AS 0 3 := ⟨_, rfl, Or.inr q2072⟩
theorem as3_1 : rb_AS 1 3 := ⟨_, rfl, Or.inr q2073⟩
theorem as3_2 : rb_AS 2 3 := ⟨_, rfl, Or.inr q2074⟩
theorem as3_3 : rb_AS 3 3 := ⟨_, rfl, Or.inr q2069⟩
theorem as3_4 : rb_AS 4 3 := ⟨_, rfl, Or.inr q2076⟩
theorem as3_5 : rb_AS 5 3 := ⟨_, rfl, Or.inr q2077⟩
theorem as3_6 : rb_AS 6 3 := ⟨_, rfl, Or.inr q2070⟩
theorem as3_7 : rb_AS 7 3 := ⟨_, rfl, Or.inr q2075⟩
theorem as3_8 : rb_AS 8 3 := ⟨_, rfl, Or.inr q2078⟩
theorem as3_9 : rb_AS 9 3 := ⟨_, rfl, Or.inr q2079⟩
theorem as3_10 : rb_AS 10 3 := ⟨_, rfl, Or.inr q2080⟩
theorem as3_11 : rb_AS 11 3 := ⟨_, rfl, Or.inr q2081⟩
theorem as3_12 : rb_AS 12 3 := ⟨_, rfl, Or.inr q2082⟩
theorem as3_13 : rb_AS 13 3 := ⟨_, rfl, Or.inr q2083⟩
theorem as3_14 : rb_AS 14 3 := ⟨_, rfl, Or.inr q2084⟩
theorem as3_15 : rb_AS 15 3 := ⟨_, rfl, Or.inr q2085⟩
theorem as3_16 : rb_AS 16 3 := ⟨_, rfl, Or.inr q2086⟩
theorem as3_17 : rb_AS 17 3 := ⟨_, rfl, Or.inr q2087⟩
theorem as3_18 : rb_AS 18 3 := ⟨_, rfl, Or.inr q2088⟩
theorem as3_19 : rb_AS 19 3 := ⟨_, rfl, Or.inr q2089⟩
theorem as3_20 : rb_AS 20 3 := ⟨_, rfl, Or.inr q2090⟩
theorem as3_21 : rb_AS 21 3 := ⟨_, rfl, Or.inr q2091⟩
theorem as3_22 : rb_AS 22 3 := ⟨_, rfl, Or.inr q2092⟩
theorem as3_23 : rb_AS 23 3 := ⟨_, rfl, Or.inr q2093⟩
theorem as3_24 : rb_AS 24 3 := ⟨_, rfl, Or.inr q2094⟩
theorem as3_25 : rb_AS 25 3 := ⟨_, rfl, Or.inr q2095⟩
theorem as3_26 : rb_AS 26 3 := ⟨_, rfl, Or.inr q2096⟩
theorem as3_27 : rb_AS 27 3 := ⟨_, rfl, Or.inr q2097⟩
theorem as3_28 : rb_AS 28 3 := ⟨_, rfl, Or.inr q2098⟩
theorem as3_29 : rb_AS 29 3 := ⟨_, rfl, Or.inr q2071⟩
def isE (ci : Nat) : Bool := [0, 1, 2, 3, 4, 5, 6, 7, 8, 9, 10, 11, 12, 13, 14, 15, 16, 17, 18, 19, 20, 21, 22, 23, 24, 25, 26, 27, 28, 29].contains ci
theorem isE_as : ∀ ci, isE ci = true → rb_AS ci 3 := by
  intro ci h
  have h2 : ci ∈ [0, 1, 2, 3, 4, 5, 6, 7, 8, 9, 10, 11, 12, 13, 14, 15, 16, 17, 18, 19, 20, 21, 22, 23, 24, 25, 26, 27, 28, 29] := by simpa [isE] using h
  simp only [List.mem_cons, List.not_mem_nil, or_false] at h2
  rcases h2 with rfl | rfl | rfl | rfl | rfl | rfl | rfl | rfl | rfl | rfl | rfl | rfl | rfl | rfl | rfl | rfl | rfl | rfl | rfl | rfl | rfl | rfl | rfl | rfl | rfl | rfl | rfl | rfl | rfl | rfl
  · exact as3_0
  · exact as3_1
  · exact as3_2
  · exact as3_3
  · exact as3_4
  · exact as3_5
  · exact as3_6
  · exact as3_7
  · exact as3_8
  · exact as3_9
  · exact as3_10
  · exact as3_11
  · exact as3_12
  · exact as3_13
  · exact as3_14
  · exact as3_15
  · exact as3_16
  · exact as3_17
  · exact as3_18
  · exact as3_19
  · exact as3_20
  · exact as3_21
  · exact as3_22
  · exact as3_23
  · exact as3_24
  · exact as3_25
  · exact as3_26
  · exact as3_27
  · exact as3_28
  · exact as3_29
theorem cc_Act_8 : rb_CC 8 "RoleLoom$Act" := ⟨_, rfl, Or.inr q2063⟩
theorem cc_Does_8 : rb_CC 8 "RoleLoom$Does" := ⟨_, rfl, Or.inr q1045⟩
theorem cc_Act_9 : rb_CC 9 "RoleLoom$Act" := ⟨_, rfl, Or.inr q2052⟩
theorem cc_Does_9 : rb_CC 9 "RoleLoom$Does" := ⟨_, rfl, Or.inr q983⟩
theorem cc_Act_10 : rb_CC 10 "RoleLoom$Act" := ⟨_, rfl, Or.inr q2050⟩
theorem cc_Does_10 : rb_CC 10 "RoleLoom$Does" := ⟨_, rfl, Or.inr q967⟩
theorem cc_Act_11 : rb_CC 11 "RoleLoom$Act" := ⟨_, rfl, Or.inr q2068⟩
theorem cc_Does_11 : rb_CC 11 "RoleLoom$Does" := ⟨_, rfl, Or.inr q1072⟩
theorem cc_Act_12 : rb_CC 12 "RoleLoom$Act" := ⟨_, rfl, Or.inr q2057⟩
theorem cc_Does_12 : rb_CC 12 "RoleLoom$Does" := ⟨_, rfl, Or.inr q1020⟩
theorem cc_Act_13 : rb_CC 13 "RoleLoom$Act" := ⟨_, rfl, Or.inr q2065⟩
theorem cc_Does_13 : rb_CC 13 "RoleLoom$Does" := ⟨_, rfl, Or.inr q1059⟩
theorem cc_Act_14 : rb_CC 14 "RoleLoom$Act" := ⟨_, rfl, Or.inr q2066⟩
theorem cc_Does_14 : rb_CC 14 "RoleLoom$Does" := ⟨_, rfl, Or.inr q1062⟩
theorem cc_Act_15 : rb_CC 15 "RoleLoom$Act" := ⟨_, rfl, Or.inr q2064⟩
theorem cc_Does_15 : rb_CC 15 "RoleLoom$Does" := ⟨_, rfl, Or.inr q1052⟩
theorem cc_Act_16 : rb_CC 16 "RoleLoom$Act" := ⟨_, rfl, Or.inr q2062⟩
theorem cc_Does_16 : rb_CC 16 "RoleLoom$Does" := ⟨_, rfl, Or.inr q1043⟩
theorem cc_Act_17 : rb_CC 17 "RoleLoom$Act" := ⟨_, rfl, Or.inr q2056⟩
theorem cc_Does_17 : rb_CC 17 "RoleLoom$Does" := ⟨_, rfl, Or.inr q1013⟩
theorem cc_Act_18 : rb_CC 18 "RoleLoom$Act" := ⟨_, rfl, Or.inr q2051⟩
theorem cc_Does_18 : rb_CC 18 "RoleLoom$Does" := ⟨_, rfl, Or.inr q976⟩
theorem cc_Act_19 : rb_CC 19 "RoleLoom$Act" := ⟨_, rfl, Or.inr q2058⟩
theorem cc_Does_19 : rb_CC 19 "RoleLoom$Does" := ⟨_, rfl, Or.inr q1027⟩
theorem cc_Act_20 : rb_CC 20 "RoleLoom$Act" := ⟨_, rfl, Or.inr q2067⟩
theorem cc_Does_20 : rb_CC 20 "RoleLoom$Does" := ⟨_, rfl, Or.inr q1065⟩
theorem cc_Act_21 : rb_CC 21 "RoleLoom$Act" := ⟨_, rfl, Or.inr q2061⟩
theorem cc_Does_21 : rb_CC 21 "RoleLoom$Does" := ⟨_, rfl, Or.inr q1041⟩
theorem cc_Act_22 : rb_CC 22 "RoleLoom$Act" := ⟨_, rfl, Or.inr q2060⟩
theorem cc_Does_22 : rb_CC 22 "RoleLoom$Does" := ⟨_, rfl, Or.inr q1037⟩
theorem cc_Act_23 : rb_CC 23 "RoleLoom$Act" := ⟨_, rfl, Or.inr q2055⟩
theorem cc_Does_23 : rb_CC 23 "RoleLoom$Does" := ⟨_, rfl, Or.inr q1002⟩
theorem cc_Act_24 : rb_CC 24 "RoleLoom$Act" := ⟨_, rfl, Or.inr q2059⟩
theorem cc_Does_24 : rb_CC 24 "RoleLoom$Does" := ⟨_, rfl, Or.inr q1034⟩
theorem cc_Act_25 : rb_CC 25 "RoleLoom$Act" := ⟨_, rfl, Or.inr q2054⟩
theorem cc_Does_25 : rb_CC 25 "RoleLoom$Does" := ⟨_, rfl, Or.inr q995⟩
theorem cc_Act_26 : rb_CC 26 "RoleLoom$Act" := ⟨_, rfl, Or.inr q2053⟩
theorem cc_Does_26 : rb_CC 26 "RoleLoom$Does" := ⟨_, rfl, Or.inr q988⟩
theorem cc_5 : rb_CC 5 "RoleLoom$Part" := ⟨_, rfl, Or.inl rfl⟩
theorem cc_6 : rb_CC 6 "RoleLoom$Body" := ⟨_, rfl, Or.inl rfl⟩
theorem cc_7 : rb_CC 7 "java/util/ArrayList" := ⟨_, rfl, Or.inl rfl⟩
theorem cc_27 : rb_CC 27 "RoleLoom$Role" := ⟨_, rfl, Or.inl rfl⟩
theorem cc_28 : rb_CC 28 "RoleLoom$State" := ⟨_, rfl, Or.inl rfl⟩
theorem cc_29 : rb_CC 29 "RoleLoom$Thing" := ⟨_, rfl, Or.inl rfl⟩
