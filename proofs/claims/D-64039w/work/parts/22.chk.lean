set_option maxRecDepth 100000 in
theorem kb_142 : (c_142).all (ckB 142) = true := by decide +kernel
theorem kb_all (M : Nat) (h : M < 143) : (x_code.getD M []).all (ckB M) = true := by
  match M, h with
  | 0, _ => exact kb_0
  | 1, _ => exact kb_1
  | 2, _ => exact kb_2
  | 3, _ => exact kb_3
  | 4, _ => exact kb_4
  | 5, _ => exact kb_5
  | 6, _ => exact kb_6
  | 7, _ => exact kb_7
  | 8, _ => exact kb_8
  | 9, _ => exact kb_9
  | 10, _ => exact kb_10
  | 11, _ => exact kb_11
  | 12, _ => exact kb_12
  | 13, _ => exact kb_13
  | 14, _ => exact kb_14
  | 15, _ => exact kb_15
  | 16, _ => exact kb_16
  | 17, _ => exact kb_17
  | 18, _ => exact kb_18
  | 19, _ => exact kb_19
  | 20, _ => exact kb_20
  | 21, _ => exact kb_21
  | 22, _ => exact kb_22
  | 23, _ => exact kb_23
  | 24, _ => exact kb_24
  | 25, _ => exact kb_25
  | 26, _ => exact kb_26
  | 27, _ => exact kb_27
  | 28, _ => exact kb_28
  | 29, _ => exact kb_29
  | 30, _ => exact kb_30
  | 31, _ => exact kb_31
  | 32, _ => exact kb_32
  | 33, _ => exact kb_33
  | 34, _ => exact kb_34
  | 35, _ => exact kb_35
  | 36, _ => exact kb_36
  | 37, _ => exact kb_37
  | 38, _ => exact kb_38
  | 39, _ => exact kb_39
  | 40, _ => exact kb_40
  | 41, _ => exact kb_41
  | 42, _ => exact kb_42
  | 43, _ => exact kb_43
  | 44, _ => exact kb_44
  | 45, _ => exact kb_45
  | 46, _ => exact kb_46
  | 47, _ => exact kb_47
  | 48, _ => exact kb_48
  | 49, _ => exact kb_49
  | 50, _ => exact kb_50
  | 51, _ => exact kb_51
  | 52, _ => exact kb_52
  | 53, _ => exact kb_53
  | 54, _ => exact kb_54
  | 55, _ => exact kb_55
  | 56, _ => exact kb_56
  | 57, _ => exact kb_57
  | 58, _ => exact kb_58
  | 59, _ => exact kb_59
  | 60, _ => exact kb_60
  | 61, _ => exact kb_61
  | 62, _ => exact kb_62
  | 63, _ => exact kb_63
  | 64, _ => exact kb_64
  | 65, _ => exact kb_65
  | 66, _ => exact kb_66
  | 67, _ => exact kb_67
  | 68, _ => exact kb_68
  | 69, _ => exact kb_69
  | 70, _ => exact kb_70
  | 71, _ => exact kb_71
  | 72, _ => exact kb_72
  | 73, _ => exact kb_73
  | 74, _ => exact kb_74
  | 75, _ => exact kb_75
  | 76, _ => exact kb_76
  | 77, _ => exact kb_77
  | 78, _ => exact kb_78
  | 79, _ => exact kb_79
  | 80, _ => exact kb_80
  | 81, _ => exact kb_81
  | 82, _ => exact kb_82
  | 83, _ => exact kb_83
  | 84, _ => exact kb_84
  | 85, _ => exact kb_85
  | 86, _ => exact kb_86
  | 87, _ => exact kb_87
  | 88, _ => exact kb_88
  | 89, _ => exact kb_89
  | 90, _ => exact kb_90
  | 91, _ => exact kb_91
  | 92, _ => exact kb_92
  | 93, _ => exact kb_93
  | 94, _ => exact kb_94
  | 95, _ => exact kb_95
  | 96, _ => exact kb_96
  | 97, _ => exact kb_97
  | 98, _ => exact kb_98
  | 99, _ => exact kb_99
  | 100, _ => exact kb_100
  | 101, _ => exact kb_101
  | 102, _ => exact kb_102
  | 103, _ => exact kb_103
  | 104, _ => exact kb_104
  | 105, _ => exact kb_105
  | 106, _ => exact kb_106
  | 107, _ => exact kb_107
  | 108, _ => exact kb_108
  | 109, _ => exact kb_109
  | 110, _ => exact kb_110
  | 111, _ => exact kb_111
  | 112, _ => exact kb_112
  | 113, _ => exact kb_113
  | 114, _ => exact kb_114
  | 115, _ => exact kb_115
  | 116, _ => exact kb_116
  | 117, _ => exact kb_117
  | 118, _ => exact kb_118
  | 119, _ => exact kb_119
  | 120, _ => exact kb_120
  | 121, _ => exact kb_121
  | 122, _ => exact kb_122
  | 123, _ => exact kb_123
  | 124, _ => exact kb_124
  | 125, _ => exact kb_125
  | 126, _ => exact kb_126
  | 127, _ => exact kb_127
  | 128, _ => exact kb_128
  | 129, _ => exact kb_129
  | 130, _ => exact kb_130
  | 131, _ => exact kb_131
  | 132, _ => exact kb_132
  | 133, _ => exact kb_133
  | 134, _ => exact kb_134
  | 135, _ => exact kb_135
  | 136, _ => exact kb_136
  | 137, _ => exact kb_137
  | 138, _ => exact kb_138
  | 139, _ => exact kb_139
  | 140, _ => exact kb_140
  | 141, _ => exact kb_141
  | 142, _ => exact kb_142
  | n + 143, h => exact absurd h (by omega)
theorem mem_of_lookup {α : Type} {k : Nat} {v : α} : ∀ {l : List (Nat × α)}, l.lookup k = some v → (k, v) ∈ l
  | [], h => by cases h
  | (a, b) :: l, h => by
    rw [List.lookup_cons] at h
    split at h
    · rename_i e
      have e : k = a := by simpa using e
      cases h
      rw [e]
      exact List.mem_cons_self
    · exact List.mem_cons_of_mem _ (mem_of_lookup h)
theorem fetch_ok {M pc : Nat} {e : EI} (h : fetch M pc = some e) : M < 143 ∧ decode (mB M) pc = .ok (e.1, e.2.1) ∧ ckI M pc e = true := by
  unfold fetch at h
  have hM : M < 143 := by
    rcases Nat.lt_or_ge M 143 with q | q
    · exact q
    · rw [List.getD_eq_getElem?_getD, List.getElem?_eq_none (by simpa [x_code] using q)] at h
      cases h
  have h2 := List.all_eq_true.mp (kb_all M hM) _ (mem_of_lookup h)
  unfold ckB at h2
  simp only [Bool.and_eq_true, decide_eq_true_eq] at h2
  exact ⟨hM, h2.1, h2.2⟩
theorem st_hs : ∀ M, M < 143 → hsOK (mO M) (mX M) (mH M) := by
  have h0 : ∀ M, M < 143 → (mX M = [] ∧ mH M = []) ∨ M ∈ [5, 18, 135, 136, 137, 138, 139, 140, 141] := by decide +kernel
  intro M hM
  rcases h0 M hM with ⟨h1, h2⟩ | h
  · rw [h1, h2]; trivial
  · simp only [List.mem_cons, List.not_mem_nil, or_false] at h
    rcases h with rfl | rfl | rfl | rfl | rfl | rfl | rfl | rfl | rfl
    · exact ⟨⟨rfl, rfl, rfl, by decide, by decide, by decide +kernel⟩, trivial⟩
    · exact ⟨⟨rfl, rfl, rfl, by decide, by decide, by decide +kernel⟩, ⟨⟨rfl, rfl, rfl, by decide, by decide, by decide +kernel⟩, trivial⟩⟩
    · exact ⟨⟨rfl, rfl, rfl, by decide, by decide, by decide +kernel⟩, ⟨⟨rfl, rfl, rfl, by decide, by decide, by decide +kernel⟩, trivial⟩⟩
    · exact ⟨⟨rfl, rfl, rfl, by decide, by decide, by decide +kernel⟩, trivial⟩
    · exact ⟨⟨rfl, rfl, rfl, by decide, by decide, by decide +kernel⟩, ⟨⟨rfl, rfl, rfl, by decide, by decide, by decide +kernel⟩, ⟨⟨rfl, rfl, rfl, by decide, by decide, by decide +kernel⟩, trivial⟩⟩⟩
    · exact ⟨⟨rfl, rfl, rfl, by decide, by decide, by decide +kernel⟩, ⟨⟨rfl, rfl, rfl, by decide, by decide, by decide +kernel⟩, trivial⟩⟩
    · exact ⟨⟨rfl, rfl, rfl, by decide, by decide, by decide +kernel⟩, ⟨⟨rfl, rfl, rfl, by decide, by decide, by decide +kernel⟩, trivial⟩⟩
    · exact ⟨⟨rfl, rfl, rfl, by decide, by decide, by decide +kernel⟩, ⟨⟨rfl, rfl, rfl, by decide, by decide, by decide +kernel⟩, trivial⟩⟩
    · exact ⟨⟨rfl, rfl, rfl, by decide, by decide, by decide +kernel⟩, ⟨⟨rfl, rfl, rfl, by decide, by decide, by decide +kernel⟩, ⟨⟨rfl, rfl, rfl, by decide, by decide, by decide +kernel⟩, trivial⟩⟩⟩
