set_option maxRecDepth 100000
/-! ===== the system's constructor ===== -/
def sgT : List Nat := [0, 2, 3, 4, 5, 6, 7, 8, 0, 9, 0, 0, 0, 0, 10, 0, 11, 12, 13, 14, 15, 16, 17, 18, 0, 0, 19, 0, 0, 0, 0, 3, 4, 7, 8, 0, 0, 0, 0, 0, 1, 1, 1, 1, 1, 0, 0, 0, 0, 0, 1, 1, 1, 1, 1, 1]
/-- when a role's cell is made -/
def sg (x : Nat) : Nat := if x < 56 then sgT.getD x 0 else if 100 ≤ x ∧ x < 116 ∨ 300 ≤ x ∧ x < 316 ∨ 500 ≤ x ∧ x < 516 then 3 else if 120 ≤ x ∧ x < 136 ∨ 320 ≤ x ∧ x < 336 ∨ 520 ≤ x ∧ x < 536 then 4 else if x = 204 ∨ x = 404 then 5 else if x = 205 ∨ x = 405 then 6 else if x = 226 ∨ x = 426 then 19 else if x = 244 ∨ x = 444 then 1 else if 600 ≤ x ∧ x < 612 ∨ 1000 ≤ x ∧ x < 1312 then 11 else if 620 ≤ x ∧ x < 632 ∨ 1400 ≤ x ∧ x < 1712 then 12 else if 640 ≤ x ∧ x < 652 ∨ 1800 ≤ x ∧ x < 2112 then 13 else if 660 ≤ x ∧ x < 673 then 14 else if 680 ≤ x ∧ x < 693 then 15 else if 700 ≤ x ∧ x < 713 then 16 else if 720 ≤ x ∧ x < 733 then 17 else 99
/-- the roles made by then -/
def Rt (t x : Nat) : Prop := shp x ≠ none ∧ sg x ≤ t
theorem shp_big {x : Nat} (h : shp x ≠ none) : x < 2112 := by
  have := shp_rng h
  omega
theorem Rt_s {t : Nat} {nw : Nat → Prop} (h : ∀ x, (shp x ≠ none ∧ sg x = t + 1) ↔ nw x) : ∀ x, Rt (t + 1) x ↔ Rt t x ∨ nw x := fun x => by
  rw [← h x]
  unfold Rt
  constructor
  · rintro ⟨a, b⟩
    by_cases c : sg x = t + 1
    · exact Or.inr ⟨a, c⟩
    · exact Or.inl ⟨a, by omega⟩
  · rintro (⟨a, b⟩ | ⟨a, b⟩)
    · exact ⟨a, by omega⟩
    · exact ⟨a, by omega⟩
theorem Rt_n {t r u : Nat} (h : sg r = u) (hu : t < u) : ¬ Rt t r := fun z => by
  have := z.2
  omega
theorem shp_of {q : Nat} (h : (100 ≤ q ∧ q < 116) ∨ (120 ≤ q ∧ q < 136) ∨ (q = 204 ∨ q = 205 ∨ q = 226 ∨ q = 244 ∨ 300 ≤ q ∧ q < 316 ∨ 320 ≤ q ∧ q < 336) ∨ (q = 404 ∨ q = 405 ∨ q = 426 ∨ q = 444 ∨ 500 ≤ q ∧ q < 516 ∨ 520 ≤ q ∧ q < 536) ∨ (600 ≤ q ∧ q < 612) ∨ (620 ≤ q ∧ q < 632) ∨ (640 ≤ q ∧ q < 652) ∨ (660 ≤ q ∧ q < 673) ∨ (680 ≤ q ∧ q < 693) ∨ (700 ≤ q ∧ q < 713) ∨ (720 ≤ q ∧ q < 733) ∨ (1000 ≤ q ∧ q < 1312) ∨ (1400 ≤ q ∧ q < 1712) ∨ (1800 ≤ q ∧ q < 2112)) : shp q ≠ none := by
  unfold shp
  rw [if_neg (by omega)]
  by_cases c2 : 100 ≤ q ∧ q < 116 ∨ 120 ≤ q ∧ q < 136
  · rw [if_pos c2]
    exact fun z => by cases z
  rw [if_neg c2]
  by_cases c3 : q = 204 ∨ q = 205 ∨ q = 226 ∨ q = 244 ∨ 300 ≤ q ∧ q < 316 ∨ 320 ≤ q ∧ q < 336
  · rw [if_pos c3]
    exact fun z => by cases z
  rw [if_neg c3]
  by_cases c4 : q = 404 ∨ q = 405 ∨ q = 426 ∨ q = 444 ∨ 500 ≤ q ∧ q < 516 ∨ 520 ≤ q ∧ q < 536
  · rw [if_pos c4]
    exact fun z => by cases z
  rw [if_neg c4]
  by_cases c5 : 600 ≤ q ∧ q < 612
  · rw [if_pos c5]
    exact fun z => by cases z
  rw [if_neg c5]
  by_cases c6 : 620 ≤ q ∧ q < 632 ∨ 640 ≤ q ∧ q < 652
  · rw [if_pos c6]
    exact fun z => by cases z
  rw [if_neg c6]
  by_cases c7 : 660 ≤ q ∧ q < 673 ∨ 680 ≤ q ∧ q < 693 ∨ 700 ≤ q ∧ q < 713
  · rw [if_pos c7]
    exact fun z => by cases z
  rw [if_neg c7]
  by_cases c8 : 720 ≤ q ∧ q < 733
  · rw [if_pos c8]
    exact fun z => by cases z
  rw [if_neg c8]
  by_cases c9 : 1000 ≤ q ∧ q < 1312
  · rw [if_pos c9]
    exact fun z => by cases z
  rw [if_neg c9, if_pos (by omega)]
  exact fun z => by cases z
/-- the values of sg -/
theorem sg_v {x : Nat} (h : shp x ≠ none) : (x < 56 ∧ sg x = sgT.getD x 0) ∨ ((100 ≤ x ∧ x < 116 ∨ 300 ≤ x ∧ x < 316 ∨ 500 ≤ x ∧ x < 516) ∧ sg x = 3) ∨ ((120 ≤ x ∧ x < 136 ∨ 320 ≤ x ∧ x < 336 ∨ 520 ≤ x ∧ x < 536) ∧ sg x = 4) ∨ ((x = 204 ∨ x = 404) ∧ sg x = 5) ∨ ((x = 205 ∨ x = 405) ∧ sg x = 6) ∨ ((x = 226 ∨ x = 426) ∧ sg x = 19) ∨ ((x = 244 ∨ x = 444) ∧ sg x = 1) ∨ ((600 ≤ x ∧ x < 612 ∨ 1000 ≤ x ∧ x < 1312) ∧ sg x = 11) ∨ ((620 ≤ x ∧ x < 632 ∨ 1400 ≤ x ∧ x < 1712) ∧ sg x = 12) ∨ ((640 ≤ x ∧ x < 652 ∨ 1800 ≤ x ∧ x < 2112) ∧ sg x = 13) ∨ ((660 ≤ x ∧ x < 673) ∧ sg x = 14) ∨ ((680 ≤ x ∧ x < 693) ∧ sg x = 15) ∨ ((700 ≤ x ∧ x < 713) ∧ sg x = 16) ∨ ((720 ≤ x ∧ x < 733) ∧ sg x = 17) := by
  have hr := shp_rng h
  unfold sg
  by_cases c1 : x < 56
  · rw [if_pos c1]; exact Or.inl ⟨c1, rfl⟩
  rw [if_neg c1]; refine Or.inr ?_
  by_cases c2 : 100 ≤ x ∧ x < 116 ∨ 300 ≤ x ∧ x < 316 ∨ 500 ≤ x ∧ x < 516
  · rw [if_pos c2]; exact Or.inl ⟨c2, rfl⟩
  rw [if_neg c2]; refine Or.inr ?_
  by_cases c3 : 120 ≤ x ∧ x < 136 ∨ 320 ≤ x ∧ x < 336 ∨ 520 ≤ x ∧ x < 536
  · rw [if_pos c3]; exact Or.inl ⟨c3, rfl⟩
  rw [if_neg c3]; refine Or.inr ?_
  by_cases c4 : x = 204 ∨ x = 404
  · rw [if_pos c4]; exact Or.inl ⟨c4, rfl⟩
  rw [if_neg c4]; refine Or.inr ?_
  by_cases c5 : x = 205 ∨ x = 405
  · rw [if_pos c5]; exact Or.inl ⟨c5, rfl⟩
  rw [if_neg c5]; refine Or.inr ?_
  by_cases c6 : x = 226 ∨ x = 426
  · rw [if_pos c6]; exact Or.inl ⟨c6, rfl⟩
  rw [if_neg c6]; refine Or.inr ?_
  by_cases c7 : x = 244 ∨ x = 444
  · rw [if_pos c7]; exact Or.inl ⟨c7, rfl⟩
  rw [if_neg c7]; refine Or.inr ?_
  by_cases c8 : 600 ≤ x ∧ x < 612 ∨ 1000 ≤ x ∧ x < 1312
  · rw [if_pos c8]; exact Or.inl ⟨c8, rfl⟩
  rw [if_neg c8]; refine Or.inr ?_
  by_cases c9 : 620 ≤ x ∧ x < 632 ∨ 1400 ≤ x ∧ x < 1712
  · rw [if_pos c9]; exact Or.inl ⟨c9, rfl⟩
  rw [if_neg c9]; refine Or.inr ?_
  by_cases c10 : 640 ≤ x ∧ x < 652 ∨ 1800 ≤ x ∧ x < 2112
  · rw [if_pos c10]; exact Or.inl ⟨c10, rfl⟩
  rw [if_neg c10]; refine Or.inr ?_
  by_cases c11 : 660 ≤ x ∧ x < 673
  · rw [if_pos c11]; exact Or.inl ⟨c11, rfl⟩
  rw [if_neg c11]; refine Or.inr ?_
  by_cases c12 : 680 ≤ x ∧ x < 693
  · rw [if_pos c12]; exact Or.inl ⟨c12, rfl⟩
  rw [if_neg c12]; refine Or.inr ?_
  by_cases c13 : 700 ≤ x ∧ x < 713
  · rw [if_pos c13]; exact Or.inl ⟨c13, rfl⟩
  rw [if_neg c13]; refine Or.inr ?_
  by_cases c14 : 720 ≤ x ∧ x < 733
  · rw [if_pos c14]; exact ⟨c14, rfl⟩
  omega
theorem nwl_1 : ∀ x, x < 56 → ((shp x ≠ none ∧ sgT.getD x 0 = 1) ↔ (x = 40 ∨ x = 41 ∨ x = 42 ∨ x = 43 ∨ x = 50 ∨ x = 51 ∨ x = 52 ∨ x = 53 ∨ x = 54 ∨ x = 55 ∨ x = 44)) := by decide
theorem nw_1 (x : Nat) : (shp x ≠ none ∧ sg x = 1) ↔ (x = 40 ∨ x = 41 ∨ x = 42 ∨ x = 43 ∨ (50 ≤ x ∧ x < 56) ∨ x = 44 ∨ x = 244 ∨ x = 444) := by
  constructor
  · rintro ⟨h, e⟩
    rcases sg_v h with ⟨c, v⟩ | z
    · have := (nwl_1 x c).mp ⟨h, v.symm.trans e⟩
      omega
    · omega
  · intro h
    by_cases c : x < 56
    · obtain ⟨a, b⟩ := (nwl_1 x c).mpr (by omega)
      refine ⟨a, Eq.trans ?_ b⟩
      unfold sg
      rw [if_pos c]
    · have hs : shp x ≠ none := shp_of (by omega)
      refine ⟨hs, ?_⟩
      have := sg_v hs
      omega
theorem nwl_2 : ∀ x, x < 56 → ((shp x ≠ none ∧ sgT.getD x 0 = 2) ↔ (x = 1)) := by decide
theorem nw_2 (x : Nat) : (shp x ≠ none ∧ sg x = 2) ↔ (x = 1) := by
  constructor
  · rintro ⟨h, e⟩
    rcases sg_v h with ⟨c, v⟩ | z
    · have := (nwl_2 x c).mp ⟨h, v.symm.trans e⟩
      omega
    · omega
  · intro h
    by_cases c : x < 56
    · obtain ⟨a, b⟩ := (nwl_2 x c).mpr (by omega)
      refine ⟨a, Eq.trans ?_ b⟩
      unfold sg
      rw [if_pos c]
    · have hs : shp x ≠ none := shp_of (by omega)
      refine ⟨hs, ?_⟩
      have := sg_v hs
      omega
theorem nwl_3 : ∀ x, x < 56 → ((shp x ≠ none ∧ sgT.getD x 0 = 3) ↔ (x = 2 ∨ x = 31)) := by decide
theorem nw_3 (x : Nat) : (shp x ≠ none ∧ sg x = 3) ↔ (x = 2 ∨ x = 31 ∨ (100 ≤ x ∧ x < 116) ∨ (300 ≤ x ∧ x < 316) ∨ (500 ≤ x ∧ x < 516)) := by
  constructor
  · rintro ⟨h, e⟩
    rcases sg_v h with ⟨c, v⟩ | z
    · have := (nwl_3 x c).mp ⟨h, v.symm.trans e⟩
      omega
    · omega
  · intro h
    by_cases c : x < 56
    · obtain ⟨a, b⟩ := (nwl_3 x c).mpr (by omega)
      refine ⟨a, Eq.trans ?_ b⟩
      unfold sg
      rw [if_pos c]
    · have hs : shp x ≠ none := shp_of (by omega)
      refine ⟨hs, ?_⟩
      have := sg_v hs
      omega
theorem nwl_4 : ∀ x, x < 56 → ((shp x ≠ none ∧ sgT.getD x 0 = 4) ↔ (x = 3 ∨ x = 32)) := by decide
theorem nw_4 (x : Nat) : (shp x ≠ none ∧ sg x = 4) ↔ (x = 3 ∨ x = 32 ∨ (120 ≤ x ∧ x < 136) ∨ (320 ≤ x ∧ x < 336) ∨ (520 ≤ x ∧ x < 536)) := by
  constructor
  · rintro ⟨h, e⟩
    rcases sg_v h with ⟨c, v⟩ | z
    · have := (nwl_4 x c).mp ⟨h, v.symm.trans e⟩
      omega
    · omega
  · intro h
    by_cases c : x < 56
    · obtain ⟨a, b⟩ := (nwl_4 x c).mpr (by omega)
      refine ⟨a, Eq.trans ?_ b⟩
      unfold sg
      rw [if_pos c]
    · have hs : shp x ≠ none := shp_of (by omega)
      refine ⟨hs, ?_⟩
      have := sg_v hs
      omega
theorem nwl_5 : ∀ x, x < 56 → ((shp x ≠ none ∧ sgT.getD x 0 = 5) ↔ (x = 4)) := by decide
theorem nw_5 (x : Nat) : (shp x ≠ none ∧ sg x = 5) ↔ (x = 4 ∨ x = 204 ∨ x = 404) := by
  constructor
  · rintro ⟨h, e⟩
    rcases sg_v h with ⟨c, v⟩ | z
    · have := (nwl_5 x c).mp ⟨h, v.symm.trans e⟩
      omega
    · omega
  · intro h
    by_cases c : x < 56
    · obtain ⟨a, b⟩ := (nwl_5 x c).mpr (by omega)
      refine ⟨a, Eq.trans ?_ b⟩
      unfold sg
      rw [if_pos c]
    · have hs : shp x ≠ none := shp_of (by omega)
      refine ⟨hs, ?_⟩
      have := sg_v hs
      omega
theorem nwl_6 : ∀ x, x < 56 → ((shp x ≠ none ∧ sgT.getD x 0 = 6) ↔ (x = 5)) := by decide
theorem nw_6 (x : Nat) : (shp x ≠ none ∧ sg x = 6) ↔ (x = 5 ∨ x = 205 ∨ x = 405) := by
  constructor
  · rintro ⟨h, e⟩
    rcases sg_v h with ⟨c, v⟩ | z
    · have := (nwl_6 x c).mp ⟨h, v.symm.trans e⟩
      omega
    · omega
  · intro h
    by_cases c : x < 56
    · obtain ⟨a, b⟩ := (nwl_6 x c).mpr (by omega)
      refine ⟨a, Eq.trans ?_ b⟩
      unfold sg
      rw [if_pos c]
    · have hs : shp x ≠ none := shp_of (by omega)
      refine ⟨hs, ?_⟩
      have := sg_v hs
      omega
theorem nwl_7 : ∀ x, x < 56 → ((shp x ≠ none ∧ sgT.getD x 0 = 7) ↔ (x = 6 ∨ x = 33)) := by decide
theorem nw_7 (x : Nat) : (shp x ≠ none ∧ sg x = 7) ↔ (x = 6 ∨ x = 33) := by
  constructor
  · rintro ⟨h, e⟩
    rcases sg_v h with ⟨c, v⟩ | z
    · have := (nwl_7 x c).mp ⟨h, v.symm.trans e⟩
      omega
    · omega
  · intro h
    by_cases c : x < 56
    · obtain ⟨a, b⟩ := (nwl_7 x c).mpr (by omega)
      refine ⟨a, Eq.trans ?_ b⟩
      unfold sg
      rw [if_pos c]
    · have hs : shp x ≠ none := shp_of (by omega)
      refine ⟨hs, ?_⟩
      have := sg_v hs
      omega
theorem nwl_8 : ∀ x, x < 56 → ((shp x ≠ none ∧ sgT.getD x 0 = 8) ↔ (x = 7 ∨ x = 34)) := by decide
theorem nw_8 (x : Nat) : (shp x ≠ none ∧ sg x = 8) ↔ (x = 7 ∨ x = 34) := by
  constructor
  · rintro ⟨h, e⟩
    rcases sg_v h with ⟨c, v⟩ | z
    · have := (nwl_8 x c).mp ⟨h, v.symm.trans e⟩
      omega
    · omega
  · intro h
    by_cases c : x < 56
    · obtain ⟨a, b⟩ := (nwl_8 x c).mpr (by omega)
      refine ⟨a, Eq.trans ?_ b⟩
      unfold sg
      rw [if_pos c]
    · have hs : shp x ≠ none := shp_of (by omega)
      refine ⟨hs, ?_⟩
      have := sg_v hs
      omega
theorem nwl_9 : ∀ x, x < 56 → ((shp x ≠ none ∧ sgT.getD x 0 = 9) ↔ (x = 9)) := by decide
theorem nw_9 (x : Nat) : (shp x ≠ none ∧ sg x = 9) ↔ (x = 9) := by
  constructor
  · rintro ⟨h, e⟩
    rcases sg_v h with ⟨c, v⟩ | z
    · have := (nwl_9 x c).mp ⟨h, v.symm.trans e⟩
      omega
    · omega
  · intro h
    by_cases c : x < 56
    · obtain ⟨a, b⟩ := (nwl_9 x c).mpr (by omega)
      refine ⟨a, Eq.trans ?_ b⟩
      unfold sg
      rw [if_pos c]
    · have hs : shp x ≠ none := shp_of (by omega)
      refine ⟨hs, ?_⟩
      have := sg_v hs
      omega
theorem nwl_10 : ∀ x, x < 56 → ((shp x ≠ none ∧ sgT.getD x 0 = 10) ↔ (x = 14)) := by decide
theorem nw_10 (x : Nat) : (shp x ≠ none ∧ sg x = 10) ↔ (x = 14) := by
  constructor
  · rintro ⟨h, e⟩
    rcases sg_v h with ⟨c, v⟩ | z
    · have := (nwl_10 x c).mp ⟨h, v.symm.trans e⟩
      omega
    · omega
  · intro h
    by_cases c : x < 56
    · obtain ⟨a, b⟩ := (nwl_10 x c).mpr (by omega)
      refine ⟨a, Eq.trans ?_ b⟩
      unfold sg
      rw [if_pos c]
    · have hs : shp x ≠ none := shp_of (by omega)
      refine ⟨hs, ?_⟩
      have := sg_v hs
      omega
theorem nwl_11 : ∀ x, x < 56 → ((shp x ≠ none ∧ sgT.getD x 0 = 11) ↔ (x = 16)) := by decide
theorem nw_11 (x : Nat) : (shp x ≠ none ∧ sg x = 11) ↔ (x = 16 ∨ (600 ≤ x ∧ x < 612) ∨ (1000 ≤ x ∧ x < 1312)) := by
  constructor
  · rintro ⟨h, e⟩
    rcases sg_v h with ⟨c, v⟩ | z
    · have := (nwl_11 x c).mp ⟨h, v.symm.trans e⟩
      omega
    · omega
  · intro h
    by_cases c : x < 56
    · obtain ⟨a, b⟩ := (nwl_11 x c).mpr (by omega)
      refine ⟨a, Eq.trans ?_ b⟩
      unfold sg
      rw [if_pos c]
    · have hs : shp x ≠ none := shp_of (by omega)
      refine ⟨hs, ?_⟩
      have := sg_v hs
      omega
theorem nwl_12 : ∀ x, x < 56 → ((shp x ≠ none ∧ sgT.getD x 0 = 12) ↔ (x = 17)) := by decide
theorem nw_12 (x : Nat) : (shp x ≠ none ∧ sg x = 12) ↔ (x = 17 ∨ (620 ≤ x ∧ x < 632) ∨ (1400 ≤ x ∧ x < 1712)) := by
  constructor
  · rintro ⟨h, e⟩
    rcases sg_v h with ⟨c, v⟩ | z
    · have := (nwl_12 x c).mp ⟨h, v.symm.trans e⟩
      omega
    · omega
  · intro h
    by_cases c : x < 56
    · obtain ⟨a, b⟩ := (nwl_12 x c).mpr (by omega)
      refine ⟨a, Eq.trans ?_ b⟩
      unfold sg
      rw [if_pos c]
    · have hs : shp x ≠ none := shp_of (by omega)
      refine ⟨hs, ?_⟩
      have := sg_v hs
      omega
theorem nwl_13 : ∀ x, x < 56 → ((shp x ≠ none ∧ sgT.getD x 0 = 13) ↔ (x = 18)) := by decide
theorem nw_13 (x : Nat) : (shp x ≠ none ∧ sg x = 13) ↔ (x = 18 ∨ (640 ≤ x ∧ x < 652) ∨ (1800 ≤ x ∧ x < 2112)) := by
  constructor
  · rintro ⟨h, e⟩
    rcases sg_v h with ⟨c, v⟩ | z
    · have := (nwl_13 x c).mp ⟨h, v.symm.trans e⟩
      omega
    · omega
  · intro h
    by_cases c : x < 56
    · obtain ⟨a, b⟩ := (nwl_13 x c).mpr (by omega)
      refine ⟨a, Eq.trans ?_ b⟩
      unfold sg
      rw [if_pos c]
    · have hs : shp x ≠ none := shp_of (by omega)
      refine ⟨hs, ?_⟩
      have := sg_v hs
      omega
theorem nwl_14 : ∀ x, x < 56 → ((shp x ≠ none ∧ sgT.getD x 0 = 14) ↔ (x = 19)) := by decide
theorem nw_14 (x : Nat) : (shp x ≠ none ∧ sg x = 14) ↔ (x = 19 ∨ (660 ≤ x ∧ x < 673)) := by
  constructor
  · rintro ⟨h, e⟩
    rcases sg_v h with ⟨c, v⟩ | z
    · have := (nwl_14 x c).mp ⟨h, v.symm.trans e⟩
      omega
    · omega
  · intro h
    by_cases c : x < 56
    · obtain ⟨a, b⟩ := (nwl_14 x c).mpr (by omega)
      refine ⟨a, Eq.trans ?_ b⟩
      unfold sg
      rw [if_pos c]
    · have hs : shp x ≠ none := shp_of (by omega)
      refine ⟨hs, ?_⟩
      have := sg_v hs
      omega
theorem nwl_15 : ∀ x, x < 56 → ((shp x ≠ none ∧ sgT.getD x 0 = 15) ↔ (x = 20)) := by decide
theorem nw_15 (x : Nat) : (shp x ≠ none ∧ sg x = 15) ↔ (x = 20 ∨ (680 ≤ x ∧ x < 693)) := by
  constructor
  · rintro ⟨h, e⟩
    rcases sg_v h with ⟨c, v⟩ | z
    · have := (nwl_15 x c).mp ⟨h, v.symm.trans e⟩
      omega
    · omega
  · intro h
    by_cases c : x < 56
    · obtain ⟨a, b⟩ := (nwl_15 x c).mpr (by omega)
      refine ⟨a, Eq.trans ?_ b⟩
      unfold sg
      rw [if_pos c]
    · have hs : shp x ≠ none := shp_of (by omega)
      refine ⟨hs, ?_⟩
      have := sg_v hs
      omega
theorem nwl_16 : ∀ x, x < 56 → ((shp x ≠ none ∧ sgT.getD x 0 = 16) ↔ (x = 21)) := by decide
theorem nw_16 (x : Nat) : (shp x ≠ none ∧ sg x = 16) ↔ (x = 21 ∨ (700 ≤ x ∧ x < 713)) := by
  constructor
  · rintro ⟨h, e⟩
    rcases sg_v h with ⟨c, v⟩ | z
    · have := (nwl_16 x c).mp ⟨h, v.symm.trans e⟩
      omega
    · omega
  · intro h
    by_cases c : x < 56
    · obtain ⟨a, b⟩ := (nwl_16 x c).mpr (by omega)
      refine ⟨a, Eq.trans ?_ b⟩
      unfold sg
      rw [if_pos c]
    · have hs : shp x ≠ none := shp_of (by omega)
      refine ⟨hs, ?_⟩
      have := sg_v hs
      omega
theorem nwl_17 : ∀ x, x < 56 → ((shp x ≠ none ∧ sgT.getD x 0 = 17) ↔ (x = 22)) := by decide
theorem nw_17 (x : Nat) : (shp x ≠ none ∧ sg x = 17) ↔ (x = 22 ∨ (720 ≤ x ∧ x < 733)) := by
  constructor
  · rintro ⟨h, e⟩
    rcases sg_v h with ⟨c, v⟩ | z
    · have := (nwl_17 x c).mp ⟨h, v.symm.trans e⟩
      omega
    · omega
  · intro h
    by_cases c : x < 56
    · obtain ⟨a, b⟩ := (nwl_17 x c).mpr (by omega)
      refine ⟨a, Eq.trans ?_ b⟩
      unfold sg
      rw [if_pos c]
    · have hs : shp x ≠ none := shp_of (by omega)
      refine ⟨hs, ?_⟩
      have := sg_v hs
      omega
theorem nwl_18 : ∀ x, x < 56 → ((shp x ≠ none ∧ sgT.getD x 0 = 18) ↔ (x = 23)) := by decide
theorem nw_18 (x : Nat) : (shp x ≠ none ∧ sg x = 18) ↔ (x = 23) := by
  constructor
  · rintro ⟨h, e⟩
    rcases sg_v h with ⟨c, v⟩ | z
    · have := (nwl_18 x c).mp ⟨h, v.symm.trans e⟩
      omega
    · omega
  · intro h
    by_cases c : x < 56
    · obtain ⟨a, b⟩ := (nwl_18 x c).mpr (by omega)
      refine ⟨a, Eq.trans ?_ b⟩
      unfold sg
      rw [if_pos c]
    · have hs : shp x ≠ none := shp_of (by omega)
      refine ⟨hs, ?_⟩
      have := sg_v hs
      omega
theorem nwl_19 : ∀ x, x < 56 → ((shp x ≠ none ∧ sgT.getD x 0 = 19) ↔ (x = 26)) := by decide
theorem nw_19 (x : Nat) : (shp x ≠ none ∧ sg x = 19) ↔ (x = 26 ∨ x = 226 ∨ x = 426) := by
  constructor
  · rintro ⟨h, e⟩
    rcases sg_v h with ⟨c, v⟩ | z
    · have := (nwl_19 x c).mp ⟨h, v.symm.trans e⟩
      omega
    · omega
  · intro h
    by_cases c : x < 56
    · obtain ⟨a, b⟩ := (nwl_19 x c).mpr (by omega)
      refine ⟨a, Eq.trans ?_ b⟩
      unfold sg
      rw [if_pos c]
    · have hs : shp x ≠ none := shp_of (by omega)
      refine ⟨hs, ?_⟩
      have := sg_v hs
      omega
section MI
variable {N : tP} {s0 s : tM} {x0 : Nat} {K : tM → Prop}
theorem mulp (c m : Nat) : ∀ i b, i < 12 → b < 26 → (c + (26 * i + b) < 2112 + c) := fun _ _ _ _ => by omega
theorem p600 : ∀ i, i < 12 → shp (600 + i) = some (.inr (12, 26)) ∧ par (600 + i) = (16, i) ∧ sg (600 + i) = 11 := by decide +kernel
theorem p620 : ∀ i, i < 12 → shp (620 + i) = some (.inr (11, 26)) ∧ par (620 + i) = (17, i) ∧ sg (620 + i) = 12 := by decide +kernel
theorem p640 : ∀ i, i < 12 → shp (640 + i) = some (.inr (11, 26)) ∧ par (640 + i) = (18, i) ∧ sg (640 + i) = 13 := by decide +kernel
theorem p1000 : ∀ i, i < 12 → ∀ b, b < 26 → shp (1000 + (26 * i + b)) = some (.inr (3, 25)) ∧ par (1000 + (26 * i + b)) = (600 + i, b) := by decide +kernel
theorem p1400 : ∀ i, i < 12 → ∀ b, b < 26 → shp (1400 + (26 * i + b)) = some (.inr (0, 25)) ∧ par (1400 + (26 * i + b)) = (620 + i, b) := by decide +kernel
theorem p1800 : ∀ i, i < 12 → ∀ b, b < 26 → shp (1800 + (26 * i + b)) = some (.inr (0, 25)) ∧ par (1800 + (26 * i + b)) = (640 + i, b) := by decide +kernel
theorem p660 : ∀ i, i < 13 → shp (660 + i) = some (.inr (0, 26)) ∧ par (660 + i) = (19, i) ∧ sg (660 + i) = 14 := by decide +kernel
theorem p680 : ∀ i, i < 13 → shp (680 + i) = some (.inr (0, 26)) ∧ par (680 + i) = (20, i) ∧ sg (680 + i) = 15 := by decide +kernel
theorem p700 : ∀ i, i < 13 → shp (700 + i) = some (.inr (0, 26)) ∧ par (700 + i) = (21, i) ∧ sg (700 + i) = 16 := by decide +kernel
theorem p720 : ∀ i, i < 13 → shp (720 + i) = some (.inr (1, 26)) ∧ par (720 + i) = (22, i) ∧ sg (720 + i) = 17 := by decide +kernel
theorem r0_0 {r : Nat} (h : Rt 0 r) : r = 0 := by
  have key : ∀ r, r < 56 → shp r ≠ none → sgT.getD r 0 ≤ 0 → r = 0 := by decide
  have h2 := h.2
  rcases sg_v h.1 with ⟨c, v⟩ | z
  · exact key r c h.1 (by rw [← v]; exact h2)
  · omega
/-- only the object itself -/
theorem PC.in0 {q : Nat} (hq : s.1 q = none) (hq0 : ¬ q = 0) (hq2 : ¬ q = N.2.2 200) : PC N s (Rt 0) (fun _ => q) [(0, 8)] [(0, 11), (0, 13), (0, 27)] (fun _ => False) s 0 (tNew s q (.inl 0)) := by
  have r0 : ∀ r, Rt 0 r → r = 0 := fun r h => by
    exact r0_0 h
  refine ⟨⟨ext_n (ext_r N s) hq hq2, fun r h => ?_, fun r r' h h' _ => (r0 r h).trans (r0 r' h').symm, fun y hy hy0 => absurd (r0 y hy) hy0, fun r j h hn => ?_, fun a ha => ha.elim⟩, fun h => ?_, fun _ h => absurd List.mem_cons_self h, fun h => absurd (r0 1 h) (by decide)⟩
  · rw [r0 r h]
    exact ⟨.inl 0, rfl, if_pos rfl, hq0, hq, hq2⟩
  · have e := r0 r h
    subst e
    have : iv0 0 j = 0 := by
      unfold iv0
      rw [if_neg (by omega), if_neg (by omega), if_neg (by omega), if_neg]
      rintro ⟨-, rfl | rfl | rfl⟩
      · exact hn List.mem_cons_self
      · exact hn (List.mem_cons_of_mem _ List.mem_cons_self)
      · exact hn (List.mem_cons_of_mem _ (List.mem_cons_of_mem _ List.mem_cons_self))
    rw [this]
    exact if_pos rfl
  · have := r0 41 h
    omega
theorem PC.ox {R : Nat → Prop} {L : Nat → Nat} {PD PI : List (Nat × Nat)} {Q : Nat → Prop} {sQ : tM} {tx : Nat} (h : PC N s0 R L PD PI Q sQ tx s) (hR : R 0) (e : L 0 = x0) : tO s 0 x0 := by
  rw [← e]
  exact h.o hR rfl
end MI
