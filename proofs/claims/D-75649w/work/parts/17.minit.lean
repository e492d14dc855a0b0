set_option maxRecDepth 100000
theorem ob_X6_22 : xOb RX6 22 := ⟨q1601, q176, q177⟩
theorem fa_X6_7_6 : xFa RX6 7 6 1 := ⟨RX6, TX6, 51, tyX6, RX6, xcl_M, by decide, Or.inl q1603, Or.inl rfl⟩
theorem ff_X6_7_6 : xFf RX6 7 6 1 (.array .int) := ⟨RX6, TX6, 51, tyX6, RX6, xcl_M, by decide, q1603, Or.inl rfl, rfl, rfl, rfl⟩
theorem fa_X6_28_6 : xFa RX6 28 6 2 := ⟨RX6, TX6, 51, tyX6, RX6, xcl_M, by decide, Or.inl q1604, Or.inl rfl⟩
theorem ff_X6_28_6 : xFf RX6 28 6 2 (.array .int) := ⟨RX6, TX6, 51, tyX6, RX6, xcl_M, by decide, q1604, Or.inl rfl, rfl, rfl, rfl⟩
theorem fa_X6_31_6 : xFa RX6 31 6 3 := ⟨RX6, TX6, 51, tyX6, RX6, xcl_M, by decide, Or.inl q1605, Or.inl rfl⟩
theorem ff_X6_31_6 : xFf RX6 31 6 3 (.array .int) := ⟨RX6, TX6, 51, tyX6, RX6, xcl_M, by decide, q1605, Or.inl rfl, rfl, rfl, rfl⟩
theorem fa_X6_34_6 : xFa RX6 34 6 4 := ⟨RX6, TX6, 51, tyX6, RX6, xcl_M, by decide, Or.inl q1606, Or.inl rfl⟩
theorem ff_X6_34_6 : xFf RX6 34 6 4 (.array .boolean) := ⟨RX6, TX6, 51, tyX6, RX6, xcl_M, by decide, q1606, Or.inl rfl, rfl, rfl, rfl⟩
theorem fa_X6_38_6 : xFa RX6 38 6 5 := ⟨RX6, TX6, 51, tyX6, RX6, xcl_M, by decide, Or.inl q1607, Or.inl rfl⟩
theorem ff_X6_38_6 : xFf RX6 38 6 5 (.array .int) := ⟨RX6, TX6, 51, tyX6, RX6, xcl_M, by decide, q1607, Or.inl rfl, rfl, rfl, rfl⟩
theorem fa_X6_41_6 : xFa RX6 41 6 7 := ⟨RX6, TX6, 51, tyX6, RX6, xcl_M, by decide, Or.inl q1609, Or.inl rfl⟩
theorem ff_X6_41_6 : xFf RX6 41 6 7 (.array .byte) := ⟨RX6, TX6, 51, tyX6, RX6, xcl_M, by decide, q1609, Or.inl rfl, rfl, rfl, rfl⟩
theorem fa_X6_45_6 : xFa RX6 45 6 11 := ⟨RX6, TX6, 51, tyX6, RX6, xcl_M, by decide, Or.inl q1613, Or.inl rfl⟩
theorem ff_X6_45_6 : xFf RX6 45 6 11 (.array .byte) := ⟨RX6, TX6, 51, tyX6, RX6, xcl_M, by decide, q1613, Or.inl rfl, rfl, rfl, rfl⟩
theorem fa_X6_48_6 : xFa RX6 48 6 12 := ⟨RX6, TX6, 51, tyX6, RX6, xcl_M, by decide, Or.inl q1614, Or.inl rfl⟩
theorem ff_X6_48_6 : xFf RX6 48 6 12 (.array .int) := ⟨RX6, TX6, 51, tyX6, RX6, xcl_M, by decide, q1614, Or.inl rfl, rfl, rfl, rfl⟩
theorem fa_X6_51_6 : xFa RX6 51 6 14 := ⟨RX6, TX6, 51, tyX6, RX6, xcl_M, by decide, Or.inl q1616, Or.inl rfl⟩
theorem fp_X6_51_6 : xFp RX6 51 6 14 .int := ⟨RX6, TX6, 51, tyX6, RX6, xcl_M, by decide, Or.inl q1616, Or.inl rfl, rfl, rfl⟩
theorem fa_X6_54_6 : xFa RX6 54 6 15 := ⟨RX6, TX6, 51, tyX6, RX6, xcl_M, by decide, Or.inl q1617, Or.inl rfl⟩
theorem ff_X6_54_6 : xFf RX6 54 6 15 (.array .int) := ⟨RX6, TX6, 51, tyX6, RX6, xcl_M, by decide, q1617, Or.inl rfl, rfl, rfl, rfl⟩
theorem fa_X6_57_6 : xFa RX6 57 6 16 := ⟨RX6, TX6, 51, tyX6, RX6, xcl_M, by decide, Or.inl q1618, Or.inl rfl⟩
theorem ff_X6_57_6 : xFf RX6 57 6 16 (.array .int) := ⟨RX6, TX6, 51, tyX6, RX6, xcl_M, by decide, q1618, Or.inl rfl, rfl, rfl, rfl⟩
theorem fa_X6_60_6 : xFa RX6 60 6 17 := ⟨RX6, TX6, 51, tyX6, RX6, xcl_M, by decide, Or.inl q1619, Or.inl rfl⟩
theorem ff_X6_60_6 : xFf RX6 60 6 17 (.array .int) := ⟨RX6, TX6, 51, tyX6, RX6, xcl_M, by decide, q1619, Or.inl rfl, rfl, rfl, rfl⟩
theorem fa_X6_63_6 : xFa RX6 63 6 26 := ⟨RX6, TX6, 51, tyX6, RX6, xcl_M, by decide, Or.inl q1628, Or.inl rfl⟩
theorem ff_X6_63_6 : xFf RX6 63 6 26 (.array .int) := ⟨RX6, TX6, 51, tyX6, RX6, xcl_M, by decide, q1628, Or.inl rfl, rfl, rfl, rfl⟩
theorem fa_X6_66_6 : xFa RX6 66 6 31 := ⟨RX6, TX6, 51, tyX6, RX6, xcl_M, by decide, Or.inl q1633, Or.inl rfl⟩
theorem ff_X6_66_6 : xFf RX6 66 6 31 (.array .int) := ⟨RX6, TX6, 51, tyX6, RX6, xcl_M, by decide, q1633, Or.inl rfl, rfl, rfl, rfl⟩
theorem fa_X6_69_6 : xFa RX6 69 6 32 := ⟨RX6, TX6, 51, tyX6, RX6, xcl_M, by decide, Or.inl q1634, Or.inl rfl⟩
theorem ff_X6_69_6 : xFf RX6 69 6 32 (.array .int) := ⟨RX6, TX6, 51, tyX6, RX6, xcl_M, by decide, q1634, Or.inl rfl, rfl, rfl, rfl⟩
theorem fa_X6_72_6 : xFa RX6 72 6 34 := ⟨RX6, TX6, 51, tyX6, RX6, xcl_M, by decide, Or.inl q1636, Or.inl rfl⟩
theorem ff_X6_72_6 : xFf RX6 72 6 34 (.array .int) := ⟨RX6, TX6, 51, tyX6, RX6, xcl_M, by decide, q1636, Or.inl rfl, rfl, rfl, rfl⟩
theorem fa_X6_75_6 : xFa RX6 75 6 35 := ⟨RX6, TX6, 51, tyX6, RX6, xcl_M, by decide, Or.inl q1637, Or.inl rfl⟩
theorem ff_X6_75_6 : xFf RX6 75 6 35 (.array .int) := ⟨RX6, TX6, 51, tyX6, RX6, xcl_M, by decide, q1637, Or.inl rfl, rfl, rfl, rfl⟩
theorem fa_X6_78_6 : xFa RX6 78 6 36 := ⟨RX6, TX6, 51, tyX6, RX6, xcl_M, by decide, Or.inl q1638, Or.inl rfl⟩
theorem ff_X6_78_6 : xFf RX6 78 6 36 (.array .boolean) := ⟨RX6, TX6, 51, tyX6, RX6, xcl_M, by decide, q1638, Or.inl rfl, rfl, rfl, rfl⟩
theorem fa_X6_81_6 : xFa RX6 81 6 37 := ⟨RX6, TX6, 51, tyX6, RX6, xcl_M, by decide, Or.inl q1639, Or.inl rfl⟩
theorem ff_X6_81_6 : xFf RX6 81 6 37 (.array .int) := ⟨RX6, TX6, 51, tyX6, RX6, xcl_M, by decide, q1639, Or.inl rfl, rfl, rfl, rfl⟩
theorem fa_X6_84_6 : xFa RX6 84 6 38 := ⟨RX6, TX6, 51, tyX6, RX6, xcl_M, by decide, Or.inl q1640, Or.inl rfl⟩
theorem ff_X6_84_6 : xFf RX6 84 6 38 (.array .long) := ⟨RX6, TX6, 51, tyX6, RX6, xcl_M, by decide, q1640, Or.inl rfl, rfl, rfl, rfl⟩
theorem fa_X6_88_6 : xFa RX6 88 6 39 := ⟨RX6, TX6, 51, tyX6, RX6, xcl_M, by decide, Or.inl q1641, Or.inl rfl⟩
theorem ff_X6_88_6 : xFf RX6 88 6 39 (.array .int) := ⟨RX6, TX6, 51, tyX6, RX6, xcl_M, by decide, q1641, Or.inl rfl, rfl, rfl, rfl⟩
theorem fa_X6_91_6 : xFa RX6 91 6 40 := ⟨RX6, TX6, 51, tyX6, RX6, xcl_M, by decide, Or.inl q1642, Or.inl rfl⟩
theorem ff_X6_91_6 : xFf RX6 91 6 40 (.array .long) := ⟨RX6, TX6, 51, tyX6, RX6, xcl_M, by decide, q1642, Or.inl rfl, rfl, rfl, rfl⟩
theorem fa_X6_94_6 : xFa RX6 94 6 41 := ⟨RX6, TX6, 51, tyX6, RX6, xcl_M, by decide, Or.inl q1643, Or.inl rfl⟩
theorem fp_X6_94_6 : xFp RX6 94 6 41 .int := ⟨RX6, TX6, 51, tyX6, RX6, xcl_M, by decide, Or.inl q1643, Or.inl rfl, rfl, rfl⟩
theorem fa_X6_97_6 : xFa RX6 97 6 47 := ⟨RX6, TX6, 51, tyX6, RX6, xcl_M, by decide, Or.inl q1649, Or.inl rfl⟩
theorem ff_X6_97_6 : xFf RX6 97 6 47 (.array .long) := ⟨RX6, TX6, 51, tyX6, RX6, xcl_M, by decide, q1649, Or.inl rfl, rfl, rfl, rfl⟩
theorem fa_X6_100_6 : xFa RX6 100 6 48 := ⟨RX6, TX6, 51, tyX6, RX6, xcl_M, by decide, Or.inl q1650, Or.inl rfl⟩
theorem ff_X6_100_6 : xFf RX6 100 6 48 (.array .int) := ⟨RX6, TX6, 51, tyX6, RX6, xcl_M, by decide, q1650, Or.inl rfl, rfl, rfl, rfl⟩
theorem fa_X6_103_6 : xFa RX6 103 6 49 := ⟨RX6, TX6, 51, tyX6, RX6, xcl_M, by decide, Or.inl q1651, Or.inl rfl⟩
theorem fp_X6_103_6 : xFp RX6 103 6 49 .int := ⟨RX6, TX6, 51, tyX6, RX6, xcl_M, by decide, Or.inl q1651, Or.inl rfl, rfl, rfl⟩
def v_X6_init (N : tP) (x0 : Nat) (k n : Nat) (s : tM) (Kr : tM → Prop) : Prop :=
  (tO s 6 x0 ∧ (1 ≤ k ∧ (7 ≤ n ∧ (∀ q104 : Nat, s.1 q104 = none → ¬ q104 = 0 → ¬ q104 = N.2.2 200 → (∀ s105 : tM, s105 = tNew s q104 (.inr (0, 7)) → (tO s105 6 x0 ∧ (∀ s108 : tM, s108 = tsR s105 x0 1 q104 → (1 ≤ (k - 1) ∧ (5652 ≤ (n - 7) ∧ (∀ q112 : Nat, s108.1 q112 = none → ¬ q112 = 0 → ¬ q112 = N.2.2 200 → (∀ s113 : tM, s113 = tNew s108 q112 (.inr (0, 5652)) → (tO s113 6 x0 ∧ (∀ s116 : tM, s116 = tsR s113 x0 2 q112 → (1 ≤ ((k - 1) - 1) ∧ (11304 ≤ ((n - 7) - 5652) ∧ (∀ q120 : Nat, s116.1 q120 = none → ¬ q120 = 0 → ¬ q120 = N.2.2 200 → (∀ s121 : tM, s121 = tNew s116 q120 (.inr (0, 11304)) → (tO s121 6 x0 ∧ (∀ s124 : tM, s124 = tsR s121 x0 3 q120 → (1 ≤ (((k - 1) - 1) - 1) ∧ (2 ≤ (((n - 7) - 5652) - 11304) ∧ (∀ q128 : Nat, s124.1 q128 = none → ¬ q128 = 0 → ¬ q128 = N.2.2 200 → (∀ s129 : tM, s129 = tNew s124 q128 (.inr (3, 2)) → (tO s129 6 x0 ∧ (∀ s132 : tM, s132 = tsR s129 x0 4 q128 → (1 ≤ ((((k - 1) - 1) - 1) - 1) ∧ (50 ≤ ((((n - 7) - 5652) - 11304) - 2) ∧ (∀ q136 : Nat, s132.1 q136 = none → ¬ q136 = 0 → ¬ q136 = N.2.2 200 → (∀ s137 : tM, s137 = tNew s132 q136 (.inr (0, 50)) → (tO s137 6 x0 ∧ (∀ s140 : tM, s140 = tsR s137 x0 5 q136 → (1 ≤ (((((k - 1) - 1) - 1) - 1) - 1) ∧ (137 ≤ (((((n - 7) - 5652) - 11304) - 2) - 50) ∧ (∀ q144 : Nat, s140.1 q144 = none → ¬ q144 = 0 → ¬ q144 = N.2.2 200 → (∀ s145 : tM, s145 = tNew s140 q144 (.inr (2, 137)) → (tX s145 2 q144 0 ∧ (∀ s148 : tM, s148 = tsI s145 q144 0 (vp_nar .byte 99) → (tX s148 2 q144 1 ∧ (∀ s151 : tM, s151 = tsI s148 q144 1 (vp_nar .byte 111) → (tX s151 2 q144 2 ∧ (∀ s154 : tM, s154 = tsI s151 q144 2 (vp_nar .byte 115) → (tX s154 2 q144 3 ∧ (∀ s157 : tM, s157 = tsI s154 q144 3 (vp_nar .byte 116) → (tX s157 2 q144 4 ∧ (∀ s160 : tM, s160 = tsI s157 q144 4 (vp_nar .byte 115) → (tX s160 2 q144 5 ∧ (∀ s163 : tM, s163 = tsI s160 q144 5 (vp_nar .byte 32) → (tX s163 2 q144 6 ∧ (∀ s166 : tM, s166 = tsI s163 q144 6 (vp_nar .byte 101) → (tX s166 2 q144 7 ∧ (∀ s169 : tM, s169 = tsI s166 q144 7 (vp_nar .byte 97) → (tX s169 2 q144 8 ∧ (∀ s172 : tM, s172 = tsI s169 q144 8 (vp_nar .byte 114) → (tX s172 2 q144 9 ∧ (∀ s175 : tM, s175 = tsI s172 q144 9 (vp_nar .byte 110) → (tX s175 2 q144 10 ∧ (∀ s178 : tM, s178 = tsI s175 q144 10 (vp_nar .byte 115) → (tX s178 2 q144 11 ∧ (∀ s181 : tM, s181 = tsI s178 q144 11 (vp_nar .byte 32) → (tX s181 2 q144 12 ∧ (∀ s184 : tM, s184 = tsI s181 q144 12 (vp_nar .byte 98) → (tX s184 2 q144 13 ∧ (∀ s187 : tM, s187 = tsI s184 q144 13 (vp_nar .byte 97) → (tX s187 2 q144 14 ∧ (∀ s190 : tM, s190 = tsI s187 q144 14 (vp_nar .byte 114) → (tX s190 2 q144 15 ∧ (∀ s193 : tM, s193 = tsI s190 q144 15 (vp_nar .byte 115) → (tX s193 2 q144 16 ∧ (∀ s196 : tM, s196 = tsI s193 q144 16 (vp_nar .byte 32) → (tX s196 2 q144 17 ∧ (∀ s199 : tM, s199 = tsI s196 q144 17 (vp_nar .byte 105) → (tX s199 2 q144 18 ∧ (∀ s202 : tM, s202 = tsI s199 q144 18 (vp_nar .byte 102) → (tX s202 2 q144 19 ∧ (∀ s205 : tM, s205 = tsI s202 q144 19 (vp_nar .byte 32) → (tX s205 2 q144 20 ∧ (∀ s208 : tM, s208 = tsI s205 q144 20 (vp_nar .byte 111) → (tX s208 2 q144 21 ∧ (∀ s211 : tM, s211 = tsI s208 q144 21 (vp_nar .byte 114) → (tX s211 2 q144 22 ∧ (∀ s214 : tM, s214 = tsI s211 q144 22 (vp_nar .byte 32) → (tX s214 2 q144 23 ∧ (∀ s217 : tM, s217 = tsI s214 q144 23 (vp_nar .byte 97) → (tX s217 2 q144 24 ∧ (∀ s220 : tM, s220 = tsI s217 q144 24 (vp_nar .byte 110) → (tX s220 2 q144 25 ∧ (∀ s223 : tM, s223 = tsI s220 q144 25 (vp_nar .byte 100) → (tX s223 2 q144 26 ∧ (∀ s226 : tM, s226 = tsI s223 q144 26 (vp_nar .byte 32) → (tX s226 2 q144 27 ∧ (∀ s229 : tM, s229 = tsI s226 q144 27 (vp_nar .byte 110) → (tX s229 2 q144 28 ∧ (∀ s232 : tM, s232 = tsI s229 q144 28 (vp_nar .byte 111) → (tX s232 2 q144 29 ∧ (∀ s235 : tM, s235 = tsI s232 q144 29 (vp_nar .byte 116) → (tX s235 2 q144 30 ∧ (∀ s238 : tM, s238 = tsI s235 q144 30 (vp_nar .byte 32) → (tX s238 2 q144 31 ∧ (∀ s241 : tM, s241 = tsI s238 q144 31 (vp_nar .byte 112) → (tX s241 2 q144 32 ∧ (∀ s244 : tM, s244 = tsI s241 q144 32 (vp_nar .byte 108) → (tX s244 2 q144 33 ∧ (∀ s247 : tM, s247 = tsI s244 q144 33 (vp_nar .byte 97) → (tX s247 2 q144 34 ∧ (∀ s250 : tM, s250 = tsI s247 q144 34 (vp_nar .byte 99) → (tX s250 2 q144 35 ∧ (∀ s253 : tM, s253 = tsI s250 q144 35 (vp_nar .byte 101) → (tX s253 2 q144 36 ∧ (∀ s256 : tM, s256 = tsI s253 q144 36 (vp_nar .byte 32) → (tX s256 2 q144 37 ∧ (∀ s259 : tM, s259 = tsI s256 q144 37 (vp_nar .byte 97) → (tX s259 2 q144 38 ∧ (∀ s262 : tM, s262 = tsI s259 q144 38 (vp_nar .byte 112) → (tX s262 2 q144 39 ∧ (∀ s265 : tM, s265 = tsI s262 q144 39 (vp_nar .byte 97) → (tX s265 2 q144 40 ∧ (∀ s268 : tM, s268 = tsI s265 q144 40 (vp_nar .byte 114) → (tX s268 2 q144 41 ∧ (∀ s271 : tM, s271 = tsI s268 q144 41 (vp_nar .byte 116) → (tX s271 2 q144 42 ∧ (∀ s274 : tM, s274 = tsI s271 q144 42 (vp_nar .byte 32) → (tX s274 2 q144 43 ∧ (∀ s277 : tM, s277 = tsI s274 q144 43 (vp_nar .byte 97) → (tX s277 2 q144 44 ∧ (∀ s280 : tM, s280 = tsI s277 q144 44 (vp_nar .byte 104) → (tX s280 2 q144 45 ∧ (∀ s283 : tM, s283 = tsI s280 q144 45 (vp_nar .byte 101) → (tX s283 2 q144 46 ∧ (∀ s286 : tM, s286 = tsI s283 q144 46 (vp_nar .byte 97) → (tX s286 2 q144 47 ∧ (∀ s289 : tM, s289 = tsI s286 q144 47 (vp_nar .byte 100) → (tX s289 2 q144 48 ∧ (∀ s292 : tM, s292 = tsI s289 q144 48 (vp_nar .byte 32) → (tX s292 2 q144 49 ∧ (∀ s295 : tM, s295 = tsI s292 q144 49 (vp_nar .byte 108) → (tX s295 2 q144 50 ∧ (∀ s298 : tM, s298 = tsI s295 q144 50 (vp_nar .byte 101) → (tX s298 2 q144 51 ∧ (∀ s301 : tM, s301 = tsI s298 q144 51 (vp_nar .byte 97) → (tX s301 2 q144 52 ∧ (∀ s304 : tM, s304 = tsI s301 q144 52 (vp_nar .byte 112) → (tX s304 2 q144 53 ∧ (∀ s307 : tM, s307 = tsI s304 q144 53 (vp_nar .byte 32) → (tX s307 2 q144 54 ∧ (∀ s310 : tM, s310 = tsI s307 q144 54 (vp_nar .byte 109) → (tX s310 2 q144 55 ∧ (∀ s313 : tM, s313 = tsI s310 q144 55 (vp_nar .byte 111) → (tX s313 2 q144 56 ∧ (∀ s316 : tM, s316 = tsI s313 q144 56 (vp_nar .byte 118) → (tX s316 2 q144 57 ∧ (∀ s319 : tM, s319 = tsI s316 q144 57 (vp_nar .byte 101) → (tX s319 2 q144 58 ∧ (∀ s322 : tM, s322 = tsI s319 q144 58 (vp_nar .byte 115) → (tX s322 2 q144 59 ∧ (∀ s325 : tM, s325 = tsI s322 q144 59 (vp_nar .byte 32) → (tX s325 2 q144 60 ∧ (∀ s328 : tM, s328 = tsI s325 q144 60 (vp_nar .byte 108) → (tX s328 2 q144 61 ∧ (∀ s331 : tM, s331 = tsI s328 q144 61 (vp_nar .byte 97) → (tX s331 2 q144 62 ∧ (∀ s334 : tM, s334 = tsI s331 q144 62 (vp_nar .byte 115) → (tX s334 2 q144 63 ∧ (∀ s337 : tM, s337 = tsI s334 q144 63 (vp_nar .byte 116) → (tX s337 2 q144 64 ∧ (∀ s340 : tM, s340 = tsI s337 q144 64 (vp_nar .byte 32) → (tX s340 2 q144 65 ∧ (∀ s343 : tM, s343 = tsI s340 q144 65 (vp_nar .byte 109) → (tX s343 2 q144 66 ∧ (∀ s346 : tM, s346 = tsI s343 q144 66 (vp_nar .byte 111) → (tX s346 2 q144 67 ∧ (∀ s349 : tM, s349 = tsI s346 q144 67 (vp_nar .byte 111) → (tX s349 2 q144 68 ∧ (∀ s352 : tM, s352 = tsI s349 q144 68 (vp_nar .byte 100) → (tX s352 2 q144 69 ∧ (∀ s355 : tM, s355 = tsI s352 q144 69 (vp_nar .byte 32) → (tX s355 2 q144 70 ∧ (∀ s358 : tM, s358 = tsI s355 q144 70 (vp_nar .byte 104) → (tX s358 2 q144 71 ∧ (∀ s361 : tM, s361 = tsI s358 q144 71 (vp_nar .byte 101) → (tX s361 2 q144 72 ∧ (∀ s364 : tM, s364 = tsI s361 q144 72 (vp_nar .byte 114) → (tX s364 2 q144 73 ∧ (∀ s367 : tM, s367 = tsI s364 q144 73 (vp_nar .byte 101) → (tX s367 2 q144 74 ∧ (∀ s370 : tM, s370 = tsI s367 q144 74 (vp_nar .byte 32) → (tX s370 2 q144 75 ∧ (∀ s373 : tM, s373 = tsI s370 q144 75 (vp_nar .byte 117) → (tX s373 2 q144 76 ∧ (∀ s376 : tM, s376 = tsI s373 q144 76 (vp_nar .byte 110) → (tX s376 2 q144 77 ∧ (∀ s379 : tM, s379 = tsI s376 q144 77 (vp_nar .byte 100) → (tX s379 2 q144 78 ∧ (∀ s382 : tM, s382 = tsI s379 q144 78 (vp_nar .byte 101) → (tX s382 2 q144 79 ∧ (∀ s385 : tM, s385 = tsI s382 q144 79 (vp_nar .byte 114) → (tX s385 2 q144 80 ∧ (∀ s388 : tM, s388 = tsI s385 q144 80 (vp_nar .byte 32) → (tX s388 2 q144 81 ∧ (∀ s391 : tM, s391 = tsI s388 q144 81 (vp_nar .byte 100) → (tX s391 2 q144 82 ∧ (∀ s394 : tM, s394 = tsI s391 q144 82 (vp_nar .byte 97) → (tX s394 2 q144 83 ∧ (∀ s397 : tM, s397 = tsI s394 q144 83 (vp_nar .byte 121) → (tX s397 2 q144 84 ∧ (∀ s400 : tM, s400 = tsI s397 q144 84 (vp_nar .byte 32) → (tX s400 2 q144 85 ∧ (∀ s403 : tM, s403 = tsI s400 q144 85 (vp_nar .byte 100) → (tX s403 2 q144 86 ∧ (∀ s406 : tM, s406 = tsI s403 q144 86 (vp_nar .byte 111) → (tX s406 2 q144 87 ∧ (∀ s409 : tM, s409 = tsI s406 q144 87 (vp_nar .byte 110) → (tX s409 2 q144 88 ∧ (∀ s412 : tM, s412 = tsI s409 q144 88 (vp_nar .byte 101) → (tX s412 2 q144 89 ∧ (∀ s415 : tM, s415 = tsI s412 q144 89 (vp_nar .byte 32) → (tX s415 2 q144 90 ∧ (∀ s418 : tM, s418 = tsI s415 q144 90 (vp_nar .byte 108) → (tX s418 2 q144 91 ∧ (∀ s421 : tM, s421 = tsI s418 q144 91 (vp_nar .byte 97) → (tX s421 2 q144 92 ∧ (∀ s424 : tM, s424 = tsI s421 q144 92 (vp_nar .byte 116) → (tX s424 2 q144 93 ∧ (∀ s427 : tM, s427 = tsI s424 q144 93 (vp_nar .byte 101) → (tX s427 2 q144 94 ∧ (∀ s430 : tM, s430 = tsI s427 q144 94 (vp_nar .byte 115) → (tX s430 2 q144 95 ∧ (∀ s433 : tM, s433 = tsI s430 q144 95 (vp_nar .byte 116) → (tX s433 2 q144 96 ∧ (∀ s436 : tM, s436 = tsI s433 q144 96 (vp_nar .byte 32) → (tX s436 2 q144 97 ∧ (∀ s439 : tM, s439 = tsI s436 q144 97 (vp_nar .byte 98) → (tX s439 2 q144 98 ∧ (∀ s442 : tM, s442 = tsI s439 q144 98 (vp_nar .byte 97) → (tX s442 2 q144 99 ∧ (∀ s445 : tM, s445 = tsI s442 q144 99 (vp_nar .byte 114) → (tX s445 2 q144 100 ∧ (∀ s448 : tM, s448 = tsI s445 q144 100 (vp_nar .byte 114) → (tX s448 2 q144 101 ∧ (∀ s451 : tM, s451 = tsI s448 q144 101 (vp_nar .byte 101) → (tX s451 2 q144 102 ∧ (∀ s454 : tM, s454 = tsI s451 q144 102 (vp_nar .byte 100) → (tX s454 2 q144 103 ∧ (∀ s457 : tM, s457 = tsI s454 q144 103 (vp_nar .byte 32) → (tX s457 2 q144 104 ∧ (∀ s460 : tM, s460 = tsI s457 q144 104 (vp_nar .byte 97) → (tX s460 2 q144 105 ∧ (∀ s463 : tM, s463 = tsI s460 q144 105 (vp_nar .byte 108) → (tX s463 2 q144 106 ∧ (∀ s466 : tM, s466 = tsI s463 q144 106 (vp_nar .byte 108) → (tX s466 2 q144 107 ∧ (∀ s469 : tM, s469 = tsI s466 q144 107 (vp_nar .byte 32) → (tX s469 2 q144 108 ∧ (∀ s472 : tM, s472 = tsI s469 q144 108 (vp_nar .byte 115) → (tX s472 2 q144 109 ∧ (∀ s475 : tM, s475 = tsI s472 q144 109 (vp_nar .byte 101) → (tX s475 2 q144 110 ∧ (∀ s478 : tM, s478 = tsI s475 q144 110 (vp_nar .byte 116) → (tX s478 2 q144 111 ∧ (∀ s481 : tM, s481 = tsI s478 q144 111 (vp_nar .byte 32) → (tX s481 2 q144 112 ∧ (∀ s484 : tM, s484 = tsI s481 q144 112 (vp_nar .byte 115) → (tX s484 2 q144 113 ∧ (∀ s487 : tM, s487 = tsI s484 q144 113 (vp_nar .byte 104) → (tX s487 2 q144 114 ∧ (∀ s490 : tM, s490 = tsI s487 q144 114 (vp_nar .byte 105) → (tX s490 2 q144 115 ∧ (∀ s493 : tM, s493 = tsI s490 q144 115 (vp_nar .byte 102) → (tX s493 2 q144 116 ∧ (∀ s496 : tM, s496 = tsI s493 q144 116 (vp_nar .byte 116) → (tX s496 2 q144 117 ∧ (∀ s499 : tM, s499 = tsI s496 q144 117 (vp_nar .byte 32) → (tX s499 2 q144 118 ∧ (∀ s502 : tM, s502 = tsI s499 q144 118 (vp_nar .byte 115) → (tX s502 2 q144 119 ∧ (∀ s505 : tM, s505 = tsI s502 q144 119 (vp_nar .byte 119) → (tX s505 2 q144 120 ∧ (∀ s508 : tM, s508 = tsI s505 q144 120 (vp_nar .byte 97) → (tX s508 2 q144 121 ∧ (∀ s511 : tM, s511 = tsI s508 q144 121 (vp_nar .byte 112) → (tX s511 2 q144 122 ∧ (∀ s514 : tM, s514 = tsI s511 q144 122 (vp_nar .byte 32) → (tX s514 2 q144 123 ∧ (∀ s517 : tM, s517 = tsI s514 q144 123 (vp_nar .byte 112) → (tX s517 2 q144 124 ∧ (∀ s520 : tM, s520 = tsI s517 q144 124 (vp_nar .byte 97) → (tX s520 2 q144 125 ∧ (∀ s523 : tM, s523 = tsI s520 q144 125 (vp_nar .byte 115) → (tX s523 2 q144 126 ∧ (∀ s526 : tM, s526 = tsI s523 q144 126 (vp_nar .byte 115) → (tX s526 2 q144 127 ∧ (∀ s529 : tM, s529 = tsI s526 q144 127 (vp_nar .byte 32) → (tX s529 2 q144 128 ∧ (∀ s532 : tM, s532 = tsI s529 q144 128 (vp_nar .byte 116) → (tX s532 2 q144 129 ∧ (∀ s535 : tM, s535 = tsI s532 q144 129 (vp_nar .byte 111) → (tX s535 2 q144 130 ∧ (∀ s538 : tM, s538 = tsI s535 q144 130 (vp_nar .byte 32) → (tX s538 2 q144 131 ∧ (∀ s541 : tM, s541 = tsI s538 q144 131 (vp_nar .byte 116) → (tX s541 2 q144 132 ∧ (∀ s544 : tM, s544 = tsI s541 q144 132 (vp_nar .byte 105) → (tX s544 2 q144 133 ∧ (∀ s547 : tM, s547 = tsI s544 q144 133 (vp_nar .byte 109) → (tX s547 2 q144 134 ∧ (∀ s550 : tM, s550 = tsI s547 q144 134 (vp_nar .byte 101) → (tX s550 2 q144 135 ∧ (∀ s553 : tM, s553 = tsI s550 q144 135 (vp_nar .byte 115) → (tX s553 2 q144 136 ∧ (∀ s556 : tM, s556 = tsI s553 q144 136 (vp_nar .byte 32) → (tO s556 6 x0 ∧ (∀ s559 : tM, s559 = tsR s556 x0 7 q144 → (1 ≤ ((((((k - 1) - 1) - 1) - 1) - 1) - 1) ∧ (400 ≤ ((((((n - 7) - 5652) - 11304) - 2) - 50) - 137) ∧ (∀ q563 : Nat, s559.1 q563 = none → ¬ q563 = 0 → ¬ q563 = N.2.2 200 → (∀ s564 : tM, s564 = tNew s559 q563 (.inr (2, 400)) → (tO s564 6 x0 ∧ (∀ s567 : tM, s567 = tsR s564 x0 11 q563 → (1 ≤ (((((((k - 1) - 1) - 1) - 1) - 1) - 1) - 1) ∧ (5 ≤ (((((((n - 7) - 5652) - 11304) - 2) - 50) - 137) - 400) ∧ (∀ q571 : Nat, s567.1 q571 = none → ¬ q571 = 0 → ¬ q571 = N.2.2 200 → (∀ s572 : tM, s572 = tNew s567 q571 (.inr (0, 5)) → (tO s572 6 x0 ∧ (∀ s575 : tM, s575 = tsR s572 x0 12 q571 → (∀ s577 : tM, s577 = tsI s575 x0 14 (-1) → (1 ≤ ((((((((k - 1) - 1) - 1) - 1) - 1) - 1) - 1) - 1) ∧ (401 ≤ ((((((((n - 7) - 5652) - 11304) - 2) - 50) - 137) - 400) - 5) ∧ (∀ q581 : Nat, s577.1 q581 = none → ¬ q581 = 0 → ¬ q581 = N.2.2 200 → (∀ s582 : tM, s582 = tNew s577 q581 (.inr (0, 401)) → (tO s582 6 x0 ∧ (∀ s585 : tM, s585 = tsR s582 x0 15 q581 → (1 ≤ (((((((((k - 1) - 1) - 1) - 1) - 1) - 1) - 1) - 1) - 1) ∧ (401 ≤ (((((((((n - 7) - 5652) - 11304) - 2) - 50) - 137) - 400) - 5) - 401) ∧ (∀ q589 : Nat, s585.1 q589 = none → ¬ q589 = 0 → ¬ q589 = N.2.2 200 → (∀ s590 : tM, s590 = tNew s585 q589 (.inr (0, 401)) → (tO s590 6 x0 ∧ (∀ s593 : tM, s593 = tsR s590 x0 16 q589 → (1 ≤ ((((((((((k - 1) - 1) - 1) - 1) - 1) - 1) - 1) - 1) - 1) - 1) ∧ (401 ≤ ((((((((((n - 7) - 5652) - 11304) - 2) - 50) - 137) - 400) - 5) - 401) - 401) ∧ (∀ q597 : Nat, s593.1 q597 = none → ¬ q597 = 0 → ¬ q597 = N.2.2 200 → (∀ s598 : tM, s598 = tNew s593 q597 (.inr (0, 401)) → (tO s598 6 x0 ∧ (∀ s601 : tM, s601 = tsR s598 x0 17 q597 → (1 ≤ (((((((((((k - 1) - 1) - 1) - 1) - 1) - 1) - 1) - 1) - 1) - 1) - 1) ∧ (10 ≤ (((((((((((n - 7) - 5652) - 11304) - 2) - 50) - 137) - 400) - 5) - 401) - 401) - 401) ∧ (∀ q605 : Nat, s601.1 q605 = none → ¬ q605 = 0 → ¬ q605 = N.2.2 200 → (∀ s606 : tM, s606 = tNew s601 q605 (.inr (0, 10)) → (tO s606 6 x0 ∧ (∀ s609 : tM, s609 = tsR s606 x0 26 q605 → (1 ≤ ((((((((((((k - 1) - 1) - 1) - 1) - 1) - 1) - 1) - 1) - 1) - 1) - 1) - 1) ∧ (416 ≤ ((((((((((((n - 7) - 5652) - 11304) - 2) - 50) - 137) - 400) - 5) - 401) - 401) - 401) - 10) ∧ (∀ q613 : Nat, s609.1 q613 = none → ¬ q613 = 0 → ¬ q613 = N.2.2 200 → (∀ s614 : tM, s614 = tNew s609 q613 (.inr (0, 416)) → (tO s614 6 x0 ∧ (∀ s617 : tM, s617 = tsR s614 x0 31 q613 → (1 ≤ (((((((((((((k - 1) - 1) - 1) - 1) - 1) - 1) - 1) - 1) - 1) - 1) - 1) - 1) - 1) ∧ (416 ≤ (((((((((((((n - 7) - 5652) - 11304) - 2) - 50) - 137) - 400) - 5) - 401) - 401) - 401) - 10) - 416) ∧ (∀ q621 : Nat, s617.1 q621 = none → ¬ q621 = 0 → ¬ q621 = N.2.2 200 → (∀ s622 : tM, s622 = tNew s617 q621 (.inr (0, 416)) → (tO s622 6 x0 ∧ (∀ s625 : tM, s625 = tsR s622 x0 32 q621 → (1 ≤ ((((((((((((((k - 1) - 1) - 1) - 1) - 1) - 1) - 1) - 1) - 1) - 1) - 1) - 1) - 1) - 1) ∧ (7500 ≤ ((((((((((((((n - 7) - 5652) - 11304) - 2) - 50) - 137) - 400) - 5) - 401) - 401) - 401) - 10) - 416) - 416) ∧ (∀ q629 : Nat, s625.1 q629 = none → ¬ q629 = 0 → ¬ q629 = N.2.2 200 → (∀ s630 : tM, s630 = tNew s625 q629 (.inr (0, 7500)) → (tO s630 6 x0 ∧ (∀ s633 : tM, s633 = tsR s630 x0 34 q629 → (1 ≤ (((((((((((((((k - 1) - 1) - 1) - 1) - 1) - 1) - 1) - 1) - 1) - 1) - 1) - 1) - 1) - 1) - 1) ∧ (7500 ≤ (((((((((((((((n - 7) - 5652) - 11304) - 2) - 50) - 137) - 400) - 5) - 401) - 401) - 401) - 10) - 416) - 416) - 7500) ∧ (∀ q637 : Nat, s633.1 q637 = none → ¬ q637 = 0 → ¬ q637 = N.2.2 200 → (∀ s638 : tM, s638 = tNew s633 q637 (.inr (0, 7500)) → (tO s638 6 x0 ∧ (∀ s641 : tM, s641 = tsR s638 x0 35 q637 → (1 ≤ ((((((((((((((((k - 1) - 1) - 1) - 1) - 1) - 1) - 1) - 1) - 1) - 1) - 1) - 1) - 1) - 1) - 1) - 1) ∧ (7500 ≤ ((((((((((((((((n - 7) - 5652) - 11304) - 2) - 50) - 137) - 400) - 5) - 401) - 401) - 401) - 10) - 416) - 416) - 7500) - 7500) ∧ (∀ q645 : Nat, s641.1 q645 = none → ¬ q645 = 0 → ¬ q645 = N.2.2 200 → (∀ s646 : tM, s646 = tNew s641 q645 (.inr (3, 7500)) → (tO s646 6 x0 ∧ (∀ s649 : tM, s649 = tsR s646 x0 36 q645 → (1 ≤ (((((((((((((((((k - 1) - 1) - 1) - 1) - 1) - 1) - 1) - 1) - 1) - 1) - 1) - 1) - 1) - 1) - 1) - 1) - 1) ∧ (300 ≤ (((((((((((((((((n - 7) - 5652) - 11304) - 2) - 50) - 137) - 400) - 5) - 401) - 401) - 401) - 10) - 416) - 416) - 7500) - 7500) - 7500) ∧ (∀ q653 : Nat, s649.1 q653 = none → ¬ q653 = 0 → ¬ q653 = N.2.2 200 → (∀ s654 : tM, s654 = tNew s649 q653 (.inr (0, 300)) → (tO s654 6 x0 ∧ (∀ s657 : tM, s657 = tsR s654 x0 37 q653 → (1 ≤ ((((((((((((((((((k - 1) - 1) - 1) - 1) - 1) - 1) - 1) - 1) - 1) - 1) - 1) - 1) - 1) - 1) - 1) - 1) - 1) - 1) ∧ (300 ≤ ((((((((((((((((((n - 7) - 5652) - 11304) - 2) - 50) - 137) - 400) - 5) - 401) - 401) - 401) - 10) - 416) - 416) - 7500) - 7500) - 7500) - 300) ∧ (∀ q661 : Nat, s657.1 q661 = none → ¬ q661 = 0 → ¬ q661 = N.2.2 200 → (∀ s662 : tM, s662 = tNew s657 q661 (.inr (1, 300)) → (tO s662 6 x0 ∧ (∀ s665 : tM, s665 = tsR s662 x0 38 q661 → (1 ≤ (((((((((((((((((((k - 1) - 1) - 1) - 1) - 1) - 1) - 1) - 1) - 1) - 1) - 1) - 1) - 1) - 1) - 1) - 1) - 1) - 1) - 1) ∧ (48 ≤ (((((((((((((((((((n - 7) - 5652) - 11304) - 2) - 50) - 137) - 400) - 5) - 401) - 401) - 401) - 10) - 416) - 416) - 7500) - 7500) - 7500) - 300) - 300) ∧ (∀ q669 : Nat, s665.1 q669 = none → ¬ q669 = 0 → ¬ q669 = N.2.2 200 → (∀ s670 : tM, s670 = tNew s665 q669 (.inr (0, 48)) → (tO s670 6 x0 ∧ (∀ s673 : tM, s673 = tsR s670 x0 39 q669 → (1 ≤ ((((((((((((((((((((k - 1) - 1) - 1) - 1) - 1) - 1) - 1) - 1) - 1) - 1) - 1) - 1) - 1) - 1) - 1) - 1) - 1) - 1) - 1) - 1) ∧ (21 ≤ ((((((((((((((((((((n - 7) - 5652) - 11304) - 2) - 50) - 137) - 400) - 5) - 401) - 401) - 401) - 10) - 416) - 416) - 7500) - 7500) - 7500) - 300) - 300) - 48) ∧ (∀ q677 : Nat, s673.1 q677 = none → ¬ q677 = 0 → ¬ q677 = N.2.2 200 → (∀ s678 : tM, s678 = tNew s673 q677 (.inr (1, 21)) → (tO s678 6 x0 ∧ (∀ s681 : tM, s681 = tsR s678 x0 40 q677 → (∀ s683 : tM, s683 = tsI s681 x0 41 (-1) → (1 ≤ (((((((((((((((((((((k - 1) - 1) - 1) - 1) - 1) - 1) - 1) - 1) - 1) - 1) - 1) - 1) - 1) - 1) - 1) - 1) - 1) - 1) - 1) - 1) - 1) ∧ (2 ≤ (((((((((((((((((((((n - 7) - 5652) - 11304) - 2) - 50) - 137) - 400) - 5) - 401) - 401) - 401) - 10) - 416) - 416) - 7500) - 7500) - 7500) - 300) - 300) - 48) - 21) ∧ (∀ q687 : Nat, s683.1 q687 = none → ¬ q687 = 0 → ¬ q687 = N.2.2 200 → (∀ s688 : tM, s688 = tNew s683 q687 (.inr (1, 2)) → (tO s688 6 x0 ∧ (∀ s691 : tM, s691 = tsR s688 x0 47 q687 → (1 ≤ ((((((((((((((((((((((k - 1) - 1) - 1) - 1) - 1) - 1) - 1) - 1) - 1) - 1) - 1) - 1) - 1) - 1) - 1) - 1) - 1) - 1) - 1) - 1) - 1) - 1) ∧ (25 ≤ ((((((((((((((((((((((n - 7) - 5652) - 11304) - 2) - 50) - 137) - 400) - 5) - 401) - 401) - 401) - 10) - 416) - 416) - 7500) - 7500) - 7500) - 300) - 300) - 48) - 21) - 2) ∧ (∀ q695 : Nat, s691.1 q695 = none → ¬ q695 = 0 → ¬ q695 = N.2.2 200 → (∀ s696 : tM, s696 = tNew s691 q695 (.inr (0, 25)) → (tO s696 6 x0 ∧ (∀ s699 : tM, s699 = tsR s696 x0 48 q695 → (∀ s701 : tM, s701 = tsI s699 x0 49 (-1) → (tX s701 0 (tR s701 x0 2) 37 ∧ (∀ s704 : tM, s704 = tsI s701 (tR s701 x0 2) 37 1 → (tX s704 0 (tR s704 x0 2) 40 ∧ (∀ s707 : tM, s707 = tsI s704 (tR s704 x0 2) 40 24 → (tX s707 0 (tR s707 x0 2) 44 ∧ (∀ s710 : tM, s710 = tsI s707 (tR s707 x0 2) 44 (-1) → (Kr s710)))))))))))))))))))))))))))))))))))))))))))))))))))))))))))))))))))))))))))))))))))))))))))))))))))))))))))))))))))))))))))))))))))))))))))))))))))))))))))))))))))))))))))))))))))))))))))))))))))))))))))))))))))))))))))))))))))))))))))))))))))))))))))))))))))))))))))))))))))))))))))))))))))))))))))))))))))))))))))))))))))))))))))))))))))))))))))))))))))))))))))))))))))))))))))))))))))))))))))))))))))))))))))))))))))))))
theorem e_X6_init {G : xG} {l : Launch} {g : xH} {d : Nat} {N : tP} (hN : tNs G N) (hd : 2 ≤ d) {x0 : Nat} {k n : Nat} {s : tM} {Kr : tM → Prop} (h : v_X6_init N x0 k n s Kr) : xC G l kX6_init d k n [rfv x0] (tH G g s) (tQ G g wu (fun _ => Kr) tNo) := by
  obtain ⟨d, rfl⟩ : ∃ z, d = z + 1 := ⟨d - 1, by omega⟩
  refine t_start rfl (by decide +kernel) (by simp [xct_i, xct_l, rfv_c]) (lv := [some (rfv x0)]) (by simp [lv_args, xLv, rfv_c, xct_i, xct_l]) ?_
  unfold v_X6_init at h
  refine t_aload_0 dX6_init_0 ?_
  obtain ⟨e101, h⟩ := h
  refine t_obj dX6_init_1 ob_X6_22 e101.2 (Nat.le_of_ble_eq_true rfl) (by omega) ?_
  refine t_aload_0 dX6_init_4 ?_
  refine x_bipush (v := 7) dX6_init_5 (by decide) ?_
  obtain ⟨e102, h⟩ := h
  obtain ⟨e103, h⟩ := h
  refine t_newarr (t := 0) (N := 7) dX6_init_7 rfl rfl q239 (by decide) rfl (fun _ _ h => h) (by decide) (by decide) (by decide) e102 e103 (fun q h1 h2 h3 => ?_)
  have h := h q h1 h2 (fun e => h3 (e.trans (hN 200)))
  refine t_gen h (fun s105 w106 h => ?_)
  obtain ⟨e107, h⟩ := h
  refine t_putFR (j := 1) dX6_init_9 ff_X6_7_6 rfl (by decide) e107 rfl ?_
  refine t_gen h (fun s108 w109 h => ?_)
  refine t_aload_0 dX6_init_12 ?_
  refine x_sipush (v := 5652) dX6_init_13 (by decide) ?_
  obtain ⟨e110, h⟩ := h
  obtain ⟨e111, h⟩ := h
  refine t_newarr (t := 0) (N := 5652) dX6_init_16 rfl rfl q239 (by decide) rfl (fun _ _ h => h) (by decide) (by decide) (by decide) e110 e111 (fun q h1 h2 h3 => ?_)
  have h := h q h1 h2 (fun e => h3 (e.trans (hN 200)))
  refine t_gen h (fun s113 w114 h => ?_)
  obtain ⟨e115, h⟩ := h
  refine t_putFR (j := 2) dX6_init_18 ff_X6_28_6 rfl (by decide) e115 rfl ?_
  refine t_gen h (fun s116 w117 h => ?_)
  refine t_aload_0 dX6_init_21 ?_
  refine x_sipush (v := 11304) dX6_init_22 (by decide) ?_
  obtain ⟨e118, h⟩ := h
  obtain ⟨e119, h⟩ := h
  refine t_newarr (t := 0) (N := 11304) dX6_init_25 rfl rfl q239 (by decide) rfl (fun _ _ h => h) (by decide) (by decide) (by decide) e118 e119 (fun q h1 h2 h3 => ?_)
  have h := h q h1 h2 (fun e => h3 (e.trans (hN 200)))
  refine t_gen h (fun s121 w122 h => ?_)
  obtain ⟨e123, h⟩ := h
  refine t_putFR (j := 3) dX6_init_27 ff_X6_31_6 rfl (by decide) e123 rfl ?_
  refine t_gen h (fun s124 w125 h => ?_)
  refine t_aload_0 dX6_init_30 ?_
  refine x_iconst (v := 2) dX6_init_31 (by decide) ?_
  obtain ⟨e126, h⟩ := h
  obtain ⟨e127, h⟩ := h
  refine t_newarr (t := 3) (N := 2) dX6_init_32 rfl rfl q425 (by decide) rfl (fun _ _ h => h) (by decide) (by decide) (by decide) e126 e127 (fun q h1 h2 h3 => ?_)
  have h := h q h1 h2 (fun e => h3 (e.trans (hN 200)))
  refine t_gen h (fun s129 w130 h => ?_)
  obtain ⟨e131, h⟩ := h
  refine t_putFR (j := 4) dX6_init_34 ff_X6_34_6 rfl (by decide) e131 rfl ?_
  refine t_gen h (fun s132 w133 h => ?_)
  refine t_aload_0 dX6_init_37 ?_
  refine x_bipush (v := 50) dX6_init_38 (by decide) ?_
  obtain ⟨e134, h⟩ := h
  obtain ⟨e135, h⟩ := h
  refine t_newarr (t := 0) (N := 50) dX6_init_40 rfl rfl q239 (by decide) rfl (fun _ _ h => h) (by decide) (by decide) (by decide) e134 e135 (fun q h1 h2 h3 => ?_)
  have h := h q h1 h2 (fun e => h3 (e.trans (hN 200)))
  refine t_gen h (fun s137 w138 h => ?_)
  obtain ⟨e139, h⟩ := h
  refine t_putFR (j := 5) dX6_init_42 ff_X6_38_6 rfl (by decide) e139 rfl ?_
  refine t_gen h (fun s140 w141 h => ?_)
  refine t_aload_0 dX6_init_45 ?_
  refine x_sipush (v := 137) dX6_init_46 (by decide) ?_
  obtain ⟨e142, h⟩ := h
  obtain ⟨e143, h⟩ := h
  refine t_newarr (t := 2) (N := 137) dX6_init_49 rfl rfl q424 (by decide) rfl (fun _ _ h => h) (by decide) (by decide) (by decide) e142 e143 (fun q h1 h2 h3 => ?_)
  have h := h q h1 h2 (fun e => h3 (e.trans (hN 200)))
  refine t_gen h (fun s145 w146 h => ?_)
  refine x_dup dX6_init_51 (rfv_c _) ?_
  refine x_iconst (v := 0) dX6_init_52 (by decide) ?_
  refine x_bipush (v := 99) dX6_init_53 (by decide) ?_
  obtain ⟨e147, h⟩ := h
  refine t_bast dX6_init_55 e147 ?_
  refine t_gen h (fun s148 w149 h => ?_)
  refine x_dup dX6_init_56 (rfv_c _) ?_
  refine x_iconst (v := 1) dX6_init_57 (by decide) ?_
  refine x_bipush (v := 111) dX6_init_58 (by decide) ?_
  obtain ⟨e150, h⟩ := h
  refine t_bast dX6_init_60 e150 ?_
  refine t_gen h (fun s151 w152 h => ?_)
  refine x_dup dX6_init_61 (rfv_c _) ?_
  refine x_iconst (v := 2) dX6_init_62 (by decide) ?_
  refine x_bipush (v := 115) dX6_init_63 (by decide) ?_
  obtain ⟨e153, h⟩ := h
  refine t_bast dX6_init_65 e153 ?_
  refine t_gen h (fun s154 w155 h => ?_)
  refine x_dup dX6_init_66 (rfv_c _) ?_
  refine x_iconst (v := 3) dX6_init_67 (by decide) ?_
  refine x_bipush (v := 116) dX6_init_68 (by decide) ?_
  obtain ⟨e156, h⟩ := h
  refine t_bast dX6_init_70 e156 ?_
  refine t_gen h (fun s157 w158 h => ?_)
  refine x_dup dX6_init_71 (rfv_c _) ?_
  refine x_iconst (v := 4) dX6_init_72 (by decide) ?_
  refine x_bipush (v := 115) dX6_init_73 (by decide) ?_
  obtain ⟨e159, h⟩ := h
  refine t_bast dX6_init_75 e159 ?_
  refine t_gen h (fun s160 w161 h => ?_)
  refine x_dup dX6_init_76 (rfv_c _) ?_
  refine x_iconst (v := 5) dX6_init_77 (by decide) ?_
  refine x_bipush (v := 32) dX6_init_78 (by decide) ?_
  obtain ⟨e162, h⟩ := h
  refine t_bast dX6_init_80 e162 ?_
  refine t_gen h (fun s163 w164 h => ?_)
  refine x_dup dX6_init_81 (rfv_c _) ?_
  refine x_bipush (v := 6) dX6_init_82 (by decide) ?_
  refine x_bipush (v := 101) dX6_init_84 (by decide) ?_
  obtain ⟨e165, h⟩ := h
  refine t_bast dX6_init_86 e165 ?_
  refine t_gen h (fun s166 w167 h => ?_)
  refine x_dup dX6_init_87 (rfv_c _) ?_
  refine x_bipush (v := 7) dX6_init_88 (by decide) ?_
  refine x_bipush (v := 97) dX6_init_90 (by decide) ?_
  obtain ⟨e168, h⟩ := h
  refine t_bast dX6_init_92 e168 ?_
  refine t_gen h (fun s169 w170 h => ?_)
  refine x_dup dX6_init_93 (rfv_c _) ?_
  refine x_bipush (v := 8) dX6_init_94 (by decide) ?_
  refine x_bipush (v := 114) dX6_init_96 (by decide) ?_
  obtain ⟨e171, h⟩ := h
  refine t_bast dX6_init_98 e171 ?_
  refine t_gen h (fun s172 w173 h => ?_)
  refine x_dup dX6_init_99 (rfv_c _) ?_
  refine x_bipush (v := 9) dX6_init_100 (by decide) ?_
  refine x_bipush (v := 110) dX6_init_102 (by decide) ?_
  obtain ⟨e174, h⟩ := h
  refine t_bast dX6_init_104 e174 ?_
  refine t_gen h (fun s175 w176 h => ?_)
  refine x_dup dX6_init_105 (rfv_c _) ?_
  refine x_bipush (v := 10) dX6_init_106 (by decide) ?_
  refine x_bipush (v := 115) dX6_init_108 (by decide) ?_
  obtain ⟨e177, h⟩ := h
  refine t_bast dX6_init_110 e177 ?_
  refine t_gen h (fun s178 w179 h => ?_)
  refine x_dup dX6_init_111 (rfv_c _) ?_
  refine x_bipush (v := 11) dX6_init_112 (by decide) ?_
  refine x_bipush (v := 32) dX6_init_114 (by decide) ?_
  obtain ⟨e180, h⟩ := h
  refine t_bast dX6_init_116 e180 ?_
  refine t_gen h (fun s181 w182 h => ?_)
  refine x_dup dX6_init_117 (rfv_c _) ?_
  refine x_bipush (v := 12) dX6_init_118 (by decide) ?_
  refine x_bipush (v := 98) dX6_init_120 (by decide) ?_
  obtain ⟨e183, h⟩ := h
  refine t_bast dX6_init_122 e183 ?_
  refine t_gen h (fun s184 w185 h => ?_)
  refine x_dup dX6_init_123 (rfv_c _) ?_
  refine x_bipush (v := 13) dX6_init_124 (by decide) ?_
  refine x_bipush (v := 97) dX6_init_126 (by decide) ?_
  obtain ⟨e186, h⟩ := h
  refine t_bast dX6_init_128 e186 ?_
  refine t_gen h (fun s187 w188 h => ?_)
  refine x_dup dX6_init_129 (rfv_c _) ?_
  refine x_bipush (v := 14) dX6_init_130 (by decide) ?_
  refine x_bipush (v := 114) dX6_init_132 (by decide) ?_
  obtain ⟨e189, h⟩ := h
  refine t_bast dX6_init_134 e189 ?_
  refine t_gen h (fun s190 w191 h => ?_)
  refine x_dup dX6_init_135 (rfv_c _) ?_
  refine x_bipush (v := 15) dX6_init_136 (by decide) ?_
  refine x_bipush (v := 115) dX6_init_138 (by decide) ?_
  obtain ⟨e192, h⟩ := h
  refine t_bast dX6_init_140 e192 ?_
  refine t_gen h (fun s193 w194 h => ?_)
  refine x_dup dX6_init_141 (rfv_c _) ?_
  refine x_bipush (v := 16) dX6_init_142 (by decide) ?_
  refine x_bipush (v := 32) dX6_init_144 (by decide) ?_
  obtain ⟨e195, h⟩ := h
  refine t_bast dX6_init_146 e195 ?_
  refine t_gen h (fun s196 w197 h => ?_)
  refine x_dup dX6_init_147 (rfv_c _) ?_
  refine x_bipush (v := 17) dX6_init_148 (by decide) ?_
  refine x_bipush (v := 105) dX6_init_150 (by decide) ?_
  obtain ⟨e198, h⟩ := h
  refine t_bast dX6_init_152 e198 ?_
  refine t_gen h (fun s199 w200 h => ?_)
  refine x_dup dX6_init_153 (rfv_c _) ?_
  refine x_bipush (v := 18) dX6_init_154 (by decide) ?_
  refine x_bipush (v := 102) dX6_init_156 (by decide) ?_
  obtain ⟨e201, h⟩ := h
  refine t_bast dX6_init_158 e201 ?_
  refine t_gen h (fun s202 w203 h => ?_)
  refine x_dup dX6_init_159 (rfv_c _) ?_
  refine x_bipush (v := 19) dX6_init_160 (by decide) ?_
  refine x_bipush (v := 32) dX6_init_162 (by decide) ?_
  obtain ⟨e204, h⟩ := h
  refine t_bast dX6_init_164 e204 ?_
  refine t_gen h (fun s205 w206 h => ?_)
  refine x_dup dX6_init_165 (rfv_c _) ?_
  refine x_bipush (v := 20) dX6_init_166 (by decide) ?_
  refine x_bipush (v := 111) dX6_init_168 (by decide) ?_
  obtain ⟨e207, h⟩ := h
  refine t_bast dX6_init_170 e207 ?_
  refine t_gen h (fun s208 w209 h => ?_)
  refine x_dup dX6_init_171 (rfv_c _) ?_
  refine x_bipush (v := 21) dX6_init_172 (by decide) ?_
  refine x_bipush (v := 114) dX6_init_174 (by decide) ?_
  obtain ⟨e210, h⟩ := h
  refine t_bast dX6_init_176 e210 ?_
  refine t_gen h (fun s211 w212 h => ?_)
  refine x_dup dX6_init_177 (rfv_c _) ?_
  refine x_bipush (v := 22) dX6_init_178 (by decide) ?_
  refine x_bipush (v := 32) dX6_init_180 (by decide) ?_
  obtain ⟨e213, h⟩ := h
  refine t_bast dX6_init_182 e213 ?_
  refine t_gen h (fun s214 w215 h => ?_)
  refine x_dup dX6_init_183 (rfv_c _) ?_
  refine x_bipush (v := 23) dX6_init_184 (by decide) ?_
  refine x_bipush (v := 97) dX6_init_186 (by decide) ?_
  obtain ⟨e216, h⟩ := h
  refine t_bast dX6_init_188 e216 ?_
  refine t_gen h (fun s217 w218 h => ?_)
  refine x_dup dX6_init_189 (rfv_c _) ?_
  refine x_bipush (v := 24) dX6_init_190 (by decide) ?_
  refine x_bipush (v := 110) dX6_init_192 (by decide) ?_
  obtain ⟨e219, h⟩ := h
  refine t_bast dX6_init_194 e219 ?_
  refine t_gen h (fun s220 w221 h => ?_)
  refine x_dup dX6_init_195 (rfv_c _) ?_
  refine x_bipush (v := 25) dX6_init_196 (by decide) ?_
  refine x_bipush (v := 100) dX6_init_198 (by decide) ?_
  obtain ⟨e222, h⟩ := h
  refine t_bast dX6_init_200 e222 ?_
  refine t_gen h (fun s223 w224 h => ?_)
  refine x_dup dX6_init_201 (rfv_c _) ?_
  refine x_bipush (v := 26) dX6_init_202 (by decide) ?_
  refine x_bipush (v := 32) dX6_init_204 (by decide) ?_
  obtain ⟨e225, h⟩ := h
  refine t_bast dX6_init_206 e225 ?_
  refine t_gen h (fun s226 w227 h => ?_)
  refine x_dup dX6_init_207 (rfv_c _) ?_
  refine x_bipush (v := 27) dX6_init_208 (by decide) ?_
  refine x_bipush (v := 110) dX6_init_210 (by decide) ?_
  obtain ⟨e228, h⟩ := h
  refine t_bast dX6_init_212 e228 ?_
  refine t_gen h (fun s229 w230 h => ?_)
  refine x_dup dX6_init_213 (rfv_c _) ?_
  refine x_bipush (v := 28) dX6_init_214 (by decide) ?_
  refine x_bipush (v := 111) dX6_init_216 (by decide) ?_
  obtain ⟨e231, h⟩ := h
  refine t_bast dX6_init_218 e231 ?_
  refine t_gen h (fun s232 w233 h => ?_)
  refine x_dup dX6_init_219 (rfv_c _) ?_
  refine x_bipush (v := 29) dX6_init_220 (by decide) ?_
  refine x_bipush (v := 116) dX6_init_222 (by decide) ?_
  obtain ⟨e234, h⟩ := h
  refine t_bast dX6_init_224 e234 ?_
  refine t_gen h (fun s235 w236 h => ?_)
  refine x_dup dX6_init_225 (rfv_c _) ?_
  refine x_bipush (v := 30) dX6_init_226 (by decide) ?_
  refine x_bipush (v := 32) dX6_init_228 (by decide) ?_
  obtain ⟨e237, h⟩ := h
  refine t_bast dX6_init_230 e237 ?_
  refine t_gen h (fun s238 w239 h => ?_)
  refine x_dup dX6_init_231 (rfv_c _) ?_
  refine x_bipush (v := 31) dX6_init_232 (by decide) ?_
  refine x_bipush (v := 112) dX6_init_234 (by decide) ?_
  obtain ⟨e240, h⟩ := h
  refine t_bast dX6_init_236 e240 ?_
  refine t_gen h (fun s241 w242 h => ?_)
  refine x_dup dX6_init_237 (rfv_c _) ?_
  refine x_bipush (v := 32) dX6_init_238 (by decide) ?_
  refine x_bipush (v := 108) dX6_init_240 (by decide) ?_
  obtain ⟨e243, h⟩ := h
  refine t_bast dX6_init_242 e243 ?_
  refine t_gen h (fun s244 w245 h => ?_)
  refine x_dup dX6_init_243 (rfv_c _) ?_
  refine x_bipush (v := 33) dX6_init_244 (by decide) ?_
  refine x_bipush (v := 97) dX6_init_246 (by decide) ?_
  obtain ⟨e246, h⟩ := h
  refine t_bast dX6_init_248 e246 ?_
  refine t_gen h (fun s247 w248 h => ?_)
  refine x_dup dX6_init_249 (rfv_c _) ?_
  refine x_bipush (v := 34) dX6_init_250 (by decide) ?_
  refine x_bipush (v := 99) dX6_init_252 (by decide) ?_
  obtain ⟨e249, h⟩ := h
  refine t_bast dX6_init_254 e249 ?_
  refine t_gen h (fun s250 w251 h => ?_)
  refine x_dup dX6_init_255 (rfv_c _) ?_
  refine x_bipush (v := 35) dX6_init_256 (by decide) ?_
  refine x_bipush (v := 101) dX6_init_258 (by decide) ?_
  obtain ⟨e252, h⟩ := h
  refine t_bast dX6_init_260 e252 ?_
  refine t_gen h (fun s253 w254 h => ?_)
  refine x_dup dX6_init_261 (rfv_c _) ?_
  refine x_bipush (v := 36) dX6_init_262 (by decide) ?_
  refine x_bipush (v := 32) dX6_init_264 (by decide) ?_
  obtain ⟨e255, h⟩ := h
  refine t_bast dX6_init_266 e255 ?_
  refine t_gen h (fun s256 w257 h => ?_)
  refine x_dup dX6_init_267 (rfv_c _) ?_
  refine x_bipush (v := 37) dX6_init_268 (by decide) ?_
  refine x_bipush (v := 97) dX6_init_270 (by decide) ?_
  obtain ⟨e258, h⟩ := h
  refine t_bast dX6_init_272 e258 ?_
  refine t_gen h (fun s259 w260 h => ?_)
  refine x_dup dX6_init_273 (rfv_c _) ?_
  refine x_bipush (v := 38) dX6_init_274 (by decide) ?_
  refine x_bipush (v := 112) dX6_init_276 (by decide) ?_
  obtain ⟨e261, h⟩ := h
  refine t_bast dX6_init_278 e261 ?_
  refine t_gen h (fun s262 w263 h => ?_)
  refine x_dup dX6_init_279 (rfv_c _) ?_
  refine x_bipush (v := 39) dX6_init_280 (by decide) ?_
  refine x_bipush (v := 97) dX6_init_282 (by decide) ?_
  obtain ⟨e264, h⟩ := h
  refine t_bast dX6_init_284 e264 ?_
  refine t_gen h (fun s265 w266 h => ?_)
  refine x_dup dX6_init_285 (rfv_c _) ?_
  refine x_bipush (v := 40) dX6_init_286 (by decide) ?_
  refine x_bipush (v := 114) dX6_init_288 (by decide) ?_
  obtain ⟨e267, h⟩ := h
  refine t_bast dX6_init_290 e267 ?_
  refine t_gen h (fun s268 w269 h => ?_)
  refine x_dup dX6_init_291 (rfv_c _) ?_
  refine x_bipush (v := 41) dX6_init_292 (by decide) ?_
  refine x_bipush (v := 116) dX6_init_294 (by decide) ?_
  obtain ⟨e270, h⟩ := h
  refine t_bast dX6_init_296 e270 ?_
  refine t_gen h (fun s271 w272 h => ?_)
  refine x_dup dX6_init_297 (rfv_c _) ?_
  refine x_bipush (v := 42) dX6_init_298 (by decide) ?_
  refine x_bipush (v := 32) dX6_init_300 (by decide) ?_
  obtain ⟨e273, h⟩ := h
  refine t_bast dX6_init_302 e273 ?_
  refine t_gen h (fun s274 w275 h => ?_)
  refine x_dup dX6_init_303 (rfv_c _) ?_
  refine x_bipush (v := 43) dX6_init_304 (by decide) ?_
  refine x_bipush (v := 97) dX6_init_306 (by decide) ?_
  obtain ⟨e276, h⟩ := h
  refine t_bast dX6_init_308 e276 ?_
  refine t_gen h (fun s277 w278 h => ?_)
  refine x_dup dX6_init_309 (rfv_c _) ?_
  refine x_bipush (v := 44) dX6_init_310 (by decide) ?_
  refine x_bipush (v := 104) dX6_init_312 (by decide) ?_
  obtain ⟨e279, h⟩ := h
  refine t_bast dX6_init_314 e279 ?_
  refine t_gen h (fun s280 w281 h => ?_)
  refine x_dup dX6_init_315 (rfv_c _) ?_
  refine x_bipush (v := 45) dX6_init_316 (by decide) ?_
  refine x_bipush (v := 101) dX6_init_318 (by decide) ?_
  obtain ⟨e282, h⟩ := h
  refine t_bast dX6_init_320 e282 ?_
  refine t_gen h (fun s283 w284 h => ?_)
  refine x_dup dX6_init_321 (rfv_c _) ?_
  refine x_bipush (v := 46) dX6_init_322 (by decide) ?_
  refine x_bipush (v := 97) dX6_init_324 (by decide) ?_
  obtain ⟨e285, h⟩ := h
  refine t_bast dX6_init_326 e285 ?_
  refine t_gen h (fun s286 w287 h => ?_)
  refine x_dup dX6_init_327 (rfv_c _) ?_
  refine x_bipush (v := 47) dX6_init_328 (by decide) ?_
  refine x_bipush (v := 100) dX6_init_330 (by decide) ?_
  obtain ⟨e288, h⟩ := h
  refine t_bast dX6_init_332 e288 ?_
  refine t_gen h (fun s289 w290 h => ?_)
  refine x_dup dX6_init_333 (rfv_c _) ?_
  refine x_bipush (v := 48) dX6_init_334 (by decide) ?_
  refine x_bipush (v := 32) dX6_init_336 (by decide) ?_
  obtain ⟨e291, h⟩ := h
  refine t_bast dX6_init_338 e291 ?_
  refine t_gen h (fun s292 w293 h => ?_)
  refine x_dup dX6_init_339 (rfv_c _) ?_
  refine x_bipush (v := 49) dX6_init_340 (by decide) ?_
  refine x_bipush (v := 108) dX6_init_342 (by decide) ?_
  obtain ⟨e294, h⟩ := h
  refine t_bast dX6_init_344 e294 ?_
  refine t_gen h (fun s295 w296 h => ?_)
  refine x_dup dX6_init_345 (rfv_c _) ?_
  refine x_bipush (v := 50) dX6_init_346 (by decide) ?_
  refine x_bipush (v := 101) dX6_init_348 (by decide) ?_
  obtain ⟨e297, h⟩ := h
  refine t_bast dX6_init_350 e297 ?_
  refine t_gen h (fun s298 w299 h => ?_)
  refine x_dup dX6_init_351 (rfv_c _) ?_
  refine x_bipush (v := 51) dX6_init_352 (by decide) ?_
  refine x_bipush (v := 97) dX6_init_354 (by decide) ?_
  obtain ⟨e300, h⟩ := h
  refine t_bast dX6_init_356 e300 ?_
  refine t_gen h (fun s301 w302 h => ?_)
  refine x_dup dX6_init_357 (rfv_c _) ?_
  refine x_bipush (v := 52) dX6_init_358 (by decide) ?_
  refine x_bipush (v := 112) dX6_init_360 (by decide) ?_
  obtain ⟨e303, h⟩ := h
  refine t_bast dX6_init_362 e303 ?_
  refine t_gen h (fun s304 w305 h => ?_)
  refine x_dup dX6_init_363 (rfv_c _) ?_
  refine x_bipush (v := 53) dX6_init_364 (by decide) ?_
  refine x_bipush (v := 32) dX6_init_366 (by decide) ?_
  obtain ⟨e306, h⟩ := h
  refine t_bast dX6_init_368 e306 ?_
  refine t_gen h (fun s307 w308 h => ?_)
  refine x_dup dX6_init_369 (rfv_c _) ?_
  refine x_bipush (v := 54) dX6_init_370 (by decide) ?_
  refine x_bipush (v := 109) dX6_init_372 (by decide) ?_
  obtain ⟨e309, h⟩ := h
  refine t_bast dX6_init_374 e309 ?_
  refine t_gen h (fun s310 w311 h => ?_)
  refine x_dup dX6_init_375 (rfv_c _) ?_
  refine x_bipush (v := 55) dX6_init_376 (by decide) ?_
  refine x_bipush (v := 111) dX6_init_378 (by decide) ?_
  obtain ⟨e312, h⟩ := h
  refine t_bast dX6_init_380 e312 ?_
  refine t_gen h (fun s313 w314 h => ?_)
  refine x_dup dX6_init_381 (rfv_c _) ?_
  refine x_bipush (v := 56) dX6_init_382 (by decide) ?_
  refine x_bipush (v := 118) dX6_init_384 (by decide) ?_
  obtain ⟨e315, h⟩ := h
  refine t_bast dX6_init_386 e315 ?_
  refine t_gen h (fun s316 w317 h => ?_)
  refine x_dup dX6_init_387 (rfv_c _) ?_
  refine x_bipush (v := 57) dX6_init_388 (by decide) ?_
  refine x_bipush (v := 101) dX6_init_390 (by decide) ?_
  obtain ⟨e318, h⟩ := h
  refine t_bast dX6_init_392 e318 ?_
  refine t_gen h (fun s319 w320 h => ?_)
  refine x_dup dX6_init_393 (rfv_c _) ?_
  refine x_bipush (v := 58) dX6_init_394 (by decide) ?_
  refine x_bipush (v := 115) dX6_init_396 (by decide) ?_
  obtain ⟨e321, h⟩ := h
  refine t_bast dX6_init_398 e321 ?_
  refine t_gen h (fun s322 w323 h => ?_)
  refine x_dup dX6_init_399 (rfv_c _) ?_
  refine x_bipush (v := 59) dX6_init_400 (by decide) ?_
  refine x_bipush (v := 32) dX6_init_402 (by decide) ?_
  obtain ⟨e324, h⟩ := h
  refine t_bast dX6_init_404 e324 ?_
  refine t_gen h (fun s325 w326 h => ?_)
  refine x_dup dX6_init_405 (rfv_c _) ?_
  refine x_bipush (v := 60) dX6_init_406 (by decide) ?_
  refine x_bipush (v := 108) dX6_init_408 (by decide) ?_
  obtain ⟨e327, h⟩ := h
  refine t_bast dX6_init_410 e327 ?_
  refine t_gen h (fun s328 w329 h => ?_)
  refine x_dup dX6_init_411 (rfv_c _) ?_
  refine x_bipush (v := 61) dX6_init_412 (by decide) ?_
  refine x_bipush (v := 97) dX6_init_414 (by decide) ?_
  obtain ⟨e330, h⟩ := h
  refine t_bast dX6_init_416 e330 ?_
  refine t_gen h (fun s331 w332 h => ?_)
  refine x_dup dX6_init_417 (rfv_c _) ?_
  refine x_bipush (v := 62) dX6_init_418 (by decide) ?_
  refine x_bipush (v := 115) dX6_init_420 (by decide) ?_
  obtain ⟨e333, h⟩ := h
  refine t_bast dX6_init_422 e333 ?_
  refine t_gen h (fun s334 w335 h => ?_)
  refine x_dup dX6_init_423 (rfv_c _) ?_
  refine x_bipush (v := 63) dX6_init_424 (by decide) ?_
  refine x_bipush (v := 116) dX6_init_426 (by decide) ?_
  obtain ⟨e336, h⟩ := h
  refine t_bast dX6_init_428 e336 ?_
  refine t_gen h (fun s337 w338 h => ?_)
  refine x_dup dX6_init_429 (rfv_c _) ?_
  refine x_bipush (v := 64) dX6_init_430 (by decide) ?_
  refine x_bipush (v := 32) dX6_init_432 (by decide) ?_
  obtain ⟨e339, h⟩ := h
  refine t_bast dX6_init_434 e339 ?_
  refine t_gen h (fun s340 w341 h => ?_)
  refine x_dup dX6_init_435 (rfv_c _) ?_
  refine x_bipush (v := 65) dX6_init_436 (by decide) ?_
  refine x_bipush (v := 109) dX6_init_438 (by decide) ?_
  obtain ⟨e342, h⟩ := h
  refine t_bast dX6_init_440 e342 ?_
  refine t_gen h (fun s343 w344 h => ?_)
  refine x_dup dX6_init_441 (rfv_c _) ?_
  refine x_bipush (v := 66) dX6_init_442 (by decide) ?_
  refine x_bipush (v := 111) dX6_init_444 (by decide) ?_
  obtain ⟨e345, h⟩ := h
  refine t_bast dX6_init_446 e345 ?_
  refine t_gen h (fun s346 w347 h => ?_)
  refine x_dup dX6_init_447 (rfv_c _) ?_
  refine x_bipush (v := 67) dX6_init_448 (by decide) ?_
  refine x_bipush (v := 111) dX6_init_450 (by decide) ?_
  obtain ⟨e348, h⟩ := h
  refine t_bast dX6_init_452 e348 ?_
  refine t_gen h (fun s349 w350 h => ?_)
  refine x_dup dX6_init_453 (rfv_c _) ?_
  refine x_bipush (v := 68) dX6_init_454 (by decide) ?_
  refine x_bipush (v := 100) dX6_init_456 (by decide) ?_
  obtain ⟨e351, h⟩ := h
  refine t_bast dX6_init_458 e351 ?_
  refine t_gen h (fun s352 w353 h => ?_)
  refine x_dup dX6_init_459 (rfv_c _) ?_
  refine x_bipush (v := 69) dX6_init_460 (by decide) ?_
  refine x_bipush (v := 32) dX6_init_462 (by decide) ?_
  obtain ⟨e354, h⟩ := h
  refine t_bast dX6_init_464 e354 ?_
  refine t_gen h (fun s355 w356 h => ?_)
  refine x_dup dX6_init_465 (rfv_c _) ?_
  refine x_bipush (v := 70) dX6_init_466 (by decide) ?_
  refine x_bipush (v := 104) dX6_init_468 (by decide) ?_
  obtain ⟨e357, h⟩ := h
  refine t_bast dX6_init_470 e357 ?_
  refine t_gen h (fun s358 w359 h => ?_)
  refine x_dup dX6_init_471 (rfv_c _) ?_
  refine x_bipush (v := 71) dX6_init_472 (by decide) ?_
  refine x_bipush (v := 101) dX6_init_474 (by decide) ?_
  obtain ⟨e360, h⟩ := h
  refine t_bast dX6_init_476 e360 ?_
  refine t_gen h (fun s361 w362 h => ?_)
  refine x_dup dX6_init_477 (rfv_c _) ?_
  refine x_bipush (v := 72) dX6_init_478 (by decide) ?_
  refine x_bipush (v := 114) dX6_init_480 (by decide) ?_
  obtain ⟨e363, h⟩ := h
  refine t_bast dX6_init_482 e363 ?_
  refine t_gen h (fun s364 w365 h => ?_)
  refine x_dup dX6_init_483 (rfv_c _) ?_
  refine x_bipush (v := 73) dX6_init_484 (by decide) ?_
  refine x_bipush (v := 101) dX6_init_486 (by decide) ?_
  obtain ⟨e366, h⟩ := h
  refine t_bast dX6_init_488 e366 ?_
  refine t_gen h (fun s367 w368 h => ?_)
  refine x_dup dX6_init_489 (rfv_c _) ?_
  refine x_bipush (v := 74) dX6_init_490 (by decide) ?_
  refine x_bipush (v := 32) dX6_init_492 (by decide) ?_
  obtain ⟨e369, h⟩ := h
  refine t_bast dX6_init_494 e369 ?_
  refine t_gen h (fun s370 w371 h => ?_)
  refine x_dup dX6_init_495 (rfv_c _) ?_
  refine x_bipush (v := 75) dX6_init_496 (by decide) ?_
  refine x_bipush (v := 117) dX6_init_498 (by decide) ?_
  obtain ⟨e372, h⟩ := h
  refine t_bast dX6_init_500 e372 ?_
  refine t_gen h (fun s373 w374 h => ?_)
  refine x_dup dX6_init_501 (rfv_c _) ?_
  refine x_bipush (v := 76) dX6_init_502 (by decide) ?_
  refine x_bipush (v := 110) dX6_init_504 (by decide) ?_
  obtain ⟨e375, h⟩ := h
  refine t_bast dX6_init_506 e375 ?_
  refine t_gen h (fun s376 w377 h => ?_)
  refine x_dup dX6_init_507 (rfv_c _) ?_
  refine x_bipush (v := 77) dX6_init_508 (by decide) ?_
  refine x_bipush (v := 100) dX6_init_510 (by decide) ?_
  obtain ⟨e378, h⟩ := h
  refine t_bast dX6_init_512 e378 ?_
  refine t_gen h (fun s379 w380 h => ?_)
  refine x_dup dX6_init_513 (rfv_c _) ?_
  refine x_bipush (v := 78) dX6_init_514 (by decide) ?_
  refine x_bipush (v := 101) dX6_init_516 (by decide) ?_
  obtain ⟨e381, h⟩ := h
  refine t_bast dX6_init_518 e381 ?_
  refine t_gen h (fun s382 w383 h => ?_)
  refine x_dup dX6_init_519 (rfv_c _) ?_
  refine x_bipush (v := 79) dX6_init_520 (by decide) ?_
  refine x_bipush (v := 114) dX6_init_522 (by decide) ?_
  obtain ⟨e384, h⟩ := h
  refine t_bast dX6_init_524 e384 ?_
  refine t_gen h (fun s385 w386 h => ?_)
  refine x_dup dX6_init_525 (rfv_c _) ?_
  refine x_bipush (v := 80) dX6_init_526 (by decide) ?_
  refine x_bipush (v := 32) dX6_init_528 (by decide) ?_
  obtain ⟨e387, h⟩ := h
  refine t_bast dX6_init_530 e387 ?_
  refine t_gen h (fun s388 w389 h => ?_)
  refine x_dup dX6_init_531 (rfv_c _) ?_
  refine x_bipush (v := 81) dX6_init_532 (by decide) ?_
  refine x_bipush (v := 100) dX6_init_534 (by decide) ?_
  obtain ⟨e390, h⟩ := h
  refine t_bast dX6_init_536 e390 ?_
  refine t_gen h (fun s391 w392 h => ?_)
  refine x_dup dX6_init_537 (rfv_c _) ?_
  refine x_bipush (v := 82) dX6_init_538 (by decide) ?_
  refine x_bipush (v := 97) dX6_init_540 (by decide) ?_
  obtain ⟨e393, h⟩ := h
  refine t_bast dX6_init_542 e393 ?_
  refine t_gen h (fun s394 w395 h => ?_)
  refine x_dup dX6_init_543 (rfv_c _) ?_
  refine x_bipush (v := 83) dX6_init_544 (by decide) ?_
  refine x_bipush (v := 121) dX6_init_546 (by decide) ?_
  obtain ⟨e396, h⟩ := h
  refine t_bast dX6_init_548 e396 ?_
  refine t_gen h (fun s397 w398 h => ?_)
  refine x_dup dX6_init_549 (rfv_c _) ?_
  refine x_bipush (v := 84) dX6_init_550 (by decide) ?_
  refine x_bipush (v := 32) dX6_init_552 (by decide) ?_
  obtain ⟨e399, h⟩ := h
  refine t_bast dX6_init_554 e399 ?_
  refine t_gen h (fun s400 w401 h => ?_)
  refine x_dup dX6_init_555 (rfv_c _) ?_
  refine x_bipush (v := 85) dX6_init_556 (by decide) ?_
  refine x_bipush (v := 100) dX6_init_558 (by decide) ?_
  obtain ⟨e402, h⟩ := h
  refine t_bast dX6_init_560 e402 ?_
  refine t_gen h (fun s403 w404 h => ?_)
  refine x_dup dX6_init_561 (rfv_c _) ?_
  refine x_bipush (v := 86) dX6_init_562 (by decide) ?_
  refine x_bipush (v := 111) dX6_init_564 (by decide) ?_
  obtain ⟨e405, h⟩ := h
  refine t_bast dX6_init_566 e405 ?_
  refine t_gen h (fun s406 w407 h => ?_)
  refine x_dup dX6_init_567 (rfv_c _) ?_
  refine x_bipush (v := 87) dX6_init_568 (by decide) ?_
  refine x_bipush (v := 110) dX6_init_570 (by decide) ?_
  obtain ⟨e408, h⟩ := h
  refine t_bast dX6_init_572 e408 ?_
  refine t_gen h (fun s409 w410 h => ?_)
  refine x_dup dX6_init_573 (rfv_c _) ?_
  refine x_bipush (v := 88) dX6_init_574 (by decide) ?_
  refine x_bipush (v := 101) dX6_init_576 (by decide) ?_
  obtain ⟨e411, h⟩ := h
  refine t_bast dX6_init_578 e411 ?_
  refine t_gen h (fun s412 w413 h => ?_)
  refine x_dup dX6_init_579 (rfv_c _) ?_
  refine x_bipush (v := 89) dX6_init_580 (by decide) ?_
  refine x_bipush (v := 32) dX6_init_582 (by decide) ?_
  obtain ⟨e414, h⟩ := h
  refine t_bast dX6_init_584 e414 ?_
  refine t_gen h (fun s415 w416 h => ?_)
  refine x_dup dX6_init_585 (rfv_c _) ?_
  refine x_bipush (v := 90) dX6_init_586 (by decide) ?_
  refine x_bipush (v := 108) dX6_init_588 (by decide) ?_
  obtain ⟨e417, h⟩ := h
  refine t_bast dX6_init_590 e417 ?_
  refine t_gen h (fun s418 w419 h => ?_)
  refine x_dup dX6_init_591 (rfv_c _) ?_
  refine x_bipush (v := 91) dX6_init_592 (by decide) ?_
  refine x_bipush (v := 97) dX6_init_594 (by decide) ?_
  obtain ⟨e420, h⟩ := h
  refine t_bast dX6_init_596 e420 ?_
  refine t_gen h (fun s421 w422 h => ?_)
  refine x_dup dX6_init_597 (rfv_c _) ?_
  refine x_bipush (v := 92) dX6_init_598 (by decide) ?_
  refine x_bipush (v := 116) dX6_init_600 (by decide) ?_
  obtain ⟨e423, h⟩ := h
  refine t_bast dX6_init_602 e423 ?_
  refine t_gen h (fun s424 w425 h => ?_)
  refine x_dup dX6_init_603 (rfv_c _) ?_
  refine x_bipush (v := 93) dX6_init_604 (by decide) ?_
  refine x_bipush (v := 101) dX6_init_606 (by decide) ?_
  obtain ⟨e426, h⟩ := h
  refine t_bast dX6_init_608 e426 ?_
  refine t_gen h (fun s427 w428 h => ?_)
  refine x_dup dX6_init_609 (rfv_c _) ?_
  refine x_bipush (v := 94) dX6_init_610 (by decide) ?_
  refine x_bipush (v := 115) dX6_init_612 (by decide) ?_
  obtain ⟨e429, h⟩ := h
  refine t_bast dX6_init_614 e429 ?_
  refine t_gen h (fun s430 w431 h => ?_)
  refine x_dup dX6_init_615 (rfv_c _) ?_
  refine x_bipush (v := 95) dX6_init_616 (by decide) ?_
  refine x_bipush (v := 116) dX6_init_618 (by decide) ?_
  obtain ⟨e432, h⟩ := h
  refine t_bast dX6_init_620 e432 ?_
  refine t_gen h (fun s433 w434 h => ?_)
  refine x_dup dX6_init_621 (rfv_c _) ?_
  refine x_bipush (v := 96) dX6_init_622 (by decide) ?_
  refine x_bipush (v := 32) dX6_init_624 (by decide) ?_
  obtain ⟨e435, h⟩ := h
  refine t_bast dX6_init_626 e435 ?_
  refine t_gen h (fun s436 w437 h => ?_)
  refine x_dup dX6_init_627 (rfv_c _) ?_
  refine x_bipush (v := 97) dX6_init_628 (by decide) ?_
  refine x_bipush (v := 98) dX6_init_630 (by decide) ?_
  obtain ⟨e438, h⟩ := h
  refine t_bast dX6_init_632 e438 ?_
  refine t_gen h (fun s439 w440 h => ?_)
  refine x_dup dX6_init_633 (rfv_c _) ?_
  refine x_bipush (v := 98) dX6_init_634 (by decide) ?_
  refine x_bipush (v := 97) dX6_init_636 (by decide) ?_
  obtain ⟨e441, h⟩ := h
  refine t_bast dX6_init_638 e441 ?_
  refine t_gen h (fun s442 w443 h => ?_)
  refine x_dup dX6_init_639 (rfv_c _) ?_
  refine x_bipush (v := 99) dX6_init_640 (by decide) ?_
  refine x_bipush (v := 114) dX6_init_642 (by decide) ?_
  obtain ⟨e444, h⟩ := h
  refine t_bast dX6_init_644 e444 ?_
  refine t_gen h (fun s445 w446 h => ?_)
  refine x_dup dX6_init_645 (rfv_c _) ?_
  refine x_bipush (v := 100) dX6_init_646 (by decide) ?_
  refine x_bipush (v := 114) dX6_init_648 (by decide) ?_
  obtain ⟨e447, h⟩ := h
  refine t_bast dX6_init_650 e447 ?_
  refine t_gen h (fun s448 w449 h => ?_)
  refine x_dup dX6_init_651 (rfv_c _) ?_
  refine x_bipush (v := 101) dX6_init_652 (by decide) ?_
  refine x_bipush (v := 101) dX6_init_654 (by decide) ?_
  obtain ⟨e450, h⟩ := h
  refine t_bast dX6_init_656 e450 ?_
  refine t_gen h (fun s451 w452 h => ?_)
  refine x_dup dX6_init_657 (rfv_c _) ?_
  refine x_bipush (v := 102) dX6_init_658 (by decide) ?_
  refine x_bipush (v := 100) dX6_init_660 (by decide) ?_
  obtain ⟨e453, h⟩ := h
  refine t_bast dX6_init_662 e453 ?_
  refine t_gen h (fun s454 w455 h => ?_)
  refine x_dup dX6_init_663 (rfv_c _) ?_
  refine x_bipush (v := 103) dX6_init_664 (by decide) ?_
  refine x_bipush (v := 32) dX6_init_666 (by decide) ?_
  obtain ⟨e456, h⟩ := h
  refine t_bast dX6_init_668 e456 ?_
  refine t_gen h (fun s457 w458 h => ?_)
  refine x_dup dX6_init_669 (rfv_c _) ?_
  refine x_bipush (v := 104) dX6_init_670 (by decide) ?_
  refine x_bipush (v := 97) dX6_init_672 (by decide) ?_
  obtain ⟨e459, h⟩ := h
  refine t_bast dX6_init_674 e459 ?_
  refine t_gen h (fun s460 w461 h => ?_)
  refine x_dup dX6_init_675 (rfv_c _) ?_
  refine x_bipush (v := 105) dX6_init_676 (by decide) ?_
  refine x_bipush (v := 108) dX6_init_678 (by decide) ?_
  obtain ⟨e462, h⟩ := h
  refine t_bast dX6_init_680 e462 ?_
  refine t_gen h (fun s463 w464 h => ?_)
  refine x_dup dX6_init_681 (rfv_c _) ?_
  refine x_bipush (v := 106) dX6_init_682 (by decide) ?_
  refine x_bipush (v := 108) dX6_init_684 (by decide) ?_
  obtain ⟨e465, h⟩ := h
  refine t_bast dX6_init_686 e465 ?_
  refine t_gen h (fun s466 w467 h => ?_)
  refine x_dup dX6_init_687 (rfv_c _) ?_
  refine x_bipush (v := 107) dX6_init_688 (by decide) ?_
  refine x_bipush (v := 32) dX6_init_690 (by decide) ?_
  obtain ⟨e468, h⟩ := h
  refine t_bast dX6_init_692 e468 ?_
  refine t_gen h (fun s469 w470 h => ?_)
  refine x_dup dX6_init_693 (rfv_c _) ?_
  refine x_bipush (v := 108) dX6_init_694 (by decide) ?_
  refine x_bipush (v := 115) dX6_init_696 (by decide) ?_
  obtain ⟨e471, h⟩ := h
  refine t_bast dX6_init_698 e471 ?_
  refine t_gen h (fun s472 w473 h => ?_)
  refine x_dup dX6_init_699 (rfv_c _) ?_
  refine x_bipush (v := 109) dX6_init_700 (by decide) ?_
  refine x_bipush (v := 101) dX6_init_702 (by decide) ?_
  obtain ⟨e474, h⟩ := h
  refine t_bast dX6_init_704 e474 ?_
  refine t_gen h (fun s475 w476 h => ?_)
  refine x_dup dX6_init_705 (rfv_c _) ?_
  refine x_bipush (v := 110) dX6_init_706 (by decide) ?_
  refine x_bipush (v := 116) dX6_init_708 (by decide) ?_
  obtain ⟨e477, h⟩ := h
  refine t_bast dX6_init_710 e477 ?_
  refine t_gen h (fun s478 w479 h => ?_)
  refine x_dup dX6_init_711 (rfv_c _) ?_
  refine x_bipush (v := 111) dX6_init_712 (by decide) ?_
  refine x_bipush (v := 32) dX6_init_714 (by decide) ?_
  obtain ⟨e480, h⟩ := h
  refine t_bast dX6_init_716 e480 ?_
  refine t_gen h (fun s481 w482 h => ?_)
  refine x_dup dX6_init_717 (rfv_c _) ?_
  refine x_bipush (v := 112) dX6_init_718 (by decide) ?_
  refine x_bipush (v := 115) dX6_init_720 (by decide) ?_
  obtain ⟨e483, h⟩ := h
  refine t_bast dX6_init_722 e483 ?_
  refine t_gen h (fun s484 w485 h => ?_)
  refine x_dup dX6_init_723 (rfv_c _) ?_
  refine x_bipush (v := 113) dX6_init_724 (by decide) ?_
  refine x_bipush (v := 104) dX6_init_726 (by decide) ?_
  obtain ⟨e486, h⟩ := h
  refine t_bast dX6_init_728 e486 ?_
  refine t_gen h (fun s487 w488 h => ?_)
  refine x_dup dX6_init_729 (rfv_c _) ?_
  refine x_bipush (v := 114) dX6_init_730 (by decide) ?_
  refine x_bipush (v := 105) dX6_init_732 (by decide) ?_
  obtain ⟨e489, h⟩ := h
  refine t_bast dX6_init_734 e489 ?_
  refine t_gen h (fun s490 w491 h => ?_)
  refine x_dup dX6_init_735 (rfv_c _) ?_
  refine x_bipush (v := 115) dX6_init_736 (by decide) ?_
  refine x_bipush (v := 102) dX6_init_738 (by decide) ?_
  obtain ⟨e492, h⟩ := h
  refine t_bast dX6_init_740 e492 ?_
  refine t_gen h (fun s493 w494 h => ?_)
  refine x_dup dX6_init_741 (rfv_c _) ?_
  refine x_bipush (v := 116) dX6_init_742 (by decide) ?_
  refine x_bipush (v := 116) dX6_init_744 (by decide) ?_
  obtain ⟨e495, h⟩ := h
  refine t_bast dX6_init_746 e495 ?_
  refine t_gen h (fun s496 w497 h => ?_)
  refine x_dup dX6_init_747 (rfv_c _) ?_
  refine x_bipush (v := 117) dX6_init_748 (by decide) ?_
  refine x_bipush (v := 32) dX6_init_750 (by decide) ?_
  obtain ⟨e498, h⟩ := h
  refine t_bast dX6_init_752 e498 ?_
  refine t_gen h (fun s499 w500 h => ?_)
  refine x_dup dX6_init_753 (rfv_c _) ?_
  refine x_bipush (v := 118) dX6_init_754 (by decide) ?_
  refine x_bipush (v := 115) dX6_init_756 (by decide) ?_
  obtain ⟨e501, h⟩ := h
  refine t_bast dX6_init_758 e501 ?_
  refine t_gen h (fun s502 w503 h => ?_)
  refine x_dup dX6_init_759 (rfv_c _) ?_
  refine x_bipush (v := 119) dX6_init_760 (by decide) ?_
  refine x_bipush (v := 119) dX6_init_762 (by decide) ?_
  obtain ⟨e504, h⟩ := h
  refine t_bast dX6_init_764 e504 ?_
  refine t_gen h (fun s505 w506 h => ?_)
  refine x_dup dX6_init_765 (rfv_c _) ?_
  refine x_bipush (v := 120) dX6_init_766 (by decide) ?_
  refine x_bipush (v := 97) dX6_init_768 (by decide) ?_
  obtain ⟨e507, h⟩ := h
  refine t_bast dX6_init_770 e507 ?_
  refine t_gen h (fun s508 w509 h => ?_)
  refine x_dup dX6_init_771 (rfv_c _) ?_
  refine x_bipush (v := 121) dX6_init_772 (by decide) ?_
  refine x_bipush (v := 112) dX6_init_774 (by decide) ?_
  obtain ⟨e510, h⟩ := h
  refine t_bast dX6_init_776 e510 ?_
  refine t_gen h (fun s511 w512 h => ?_)
  refine x_dup dX6_init_777 (rfv_c _) ?_
  refine x_bipush (v := 122) dX6_init_778 (by decide) ?_
  refine x_bipush (v := 32) dX6_init_780 (by decide) ?_
  obtain ⟨e513, h⟩ := h
  refine t_bast dX6_init_782 e513 ?_
  refine t_gen h (fun s514 w515 h => ?_)
  refine x_dup dX6_init_783 (rfv_c _) ?_
  refine x_bipush (v := 123) dX6_init_784 (by decide) ?_
  refine x_bipush (v := 112) dX6_init_786 (by decide) ?_
  obtain ⟨e516, h⟩ := h
  refine t_bast dX6_init_788 e516 ?_
  refine t_gen h (fun s517 w518 h => ?_)
  refine x_dup dX6_init_789 (rfv_c _) ?_
  refine x_bipush (v := 124) dX6_init_790 (by decide) ?_
  refine x_bipush (v := 97) dX6_init_792 (by decide) ?_
  obtain ⟨e519, h⟩ := h
  refine t_bast dX6_init_794 e519 ?_
  refine t_gen h (fun s520 w521 h => ?_)
  refine x_dup dX6_init_795 (rfv_c _) ?_
  refine x_bipush (v := 125) dX6_init_796 (by decide) ?_
  refine x_bipush (v := 115) dX6_init_798 (by decide) ?_
  obtain ⟨e522, h⟩ := h
  refine t_bast dX6_init_800 e522 ?_
  refine t_gen h (fun s523 w524 h => ?_)
  refine x_dup dX6_init_801 (rfv_c _) ?_
  refine x_bipush (v := 126) dX6_init_802 (by decide) ?_
  refine x_bipush (v := 115) dX6_init_804 (by decide) ?_
  obtain ⟨e525, h⟩ := h
  refine t_bast dX6_init_806 e525 ?_
  refine t_gen h (fun s526 w527 h => ?_)
  refine x_dup dX6_init_807 (rfv_c _) ?_
  refine x_bipush (v := 127) dX6_init_808 (by decide) ?_
  refine x_bipush (v := 32) dX6_init_810 (by decide) ?_
  obtain ⟨e528, h⟩ := h
  refine t_bast dX6_init_812 e528 ?_
  refine t_gen h (fun s529 w530 h => ?_)
  refine x_dup dX6_init_813 (rfv_c _) ?_
  refine x_sipush (v := 128) dX6_init_814 (by decide) ?_
  refine x_bipush (v := 116) dX6_init_817 (by decide) ?_
  obtain ⟨e531, h⟩ := h
  refine t_bast dX6_init_819 e531 ?_
  refine t_gen h (fun s532 w533 h => ?_)
  refine x_dup dX6_init_820 (rfv_c _) ?_
  refine x_sipush (v := 129) dX6_init_821 (by decide) ?_
  refine x_bipush (v := 111) dX6_init_824 (by decide) ?_
  obtain ⟨e534, h⟩ := h
  refine t_bast dX6_init_826 e534 ?_
  refine t_gen h (fun s535 w536 h => ?_)
  refine x_dup dX6_init_827 (rfv_c _) ?_
  refine x_sipush (v := 130) dX6_init_828 (by decide) ?_
  refine x_bipush (v := 32) dX6_init_831 (by decide) ?_
  obtain ⟨e537, h⟩ := h
  refine t_bast dX6_init_833 e537 ?_
  refine t_gen h (fun s538 w539 h => ?_)
  refine x_dup dX6_init_834 (rfv_c _) ?_
  refine x_sipush (v := 131) dX6_init_835 (by decide) ?_
  refine x_bipush (v := 116) dX6_init_838 (by decide) ?_
  obtain ⟨e540, h⟩ := h
  refine t_bast dX6_init_840 e540 ?_
  refine t_gen h (fun s541 w542 h => ?_)
  refine x_dup dX6_init_841 (rfv_c _) ?_
  refine x_sipush (v := 132) dX6_init_842 (by decide) ?_
  refine x_bipush (v := 105) dX6_init_845 (by decide) ?_
  obtain ⟨e543, h⟩ := h
  refine t_bast dX6_init_847 e543 ?_
  refine t_gen h (fun s544 w545 h => ?_)
  refine x_dup dX6_init_848 (rfv_c _) ?_
  refine x_sipush (v := 133) dX6_init_849 (by decide) ?_
  refine x_bipush (v := 109) dX6_init_852 (by decide) ?_
  obtain ⟨e546, h⟩ := h
  refine t_bast dX6_init_854 e546 ?_
  refine t_gen h (fun s547 w548 h => ?_)
  refine x_dup dX6_init_855 (rfv_c _) ?_
  refine x_sipush (v := 134) dX6_init_856 (by decide) ?_
  refine x_bipush (v := 101) dX6_init_859 (by decide) ?_
  obtain ⟨e549, h⟩ := h
  refine t_bast dX6_init_861 e549 ?_
  refine t_gen h (fun s550 w551 h => ?_)
  refine x_dup dX6_init_862 (rfv_c _) ?_
  refine x_sipush (v := 135) dX6_init_863 (by decide) ?_
  refine x_bipush (v := 115) dX6_init_866 (by decide) ?_
  obtain ⟨e552, h⟩ := h
  refine t_bast dX6_init_868 e552 ?_
  refine t_gen h (fun s553 w554 h => ?_)
  refine x_dup dX6_init_869 (rfv_c _) ?_
  refine x_sipush (v := 136) dX6_init_870 (by decide) ?_
  refine x_bipush (v := 32) dX6_init_873 (by decide) ?_
  obtain ⟨e555, h⟩ := h
  refine t_bast dX6_init_875 e555 ?_
  refine t_gen h (fun s556 w557 h => ?_)
  obtain ⟨e558, h⟩ := h
  refine t_putFR (j := 7) dX6_init_876 ff_X6_41_6 rfl (by decide) e558 rfl ?_
  refine t_gen h (fun s559 w560 h => ?_)
  refine t_aload_0 dX6_init_879 ?_
  refine x_sipush (v := 400) dX6_init_880 (by decide) ?_
  obtain ⟨e561, h⟩ := h
  obtain ⟨e562, h⟩ := h
  refine t_newarr (t := 2) (N := 400) dX6_init_883 rfl rfl q424 (by decide) rfl (fun _ _ h => h) (by decide) (by decide) (by decide) e561 e562 (fun q h1 h2 h3 => ?_)
  have h := h q h1 h2 (fun e => h3 (e.trans (hN 200)))
  refine t_gen h (fun s564 w565 h => ?_)
  obtain ⟨e566, h⟩ := h
  refine t_putFR (j := 11) dX6_init_885 ff_X6_45_6 rfl (by decide) e566 rfl ?_
  refine t_gen h (fun s567 w568 h => ?_)
  refine t_aload_0 dX6_init_888 ?_
  refine x_iconst (v := 5) dX6_init_889 (by decide) ?_
  obtain ⟨e569, h⟩ := h
  obtain ⟨e570, h⟩ := h
  refine t_newarr (t := 0) (N := 5) dX6_init_890 rfl rfl q239 (by decide) rfl (fun _ _ h => h) (by decide) (by decide) (by decide) e569 e570 (fun q h1 h2 h3 => ?_)
  have h := h q h1 h2 (fun e => h3 (e.trans (hN 200)))
  refine t_gen h (fun s572 w573 h => ?_)
  obtain ⟨e574, h⟩ := h
  refine t_putFR (j := 12) dX6_init_892 ff_X6_48_6 rfl (by decide) e574 rfl ?_
  refine t_gen h (fun s575 w576 h => ?_)
  refine t_aload_0 dX6_init_895 ?_
  refine x_iconst (v := (-1)) dX6_init_896 (by decide) ?_
  refine t_putI (j := 14) dX6_init_897 fp_X6_51_6 (by decide) (tO_w w576 e574) rfl rfl ?_
  refine t_gen h (fun s577 w578 h => ?_)
  refine t_aload_0 dX6_init_900 ?_
  refine x_sipush (v := 401) dX6_init_901 (by decide) ?_
  obtain ⟨e579, h⟩ := h
  obtain ⟨e580, h⟩ := h
  refine t_newarr (t := 0) (N := 401) dX6_init_904 rfl rfl q239 (by decide) rfl (fun _ _ h => h) (by decide) (by decide) (by decide) e579 e580 (fun q h1 h2 h3 => ?_)
  have h := h q h1 h2 (fun e => h3 (e.trans (hN 200)))
  refine t_gen h (fun s582 w583 h => ?_)
  obtain ⟨e584, h⟩ := h
  refine t_putFR (j := 15) dX6_init_906 ff_X6_54_6 rfl (by decide) e584 rfl ?_
  refine t_gen h (fun s585 w586 h => ?_)
  refine t_aload_0 dX6_init_909 ?_
  refine x_sipush (v := 401) dX6_init_910 (by decide) ?_
  obtain ⟨e587, h⟩ := h
  obtain ⟨e588, h⟩ := h
  refine t_newarr (t := 0) (N := 401) dX6_init_913 rfl rfl q239 (by decide) rfl (fun _ _ h => h) (by decide) (by decide) (by decide) e587 e588 (fun q h1 h2 h3 => ?_)
  have h := h q h1 h2 (fun e => h3 (e.trans (hN 200)))
  refine t_gen h (fun s590 w591 h => ?_)
  obtain ⟨e592, h⟩ := h
  refine t_putFR (j := 16) dX6_init_915 ff_X6_57_6 rfl (by decide) e592 rfl ?_
  refine t_gen h (fun s593 w594 h => ?_)
  refine t_aload_0 dX6_init_918 ?_
  refine x_sipush (v := 401) dX6_init_919 (by decide) ?_
  obtain ⟨e595, h⟩ := h
  obtain ⟨e596, h⟩ := h
  refine t_newarr (t := 0) (N := 401) dX6_init_922 rfl rfl q239 (by decide) rfl (fun _ _ h => h) (by decide) (by decide) (by decide) e595 e596 (fun q h1 h2 h3 => ?_)
  have h := h q h1 h2 (fun e => h3 (e.trans (hN 200)))
  refine t_gen h (fun s598 w599 h => ?_)
  obtain ⟨e600, h⟩ := h
  refine t_putFR (j := 17) dX6_init_924 ff_X6_60_6 rfl (by decide) e600 rfl ?_
  refine t_gen h (fun s601 w602 h => ?_)
  refine t_aload_0 dX6_init_927 ?_
  refine x_bipush (v := 10) dX6_init_928 (by decide) ?_
  obtain ⟨e603, h⟩ := h
  obtain ⟨e604, h⟩ := h
  refine t_newarr (t := 0) (N := 10) dX6_init_930 rfl rfl q239 (by decide) rfl (fun _ _ h => h) (by decide) (by decide) (by decide) e603 e604 (fun q h1 h2 h3 => ?_)
  have h := h q h1 h2 (fun e => h3 (e.trans (hN 200)))
  refine t_gen h (fun s606 w607 h => ?_)
  obtain ⟨e608, h⟩ := h
  refine t_putFR (j := 26) dX6_init_932 ff_X6_63_6 rfl (by decide) e608 rfl ?_
  refine t_gen h (fun s609 w610 h => ?_)
  refine t_aload_0 dX6_init_935 ?_
  refine x_sipush (v := 416) dX6_init_936 (by decide) ?_
  obtain ⟨e611, h⟩ := h
  obtain ⟨e612, h⟩ := h
  refine t_newarr (t := 0) (N := 416) dX6_init_939 rfl rfl q239 (by decide) rfl (fun _ _ h => h) (by decide) (by decide) (by decide) e611 e612 (fun q h1 h2 h3 => ?_)
  have h := h q h1 h2 (fun e => h3 (e.trans (hN 200)))
  refine t_gen h (fun s614 w615 h => ?_)
  obtain ⟨e616, h⟩ := h
  refine t_putFR (j := 31) dX6_init_941 ff_X6_66_6 rfl (by decide) e616 rfl ?_
  refine t_gen h (fun s617 w618 h => ?_)
  refine t_aload_0 dX6_init_944 ?_
  refine x_sipush (v := 416) dX6_init_945 (by decide) ?_
  obtain ⟨e619, h⟩ := h
  obtain ⟨e620, h⟩ := h
  refine t_newarr (t := 0) (N := 416) dX6_init_948 rfl rfl q239 (by decide) rfl (fun _ _ h => h) (by decide) (by decide) (by decide) e619 e620 (fun q h1 h2 h3 => ?_)
  have h := h q h1 h2 (fun e => h3 (e.trans (hN 200)))
  refine t_gen h (fun s622 w623 h => ?_)
  obtain ⟨e624, h⟩ := h
  refine t_putFR (j := 32) dX6_init_950 ff_X6_69_6 rfl (by decide) e624 rfl ?_
  refine t_gen h (fun s625 w626 h => ?_)
  refine t_aload_0 dX6_init_953 ?_
  refine x_sipush (v := 7500) dX6_init_954 (by decide) ?_
  obtain ⟨e627, h⟩ := h
  obtain ⟨e628, h⟩ := h
  refine t_newarr (t := 0) (N := 7500) dX6_init_957 rfl rfl q239 (by decide) rfl (fun _ _ h => h) (by decide) (by decide) (by decide) e627 e628 (fun q h1 h2 h3 => ?_)
  have h := h q h1 h2 (fun e => h3 (e.trans (hN 200)))
  refine t_gen h (fun s630 w631 h => ?_)
  obtain ⟨e632, h⟩ := h
  refine t_putFR (j := 34) dX6_init_959 ff_X6_72_6 rfl (by decide) e632 rfl ?_
  refine t_gen h (fun s633 w634 h => ?_)
  refine t_aload_0 dX6_init_962 ?_
  refine x_sipush (v := 7500) dX6_init_963 (by decide) ?_
  obtain ⟨e635, h⟩ := h
  obtain ⟨e636, h⟩ := h
  refine t_newarr (t := 0) (N := 7500) dX6_init_966 rfl rfl q239 (by decide) rfl (fun _ _ h => h) (by decide) (by decide) (by decide) e635 e636 (fun q h1 h2 h3 => ?_)
  have h := h q h1 h2 (fun e => h3 (e.trans (hN 200)))
  refine t_gen h (fun s638 w639 h => ?_)
  obtain ⟨e640, h⟩ := h
  refine t_putFR (j := 35) dX6_init_968 ff_X6_75_6 rfl (by decide) e640 rfl ?_
  refine t_gen h (fun s641 w642 h => ?_)
  refine t_aload_0 dX6_init_971 ?_
  refine x_sipush (v := 7500) dX6_init_972 (by decide) ?_
  obtain ⟨e643, h⟩ := h
  obtain ⟨e644, h⟩ := h
  refine t_newarr (t := 3) (N := 7500) dX6_init_975 rfl rfl q425 (by decide) rfl (fun _ _ h => h) (by decide) (by decide) (by decide) e643 e644 (fun q h1 h2 h3 => ?_)
  have h := h q h1 h2 (fun e => h3 (e.trans (hN 200)))
  refine t_gen h (fun s646 w647 h => ?_)
  obtain ⟨e648, h⟩ := h
  refine t_putFR (j := 36) dX6_init_977 ff_X6_78_6 rfl (by decide) e648 rfl ?_
  refine t_gen h (fun s649 w650 h => ?_)
  refine t_aload_0 dX6_init_980 ?_
  refine x_sipush (v := 300) dX6_init_981 (by decide) ?_
  obtain ⟨e651, h⟩ := h
  obtain ⟨e652, h⟩ := h
  refine t_newarr (t := 0) (N := 300) dX6_init_984 rfl rfl q239 (by decide) rfl (fun _ _ h => h) (by decide) (by decide) (by decide) e651 e652 (fun q h1 h2 h3 => ?_)
  have h := h q h1 h2 (fun e => h3 (e.trans (hN 200)))
  refine t_gen h (fun s654 w655 h => ?_)
  obtain ⟨e656, h⟩ := h
  refine t_putFR (j := 37) dX6_init_986 ff_X6_81_6 rfl (by decide) e656 rfl ?_
  refine t_gen h (fun s657 w658 h => ?_)
  refine t_aload_0 dX6_init_989 ?_
  refine x_sipush (v := 300) dX6_init_990 (by decide) ?_
  obtain ⟨e659, h⟩ := h
  obtain ⟨e660, h⟩ := h
  refine t_newarr (t := 1) (N := 300) dX6_init_993 rfl rfl q312 (by decide) rfl (fun _ _ h => h) (by decide) (by decide) (by decide) e659 e660 (fun q h1 h2 h3 => ?_)
  have h := h q h1 h2 (fun e => h3 (e.trans (hN 200)))
  refine t_gen h (fun s662 w663 h => ?_)
  obtain ⟨e664, h⟩ := h
  refine t_putFR (j := 38) dX6_init_995 ff_X6_84_6 rfl (by decide) e664 rfl ?_
  refine t_gen h (fun s665 w666 h => ?_)
  refine t_aload_0 dX6_init_998 ?_
  refine x_bipush (v := 48) dX6_init_999 (by decide) ?_
  obtain ⟨e667, h⟩ := h
  obtain ⟨e668, h⟩ := h
  refine t_newarr (t := 0) (N := 48) dX6_init_1001 rfl rfl q239 (by decide) rfl (fun _ _ h => h) (by decide) (by decide) (by decide) e667 e668 (fun q h1 h2 h3 => ?_)
  have h := h q h1 h2 (fun e => h3 (e.trans (hN 200)))
  refine t_gen h (fun s670 w671 h => ?_)
  obtain ⟨e672, h⟩ := h
  refine t_putFR (j := 39) dX6_init_1003 ff_X6_88_6 rfl (by decide) e672 rfl ?_
  refine t_gen h (fun s673 w674 h => ?_)
  refine t_aload_0 dX6_init_1006 ?_
  refine x_bipush (v := 21) dX6_init_1007 (by decide) ?_
  obtain ⟨e675, h⟩ := h
  obtain ⟨e676, h⟩ := h
  refine t_newarr (t := 1) (N := 21) dX6_init_1009 rfl rfl q312 (by decide) rfl (fun _ _ h => h) (by decide) (by decide) (by decide) e675 e676 (fun q h1 h2 h3 => ?_)
  have h := h q h1 h2 (fun e => h3 (e.trans (hN 200)))
  refine t_gen h (fun s678 w679 h => ?_)
  obtain ⟨e680, h⟩ := h
  refine t_putFR (j := 40) dX6_init_1011 ff_X6_91_6 rfl (by decide) e680 rfl ?_
  refine t_gen h (fun s681 w682 h => ?_)
  refine t_aload_0 dX6_init_1014 ?_
  refine x_iconst (v := (-1)) dX6_init_1015 (by decide) ?_
  refine t_putI (j := 41) dX6_init_1016 fp_X6_94_6 (by decide) (tO_w w682 e680) rfl rfl ?_
  refine t_gen h (fun s683 w684 h => ?_)
  refine t_aload_0 dX6_init_1019 ?_
  refine x_iconst (v := 2) dX6_init_1020 (by decide) ?_
  obtain ⟨e685, h⟩ := h
  obtain ⟨e686, h⟩ := h
  refine t_newarr (t := 1) (N := 2) dX6_init_1021 rfl rfl q312 (by decide) rfl (fun _ _ h => h) (by decide) (by decide) (by decide) e685 e686 (fun q h1 h2 h3 => ?_)
  have h := h q h1 h2 (fun e => h3 (e.trans (hN 200)))
  refine t_gen h (fun s688 w689 h => ?_)
  obtain ⟨e690, h⟩ := h
  refine t_putFR (j := 47) dX6_init_1023 ff_X6_97_6 rfl (by decide) e690 rfl ?_
  refine t_gen h (fun s691 w692 h => ?_)
  refine t_aload_0 dX6_init_1026 ?_
  refine x_bipush (v := 25) dX6_init_1027 (by decide) ?_
  obtain ⟨e693, h⟩ := h
  obtain ⟨e694, h⟩ := h
  refine t_newarr (t := 0) (N := 25) dX6_init_1029 rfl rfl q239 (by decide) rfl (fun _ _ h => h) (by decide) (by decide) (by decide) e693 e694 (fun q h1 h2 h3 => ?_)
  have h := h q h1 h2 (fun e => h3 (e.trans (hN 200)))
  refine t_gen h (fun s696 w697 h => ?_)
  obtain ⟨e698, h⟩ := h
  refine t_putFR (j := 48) dX6_init_1031 ff_X6_100_6 rfl (by decide) e698 rfl ?_
  refine t_gen h (fun s699 w700 h => ?_)
  refine t_aload_0 dX6_init_1034 ?_
  refine x_iconst (v := (-1)) dX6_init_1035 (by decide) ?_
  refine t_putI (j := 49) dX6_init_1036 fp_X6_103_6 (by decide) (tO_w w700 e698) rfl rfl ?_
  refine t_gen h (fun s701 w702 h => ?_)
  refine t_aload_0 dX6_init_1039 ?_
  refine t_getR dX6_init_1040 fa_X6_28_6 (by decide) (tO_w w702 (tO_w w700 e698)) ?_
  refine x_bipush (v := 37) dX6_init_1043 (by decide) ?_
  refine x_iconst (v := 1) dX6_init_1045 (by decide) ?_
  obtain ⟨e703, h⟩ := h
  refine t_iast dX6_init_1046 e703 ?_
  refine t_gen h (fun s704 w705 h => ?_)
  refine t_aload_0 dX6_init_1047 ?_
  refine t_getR dX6_init_1048 fa_X6_28_6 (by decide) (tO_w w705 (tO_w w702 (tO_w w700 e698))) ?_
  refine x_bipush (v := 40) dX6_init_1051 (by decide) ?_
  refine x_bipush (v := 24) dX6_init_1053 (by decide) ?_
  obtain ⟨e706, h⟩ := h
  refine t_iast dX6_init_1055 e706 ?_
  refine t_gen h (fun s707 w708 h => ?_)
  refine t_aload_0 dX6_init_1056 ?_
  refine t_getR dX6_init_1057 fa_X6_28_6 (by decide) (tO_w w708 (tO_w w705 (tO_w w702 (tO_w w700 e698)))) ?_
  refine x_bipush (v := 44) dX6_init_1060 (by decide) ?_
  refine x_iconst (v := (-1)) dX6_init_1062 (by decide) ?_
  obtain ⟨e709, h⟩ := h
  refine t_iast dX6_init_1063 e709 ?_
  refine t_gen h (fun s710 w711 h => ?_)
  exact x_vret dX6_init_1064 rfl (Or.inl ⟨(), _, h, rfl, rfl⟩)
