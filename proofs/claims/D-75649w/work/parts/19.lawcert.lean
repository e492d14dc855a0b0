set_option maxRecDepth 100000
abbrev kL : xM := (x, cL_law, 4, some (.boolean), [])
/-- words of a call of a method with handlers -/
def xCW (own : String) (idx : Nat) (C : String) (M' : xM) (ar : Nat) : Prop := Cond.methodLink own idx M'.1 ∈ lw_all ∧ Cond.instanceMethod M'.1 ∈ lw_all ∧ Cond.selects C M'.1 M'.1 ∈ lw_all ∧ Cond.initialized C ∈ lw_all ∧ xwd M' ∈ lw_all ∧ M'.2.2.2.2 ≠ [] ∧
  (M'.1.cls = C ∧ M'.1.cls ≠ "java/lang/invoke/MethodHandle" ∧ M'.1.cls ≠ "java/lang/invoke/VarHandle" ∧ (parseMethodDescriptor M'.1.desc).map (fun d => d.parameters.length) = some ar) ∧ M'.2.2.1 ≤ 45
section LW
variable {G : xG} {l : Launch} {M M' : xM} {d k n mc ms : Nat} {Q Q' : xR → xH → Prop} {pc : Nat} {lv : xLs} {st As rest : List Value} {h g : xH} {m : tM} {idx ar ci b : Nat}
theorem x_cW {C : String} {T : u_T} {N : Nat} {fs : List Value} (hh : M.2.2.2.2 = []) (hw : xCW M.1.cls idx C M' ar) (hcl : xcl[ci]? = some (C, T, N)) (hb : h b = some (.inr (ci, fs))) (har : As.length = ar) (hst : st = As.reverse ++ .ref b :: rest) (hrm : (rest.map fun v => v.category).sum ≤ 8) (hdg : decode M.2.1 pc = .ok (.invokevirtual idx, 3)) (hC : xC G l M' d mc ms (.ref b :: As) h Q') (hm : mc ≤ k ∧ ms ≤ n)
    (kx : ∀ (E : String) (q : Addr) (h1 : xH), Q' (.inr (E, q)) h1 → Q (.inr (E, q)) h1)
    (kk : ∀ (v : Option Value) (h1 : xH), Q' (.inl v) h1 → xF G l M (d + 1) (k - mc) (n - ms) Q (pc + 3) lv (v.toList ++ rest) h1) : xF G l M (d + 1) k n Q pc lv st h := by
  intro p e R s m args below meth c H locs cells slots ls F hL hc hs hR hS
  obtain ⟨w1, w2, w3, w4, w5, w6, w7, w8⟩ := hw
  have hxw : xws M' = Cond.codeWith M'.1 M'.2.1 M'.2.2.1 M'.2.2.2.1 M'.2.2.2.2 :: lw_all := by
    unfold xws xwd
    cases hM : M'.2.2.2.2 with
    | nil => exact absurd hM w6
    | cons x9 r => rfl
  have cw : vx_CVW R s args M.1.cls C idx M'.1 M'.2.1 M'.2.2.1 M'.2.2.2.1 M'.2.2.2.2 (xws M') (xrm d mc ms) mc ms ar := vx_cwVW ar F.2.2.2.2.2.1 (lw_app (by
    intro w hw
    simp only [List.mem_cons, List.not_mem_nil, or_false] at hw
    rcases hw with e | e | e | e
    · rw [e]; exact w1
    · rw [e]; exact w2
    · rw [e]; exact w3
    · rw [e]; exact w4) (xws_good w5)) hxw rfl rfl w7 (x_room F.2.2.2.2.2.2.2.2.1 F.2.2.2.2.2.2.2.2.2.1 w8)
  have hr := vx_runVX (rest := rest) (below := below) (e := e) (meth := meth) (locs := locs) (cells := cells) (slots := slots) (g := F0 m pc ls st) ⟨F.1, F.2.1, F.2.2.2.1, F.2.2.2.2.1, F.2.2.2.2.2.1⟩ hC cw ⟨xPc.blind, x_recv F hR hcl hb, xPc.callee F hR hS⟩ rfl har hL.1 hst (lv_room hrm) hdg ⟨by omega, by omega⟩
  exact x_goes hh F hL hc hs hm hr hS kx kk
theorem t_cWi {C : String} {T : u_T} {N : Nat} {K : Int32 → tM → Prop} (hh : M.2.2.2.2 = []) (hw : xCW M.1.cls idx C M' ar) (hcl : xcl[ci]? = some (C, T, N)) (hb : tO m ci b) (har : As.length = ar) (hst : st = As.reverse ++ rfv b :: rest) (hrm : (rest.map fun v => v.category).sum ≤ 8) (hdg : decode M.2.1 pc = .ok (.invokevirtual idx, 3)) (hC : xC G l M' d mc ms (rfv b :: As) (tH G g m) (tQ G g wi K tNo)) (hm : mc ≤ k ∧ ms ≤ n)
    (kk : ∀ (v : Int32) (m1 : tM), K v m1 → xF G l M (d + 1) (k - mc) (n - ms) Q (pc + 3) lv (.int v :: rest) (tH G g m1)) : xF G l M (d + 1) k n Q pc lv st (tH G g m) := by
  obtain ⟨b, rfl⟩ := Nat.exists_eq_succ_of_ne_zero hb.2
  refine x_cW hh hw hcl (tH_atO hb) har hst hrm hdg hC hm (fun E q h1 hq => ?_) (fun v h1 hq => ?_)
  · rcases hq with ⟨v, m1, -, e, -⟩ | ⟨E', q', m1, hx, -⟩
    · cases e
    · exact hx.elim
  · rcases hq with ⟨v', m1, h2, e, rfl⟩ | ⟨E', q', m1, hx, -⟩
    · cases e
      exact kk v' m1 h2
    · exact hx.elim
end LW
theorem ci_L_9 : xCI "CounterDeskLaw" 9 kX0_init 0 := ⟨q172, q173, q130, q174, rfl, rfl, rfl, ⟨by decide +kernel, by decide +kernel, by decide +kernel⟩, by decide⟩
theorem ci_L_12 : xCI "CounterDeskLaw" 12 kX6_init 0 := ⟨q1598, q1599, q139, q1600, rfl, rfl, rfl, ⟨by decide +kernel, by decide +kernel, by decide +kernel⟩, by decide⟩
theorem cv_L_13 : xCV "CounterDeskLaw" 13 RX0 kX0_note 2 := ⟨q441, q442, q443, q130, q444, rfl, ⟨rfl, by decide +kernel, by decide +kernel, by decide +kernel⟩, by decide⟩
theorem cv_L_17 : xCV "CounterDeskLaw" 17 RX6 kX6_note 2 := ⟨q1779, q1780, q1781, q139, q1782, rfl, ⟨rfl, by decide +kernel, by decide +kernel, by decide +kernel⟩, by decide⟩
theorem cv_L_18 : xCV "CounterDeskLaw" 18 RX0 kX0_of 2 := ⟨q472, q473, q474, q130, q475, rfl, ⟨rfl, by decide +kernel, by decide +kernel, by decide +kernel⟩, by decide⟩
theorem cv_L_21 : xCV "CounterDeskLaw" 21 RX6 kX6_of 2 := ⟨q1794, q1795, q1796, q139, q1797, rfl, ⟨rfl, by decide +kernel, by decide +kernel, by decide +kernel⟩, by decide⟩
theorem cv_L_22 : xCV "CounterDeskLaw" 22 RX0 kX0_at 2 := ⟨q591, q592, q593, q130, q594, rfl, ⟨rfl, by decide +kernel, by decide +kernel, by decide +kernel⟩, by decide⟩
theorem cv_L_25 : xCV "CounterDeskLaw" 25 RX6 kX6_at 2 := ⟨q1878, q1879, q1880, q139, q1881, rfl, ⟨rfl, by decide +kernel, by decide +kernel, by decide +kernel⟩, by decide⟩
theorem cv_L_26 : xCV "CounterDeskLaw" 26 RX0 kX0_all 1 := ⟨q1269, q1270, q1271, q130, q1272, rfl, ⟨rfl, by decide +kernel, by decide +kernel, by decide +kernel⟩, by decide⟩
theorem cv_L_30 : xCV "CounterDeskLaw" 30 RX6 kX6_all 1 := ⟨q2019, q2020, q2021, q139, q2022, rfl, ⟨rfl, by decide +kernel, by decide +kernel, by decide +kernel⟩, by decide⟩
theorem cv_L_31 : xCV "CounterDeskLaw" 31 RX0 kX0_terms 2 := ⟨q603, q604, q605, q130, q606, rfl, ⟨rfl, by decide +kernel, by decide +kernel, by decide +kernel⟩, by decide⟩
theorem cv_L_34 : xCV "CounterDeskLaw" 34 RX6 kX6_terms 2 := ⟨q1890, q1891, q1892, q139, q1893, rfl, ⟨rfl, by decide +kernel, by decide +kernel, by decide +kernel⟩, by decide⟩
theorem cv_L_35 : xCV "CounterDeskLaw" 35 RX0 kX0_feed 5 := ⟨q426, q427, q428, q130, q429, rfl, ⟨rfl, by decide +kernel, by decide +kernel, by decide +kernel⟩, by decide⟩
theorem cv_L_39 : xCV "CounterDeskLaw" 39 RX6 kX6_feed 5 := ⟨q1908, q1909, q1910, q139, q1911, rfl, ⟨rfl, by decide +kernel, by decide +kernel, by decide +kernel⟩, by decide⟩
theorem cv_L_40 : xCV "CounterDeskLaw" 40 RX0 kX0_end 1 := ⟨q434, q435, q436, q130, q437, rfl, ⟨rfl, by decide +kernel, by decide +kernel, by decide +kernel⟩, by decide⟩
theorem cv_L_43 : xCV "CounterDeskLaw" 43 RX6 kX6_end 1 := ⟨q1912, q1913, q1914, q139, q1915, rfl, ⟨rfl, by decide +kernel, by decide +kernel, by decide +kernel⟩, by decide⟩
theorem cw_L_44 : xCW "CounterDeskLaw" 44 RX0 kX0_row 0 := ⟨q621, q622, q623, q130, q624, by decide, ⟨rfl, by decide +kernel, by decide +kernel, by decide +kernel⟩, by decide⟩
theorem cv_L_48 : xCV "CounterDeskLaw" 48 RX6 kX6_row 0 := ⟨q1900, q1901, q1902, q139, q1903, rfl, ⟨rfl, by decide +kernel, by decide +kernel, by decide +kernel⟩, by decide⟩
theorem cv_L_49 : xCV "CounterDeskLaw" 49 RX0 kX0_blots 0 := ⟨q705, q706, q707, q130, q708, rfl, ⟨rfl, by decide +kernel, by decide +kernel, by decide +kernel⟩, by decide⟩
theorem cv_L_52 : xCV "CounterDeskLaw" 52 RX6 kX6_blots 0 := ⟨q1904, q1905, q1906, q139, q1907, rfl, ⟨rfl, by decide +kernel, by decide +kernel, by decide +kernel⟩, by decide⟩
theorem cw_L_53 : xCW "CounterDeskLaw" 53 RX0 kX0_law 0 := ⟨q709, q710, q711, q130, q712, by decide, ⟨rfl, by decide +kernel, by decide +kernel, by decide +kernel⟩, by decide⟩
theorem cv_L_56 : xCV "CounterDeskLaw" 56 RX6 kX6_law 0 := ⟨q1916, q1917, q1918, q139, q1919, rfl, ⟨rfl, by decide +kernel, by decide +kernel, by decide +kernel⟩, by decide⟩
theorem cw_L_57 : xCW "CounterDeskLaw" 57 RX0 kX0_orders 0 := ⟨q1450, q1451, q1452, q130, q1453, by decide, ⟨rfl, by decide +kernel, by decide +kernel, by decide +kernel⟩, by decide⟩
theorem cv_L_60 : xCV "CounterDeskLaw" 60 RX6 kX6_orders 0 := ⟨q2232, q2233, q2234, q139, q2235, rfl, ⟨rfl, by decide +kernel, by decide +kernel, by decide +kernel⟩, by decide⟩
theorem cv_L_61 : xCV "CounterDeskLaw" 61 RX0 kX0_fault 0 := ⟨q1257, q1258, q1259, q130, q1260, rfl, ⟨rfl, by decide +kernel, by decide +kernel, by decide +kernel⟩, by decide⟩
theorem cv_L_64 : xCV "CounterDeskLaw" 64 RX6 kX6_fault 0 := ⟨q2007, q2008, q2009, q139, q2010, rfl, ⟨rfl, by decide +kernel, by decide +kernel, by decide +kernel⟩, by decide⟩
theorem cv_L_65 : xCV "CounterDeskLaw" 65 RX0 kX0_stopped 0 := ⟨q1524, q1525, q1526, q130, q1527, rfl, ⟨rfl, by decide +kernel, by decide +kernel, by decide +kernel⟩, by decide⟩
theorem cv_L_68 : xCV "CounterDeskLaw" 68 RX6 kX6_stopped 0 := ⟨q2228, q2229, q2230, q139, q2231, rfl, ⟨rfl, by decide +kernel, by decide +kernel, by decide +kernel⟩, by decide⟩
theorem cv_L_69 : xCV "CounterDeskLaw" 69 RX0 kX0_force 1 := ⟨q1261, q1262, q1263, q130, q1264, rfl, ⟨rfl, by decide +kernel, by decide +kernel, by decide +kernel⟩, by decide⟩
theorem cv_L_72 : xCV "CounterDeskLaw" 72 RX6 kX6_force 1 := ⟨q2011, q2012, q2013, q139, q2014, rfl, ⟨rfl, by decide +kernel, by decide +kernel, by decide +kernel⟩, by decide⟩
theorem cv_L_73 : xCV "CounterDeskLaw" 73 RX0 kX0_set 2 := ⟨q1281, q1282, q1283, q130, q1284, rfl, ⟨rfl, by decide +kernel, by decide +kernel, by decide +kernel⟩, by decide⟩
theorem cv_L_76 : xCV "CounterDeskLaw" 76 RX6 kX6_set 2 := ⟨q2031, q2032, q2033, q139, q2034, rfl, ⟨rfl, by decide +kernel, by decide +kernel, by decide +kernel⟩, by decide⟩
theorem cv_L_77 : xCV "CounterDeskLaw" 77 RX0 kX0_shift 2 := ⟨q1299, q1300, q1301, q130, q1302, rfl, ⟨rfl, by decide +kernel, by decide +kernel, by decide +kernel⟩, by decide⟩
theorem cv_L_80 : xCV "CounterDeskLaw" 80 RX6 kX6_shift 2 := ⟨q2047, q2048, q2049, q139, q2050, rfl, ⟨rfl, by decide +kernel, by decide +kernel, by decide +kernel⟩, by decide⟩
theorem cv_L_81 : xCV "CounterDeskLaw" 81 RX0 kX0_swap 0 := ⟨q1307, q1308, q1309, q130, q1310, rfl, ⟨rfl, by decide +kernel, by decide +kernel, by decide +kernel⟩, by decide⟩
theorem cv_L_84 : xCV "CounterDeskLaw" 84 RX6 kX6_swap 0 := ⟨q2051, q2052, q2053, q139, q2054, rfl, ⟨rfl, by decide +kernel, by decide +kernel, by decide +kernel⟩, by decide⟩
theorem cv_L_85 : xCV "CounterDeskLaw" 85 RX0 kX0_pass 0 := ⟨q1319, q1320, q1321, q130, q1322, rfl, ⟨rfl, by decide +kernel, by decide +kernel, by decide +kernel⟩, by decide⟩
theorem cv_L_88 : xCV "CounterDeskLaw" 88 RX6 kX6_pass 0 := ⟨q2063, q2064, q2065, q139, q2066, rfl, ⟨rfl, by decide +kernel, by decide +kernel, by decide +kernel⟩, by decide⟩
theorem cv_L_89 : xCV "CounterDeskLaw" 89 RX0 kX0_undo 0 := ⟨q1327, q1328, q1329, q130, q1330, rfl, ⟨rfl, by decide +kernel, by decide +kernel, by decide +kernel⟩, by decide⟩
theorem cv_L_92 : xCV "CounterDeskLaw" 92 RX6 kX6_undo 0 := ⟨q2027, q2028, q2029, q139, q2030, rfl, ⟨rfl, by decide +kernel, by decide +kernel, by decide +kernel⟩, by decide⟩
theorem cv_L_93 : xCV "CounterDeskLaw" 93 RX0 kX0_best 1 := ⟨q1332, q1333, q1334, q130, q1335, rfl, ⟨rfl, by decide +kernel, by decide +kernel, by decide +kernel⟩, by decide⟩
theorem cv_L_96 : xCV "CounterDeskLaw" 96 RX6 kX6_best 1 := ⟨q2071, q2072, q2073, q139, q2074, rfl, ⟨rfl, by decide +kernel, by decide +kernel, by decide +kernel⟩, by decide⟩
theorem cv_L_97 : xCV "CounterDeskLaw" 97 RX0 kX0_between 2 := ⟨q1367, q1368, q1369, q130, q1370, rfl, ⟨rfl, by decide +kernel, by decide +kernel, by decide +kernel⟩, by decide⟩
theorem cv_L_100 : xCV "CounterDeskLaw" 100 RX6 kX6_between 2 := ⟨q2118, q2119, q2120, q139, q2121, rfl, ⟨rfl, by decide +kernel, by decide +kernel, by decide +kernel⟩, by decide⟩
theorem cv_L_101 : xCV "CounterDeskLaw" 101 RX0 kX0_richest 0 := ⟨q1371, q1372, q1373, q130, q1374, rfl, ⟨rfl, by decide +kernel, by decide +kernel, by decide +kernel⟩, by decide⟩
theorem cv_L_104 : xCV "CounterDeskLaw" 104 RX6 kX6_richest 0 := ⟨q2126, q2127, q2128, q139, q2129, rfl, ⟨rfl, by decide +kernel, by decide +kernel, by decide +kernel⟩, by decide⟩
theorem cv_L_105 : xCV "CounterDeskLaw" 105 RX0 kX0_ways 0 := ⟨q1375, q1376, q1377, q130, q1378, rfl, ⟨rfl, by decide +kernel, by decide +kernel, by decide +kernel⟩, by decide⟩
theorem cv_L_109 : xCV "CounterDeskLaw" 109 RX6 kX6_ways 0 := ⟨q2138, q2139, q2140, q139, q2141, rfl, ⟨rfl, by decide +kernel, by decide +kernel, by decide +kernel⟩, by decide⟩
theorem cv_L_110 : xCV "CounterDeskLaw" 110 RX0 kX0_mend 1 := ⟨q1379, q1380, q1381, q130, q1382, rfl, ⟨rfl, by decide +kernel, by decide +kernel, by decide +kernel⟩, by decide⟩
theorem cv_L_113 : xCV "CounterDeskLaw" 113 RX6 kX6_mend 1 := ⟨q2114, q2115, q2116, q139, q2117, rfl, ⟨rfl, by decide +kernel, by decide +kernel, by decide +kernel⟩, by decide⟩
theorem cv_L_114 : xCV "CounterDeskLaw" 114 RX0 kX0_compass 1 := ⟨q1383, q1384, q1385, q130, q1386, rfl, ⟨rfl, by decide +kernel, by decide +kernel, by decide +kernel⟩, by decide⟩
theorem cv_L_117 : xCV "CounterDeskLaw" 117 RX6 kX6_compass 1 := ⟨q2146, q2147, q2148, q139, q2149, rfl, ⟨rfl, by decide +kernel, by decide +kernel, by decide +kernel⟩, by decide⟩
theorem cv_L_118 : xCV "CounterDeskLaw" 118 RX0 kX0_cheapest 2 := ⟨q1387, q1388, q1389, q130, q1390, rfl, ⟨rfl, by decide +kernel, by decide +kernel, by decide +kernel⟩, by decide⟩
theorem cv_L_121 : xCV "CounterDeskLaw" 121 RX6 kX6_cheapest 2 := ⟨q2154, q2155, q2156, q139, q2157, rfl, ⟨rfl, by decide +kernel, by decide +kernel, by decide +kernel⟩, by decide⟩
theorem cv_L_122 : xCV "CounterDeskLaw" 122 RX0 kX0_canon 2 := ⟨q1399, q1400, q1401, q130, q1402, rfl, ⟨rfl, by decide +kernel, by decide +kernel, by decide +kernel⟩, by decide⟩
theorem cv_L_125 : xCV "CounterDeskLaw" 125 RX6 kX6_canon 2 := ⟨q2166, q2167, q2168, q139, q2169, rfl, ⟨rfl, by decide +kernel, by decide +kernel, by decide +kernel⟩, by decide⟩
theorem cv_L_126 : xCV "CounterDeskLaw" 126 RX0 kX0_parallels 1 := ⟨q1408, q1409, q1410, q130, q1411, rfl, ⟨rfl, by decide +kernel, by decide +kernel, by decide +kernel⟩, by decide⟩
theorem cv_L_129 : xCV "CounterDeskLaw" 129 RX6 kX6_parallels 1 := ⟨q2174, q2175, q2176, q139, q2177, rfl, ⟨rfl, by decide +kernel, by decide +kernel, by decide +kernel⟩, by decide⟩
theorem cv_L_130 : xCV "CounterDeskLaw" 130 RX0 kX0_heard 2 := ⟨q1412, q1413, q1414, q130, q1415, rfl, ⟨rfl, by decide +kernel, by decide +kernel, by decide +kernel⟩, by decide⟩
theorem cv_L_133 : xCV "CounterDeskLaw" 133 RX6 kX6_heard 2 := ⟨q2186, q2187, q2188, q139, q2189, rfl, ⟨rfl, by decide +kernel, by decide +kernel, by decide +kernel⟩, by decide⟩
theorem cv_L_134 : xCV "CounterDeskLaw" 134 RX0 kX0_forget 0 := ⟨q1418, q1419, q1420, q130, q1421, rfl, ⟨rfl, by decide +kernel, by decide +kernel, by decide +kernel⟩, by decide⟩
theorem cv_L_137 : xCV "CounterDeskLaw" 137 RX6 kX6_forget 0 := ⟨q2190, q2191, q2192, q139, q2193, rfl, ⟨rfl, by decide +kernel, by decide +kernel, by decide +kernel⟩, by decide⟩
theorem cv_L_138 : xCV "CounterDeskLaw" 138 RX0 kX0_canBe 0 := ⟨q1422, q1423, q1424, q130, q1425, rfl, ⟨rfl, by decide +kernel, by decide +kernel, by decide +kernel⟩, by decide⟩
theorem cv_L_141 : xCV "CounterDeskLaw" 141 RX6 kX6_canBe 0 := ⟨q2194, q2195, q2196, q139, q2197, rfl, ⟨rfl, by decide +kernel, by decide +kernel, by decide +kernel⟩, by decide⟩
theorem cv_L_142 : xCV "CounterDeskLaw" 142 RX0 kX0_listen 1 := ⟨q1430, q1431, q1432, q130, q1433, rfl, ⟨rfl, by decide +kernel, by decide +kernel, by decide +kernel⟩, by decide⟩
theorem cv_L_145 : xCV "CounterDeskLaw" 145 RX6 kX6_listen 1 := ⟨q2206, q2207, q2208, q139, q2209, rfl, ⟨rfl, by decide +kernel, by decide +kernel, by decide +kernel⟩, by decide⟩
theorem cv_L_146 : xCV "CounterDeskLaw" 146 RX0 kX0_few 2 := ⟨q1442, q1443, q1444, q130, q1445, rfl, ⟨rfl, by decide +kernel, by decide +kernel, by decide +kernel⟩, by decide⟩
theorem cv_L_150 : xCV "CounterDeskLaw" 150 RX6 kX6_few 2 := ⟨q2221, q2222, q2223, q139, q2224, rfl, ⟨rfl, by decide +kernel, by decide +kernel, by decide +kernel⟩, by decide⟩
theorem cv_L_151 : xCV "CounterDeskLaw" 151 RX0 kX0_compare 1 := ⟨q1391, q1392, q1393, q130, q1394, rfl, ⟨rfl, by decide +kernel, by decide +kernel, by decide +kernel⟩, by decide⟩
theorem cv_L_154 : xCV "CounterDeskLaw" 154 RX6 kX6_compare 1 := ⟨q2162, q2163, q2164, q139, q2165, rfl, ⟨rfl, by decide +kernel, by decide +kernel, by decide +kernel⟩, by decide⟩
theorem cv_L_155 : xCV "CounterDeskLaw" 155 RX0 kX0_weeks 2 := ⟨q1528, q1529, q1530, q130, q1531, rfl, ⟨rfl, by decide +kernel, by decide +kernel, by decide +kernel⟩, by decide⟩
theorem cv_L_158 : xCV "CounterDeskLaw" 158 RX6 kX6_weeks 2 := ⟨q2260, q2261, q2262, q139, q2263, rfl, ⟨rfl, by decide +kernel, by decide +kernel, by decide +kernel⟩, by decide⟩
theorem cv_L_159 : xCV "CounterDeskLaw" 159 RX0 kX0_drawn 2 := ⟨q1551, q1552, q1553, q130, q1554, rfl, ⟨rfl, by decide +kernel, by decide +kernel, by decide +kernel⟩, by decide⟩
theorem cv_L_162 : xCV "CounterDeskLaw" 162 RX6 kX6_drawn 2 := ⟨q2275, q2276, q2277, q139, q2278, rfl, ⟨rfl, by decide +kernel, by decide +kernel, by decide +kernel⟩, by decide⟩
theorem cv_L_163 : xCV "CounterDeskLaw" 163 RX0 kX0_image 1 := ⟨q1555, q1556, q1557, q130, q1558, rfl, ⟨rfl, by decide +kernel, by decide +kernel, by decide +kernel⟩, by decide⟩
theorem cv_L_166 : xCV "CounterDeskLaw" 166 RX6 kX6_image 1 := ⟨q1756, q1757, q1758, q139, q1759, rfl, ⟨rfl, by decide +kernel, by decide +kernel, by decide +kernel⟩, by decide⟩
theorem cv_L_167 : xCV "CounterDeskLaw" 167 RX0 kX0_back 1 := ⟨q1582, q1583, q1584, q130, q1585, rfl, ⟨rfl, by decide +kernel, by decide +kernel, by decide +kernel⟩, by decide⟩
theorem cv_L_170 : xCV "CounterDeskLaw" 170 RX6 kX6_back 1 := ⟨q1771, q1772, q1773, q139, q1774, rfl, ⟨rfl, by decide +kernel, by decide +kernel, by decide +kernel⟩, by decide⟩
theorem cv_L_171 : xCV "CounterDeskLaw" 171 RX0 kX0_count 1 := ⟨q1586, q1587, q1588, q130, q1589, rfl, ⟨rfl, by decide +kernel, by decide +kernel, by decide +kernel⟩, by decide⟩
theorem cv_L_174 : xCV "CounterDeskLaw" 174 RX6 kX6_count 1 := ⟨q2279, q2280, q2281, q139, q2282, rfl, ⟨rfl, by decide +kernel, by decide +kernel, by decide +kernel⟩, by decide⟩
theorem cv_L_175 : xCV "CounterDeskLaw" 175 RX0 kX0_status 0 := ⟨q1592, q1593, q1594, q130, q1595, rfl, ⟨rfl, by decide +kernel, by decide +kernel, by decide +kernel⟩, by decide⟩
theorem cv_L_178 : xCV "CounterDeskLaw" 178 RX6 kX6_status 0 := ⟨q2287, q2288, q2289, q139, q2290, rfl, ⟨rfl, by decide +kernel, by decide +kernel, by decide +kernel⟩, by decide⟩
theorem df_X6 : ∀ j, j < 51 → (tk 6 j = 0 ∧ defaultValue (tyX6 j) = .int 0) ∨ (tk 6 j = 1 ∧ defaultValue (tyX6 j) = .long 0) ∨ (tk 6 j = 2 ∧ defaultValue (tyX6 j) = .null) := by
  intro j hj
  match j, hj with
  | 0, _ => exact Or.inl ⟨rfl, rfl⟩
  | 1, _ => exact Or.inr (Or.inr ⟨rfl, rfl⟩)
  | 2, _ => exact Or.inr (Or.inr ⟨rfl, rfl⟩)
  | 3, _ => exact Or.inr (Or.inr ⟨rfl, rfl⟩)
  | 4, _ => exact Or.inr (Or.inr ⟨rfl, rfl⟩)
  | 5, _ => exact Or.inr (Or.inr ⟨rfl, rfl⟩)
  | 6, _ => exact Or.inl ⟨rfl, rfl⟩
  | 7, _ => exact Or.inr (Or.inr ⟨rfl, rfl⟩)
  | 8, _ => exact Or.inl ⟨rfl, rfl⟩
  | 9, _ => exact Or.inl ⟨rfl, rfl⟩
  | 10, _ => exact Or.inl ⟨rfl, rfl⟩
  | 11, _ => exact Or.inr (Or.inr ⟨rfl, rfl⟩)
  | 12, _ => exact Or.inr (Or.inr ⟨rfl, rfl⟩)
  | 13, _ => exact Or.inl ⟨rfl, rfl⟩
  | 14, _ => exact Or.inl ⟨rfl, rfl⟩
  | 15, _ => exact Or.inr (Or.inr ⟨rfl, rfl⟩)
  | 16, _ => exact Or.inr (Or.inr ⟨rfl, rfl⟩)
  | 17, _ => exact Or.inr (Or.inr ⟨rfl, rfl⟩)
  | 18, _ => exact Or.inl ⟨rfl, rfl⟩
  | 19, _ => exact Or.inl ⟨rfl, rfl⟩
  | 20, _ => exact Or.inl ⟨rfl, rfl⟩
  | 21, _ => exact Or.inl ⟨rfl, rfl⟩
  | 22, _ => exact Or.inl ⟨rfl, rfl⟩
  | 23, _ => exact Or.inl ⟨rfl, rfl⟩
  | 24, _ => exact Or.inl ⟨rfl, rfl⟩
  | 25, _ => exact Or.inl ⟨rfl, rfl⟩
  | 26, _ => exact Or.inr (Or.inr ⟨rfl, rfl⟩)
  | 27, _ => exact Or.inl ⟨rfl, rfl⟩
  | 28, _ => exact Or.inl ⟨rfl, rfl⟩
  | 29, _ => exact Or.inl ⟨rfl, rfl⟩
  | 30, _ => exact Or.inl ⟨rfl, rfl⟩
  | 31, _ => exact Or.inr (Or.inr ⟨rfl, rfl⟩)
  | 32, _ => exact Or.inr (Or.inr ⟨rfl, rfl⟩)
  | 33, _ => exact Or.inl ⟨rfl, rfl⟩
  | 34, _ => exact Or.inr (Or.inr ⟨rfl, rfl⟩)
  | 35, _ => exact Or.inr (Or.inr ⟨rfl, rfl⟩)
  | 36, _ => exact Or.inr (Or.inr ⟨rfl, rfl⟩)
  | 37, _ => exact Or.inr (Or.inr ⟨rfl, rfl⟩)
  | 38, _ => exact Or.inr (Or.inr ⟨rfl, rfl⟩)
  | 39, _ => exact Or.inr (Or.inr ⟨rfl, rfl⟩)
  | 40, _ => exact Or.inr (Or.inr ⟨rfl, rfl⟩)
  | 41, _ => exact Or.inl ⟨rfl, rfl⟩
  | 42, _ => exact Or.inl ⟨rfl, rfl⟩
  | 43, _ => exact Or.inl ⟨rfl, rfl⟩
  | 44, _ => exact Or.inl ⟨rfl, rfl⟩
  | 45, _ => exact Or.inl ⟨rfl, rfl⟩
  | 46, _ => exact Or.inl ⟨rfl, rfl⟩
  | 47, _ => exact Or.inr (Or.inr ⟨rfl, rfl⟩)
  | 48, _ => exact Or.inr (Or.inr ⟨rfl, rfl⟩)
  | 49, _ => exact Or.inl ⟨rfl, rfl⟩
  | 50, _ => exact Or.inl ⟨rfl, rfl⟩
  | j + 51, hj => omega
theorem ne_L_7 : xNe "CounterDeskLaw" 7 0 := ⟨RX0, TX0, 28, tyX0, xcl_X0, q170, q171, q130, rfl, df_X0⟩
theorem ne_L_10 : xNe "CounterDeskLaw" 10 6 := ⟨RX6, TX6, 51, tyX6, xcl_M, q1596, q1597, q139, rfl, df_X6⟩
