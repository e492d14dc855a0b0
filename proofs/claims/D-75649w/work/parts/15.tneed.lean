set_option maxRecDepth 100000
/-- fuel of loops, fuel of recursions, the string constants' references -/
abbrev tP : Type := Nat × Nat × (Nat → Nat)
def tNs (G : xG) (N : tP) : Prop := ∀ i, N.2.2 i = G.2.2.1 i + 1
/-- an object of one of the tests' classes -/
def tT (m : tM) (a : Nat) : Prop := tO m 14 a ∨ tO m 15 a ∨ tO m 16 a
theorem xct_i {x : Int32} : (Value.int x).category = 1 := rfl
theorem xct_l {x : Int64} : (Value.long x).category = 2 := rfl
def xMa (own : String) (idx : Nat) (x : MethodName) (code : ByteArray) (L : Nat) (t : FieldType) : Prop := Cond.methodLink own idx x ∈ lw_all ∧ Cond.static x ∈ lw_all ∧ Cond.initialized "java/lang/Math" ∈ lw_all ∧ Cond.code x code L (some t) ∈ lw_all
section TSN
variable {G : xG} {l : Launch} {M M' : xM} {d k n mc ms : Nat} {Q : xR → xH → Prop} {pc : Nat} {lv : xLs} {st As rest : List Value} {g : xH} {m : tM} {idx ar : Nat}
theorem t_cSNi {host : String} {K : Int32 → tM → Prop} {Kx : String → Nat → tM → Prop} (hh : M.2.2.2.2 = []) (hw : xCSN M.1.cls idx host M' ar) (har : As.length = ar) (hst : st = As.reverse ++ rest) (hrm : (rest.map fun v => v.category).sum ≤ 8) (hdg : decode M.2.1 pc = .ok (.invokestatic idx, 3)) (hC : xC G l M' d mc ms As (tH G g m) (tQ G g wi K Kx)) (hm : mc ≤ k ∧ ms ≤ n) (kx : ∀ (E : String) (q : Nat) (m1 : tM), Kx E (q + 1) m1 → Q (.inr (E, q)) (tH G g m1)) (kk : ∀ (v : Int32) (m1 : tM), K v m1 → xF G l M (d + 1) (k - mc) (n - ms) Q (pc + 3) lv (.int v :: rest) (tH G g m1)) : xF G l M (d + 1) k n Q pc lv st (tH G g m) := by
  refine x_cSN hh hw har hst hrm hdg hC hm (fun E q h1 hq => ?_) (fun v h1 hq => ?_)
  · rcases hq with ⟨v, m1, -, e, -⟩ | ⟨E', q', m1, hx, e, rfl⟩
    · cases e
    · cases e
      exact kx _ _ _ hx
  · rcases hq with ⟨v', m1, h2, e, rfl⟩ | ⟨E', q', m1, -, e, -⟩
    · cases e
      exact kk v' m1 h2
    · cases e
end TSN
section TN
theorem tO_w {m m2 : tM} {ci a : Nat} (h : m2.1 = m.1) (e : tO m ci a) : tO m2 ci a := ⟨by rw [h]; exact e.1, e.2⟩
theorem tE_w {m m2 : tM} {c1 c2 a : Nat} (h : m2.1 = m.1) (e : tE m c1 c2 a) : tE m2 c1 c2 a := e.elim (fun e => Or.inl (tO_w h e)) (fun e => Or.inr (tO_w h e))
variable {G : xG} {l : Launch} {M : xM} {d k n : Nat} {Q : xR → xH → Prop} {pc : Nat} {lv : xLs} {st rest : List Value} {h g : xH} {m : tM} {idx : Nat}
theorem t_gen {m' : tM} {P : tM → Prop} (h : ∀ s2, s2 = m' → P s2) (kk : ∀ s2 : tM, s2.1 = m'.1 → P s2 → xF G l M d k n Q pc lv st (tH G g s2)) : xF G l M d k n Q pc lv st (tH G g m') := kk m' rfl (h m' rfl)
theorem t_ldcN {i : Nat} {tx : String} {N : tP} (hN : tNs G N) (hdg : decode M.2.1 pc = .ok (.ldc idx, 2)) (hx : ∃ j : Nat, xstr[j]? = some (M.1.cls, idx, tx, i))
    (kk : xF G l M d k n Q (pc + 2) lv (rfv (N.2.2 i) :: rest) h) : xF G l M d k n Q pc lv rest h := t_ldcS hdg hx (by rw [← hN i]; exact kk)
theorem t_aastT {a v : Nat} {i : Int32} (hdg : decode M.2.1 pc = .ok (.aastore, 1)) (hv : tT m v) (ho : tX m 7 a i)
    (kk : xF G l M d k n Q (pc + 1) lv st (tH G g (tsR m a i.toNatClampNeg v))) : xF G l M d k n Q pc lv (rfv v :: .int i :: rfv a :: st) (tH G g m) := by
  rcases hv with h | h | h
  · exact t_aast hdg st_7_14 h ho kk
  · exact t_aast hdg st_7_15 h ho kk
  · exact t_aast hdg st_7_16 h ho kk
theorem t_mmax {x y : Int32} (hw : xMa M.1.cls idx Lib.Math.max.name Lib.Math.max.code 2 .int) (hd : 1 ≤ d) (hrm : (rest.map fun v => v.category).sum ≤ 8) (hdg : decode M.2.1 pc = .ok (.invokestatic idx, 3))
    (kk : xF G l M d k n Q (pc + 3) lv (.int (if x < y then y else x) :: rest) h) : xF G l M d k n Q pc lv (.int y :: .int x :: rest) h := by
  intro p e R s m₀ args below meth c H locs cells slots ls F hL hc hs hR hS
  have hts := F.2.2.2.2.2.1
  obtain ⟨w1, w2, w3, w4⟩ := hw
  have h1 := F.2.2.2.2.2.2.2.2.1
  have h2 := F.2.2.2.2.2.2.2.2.2.1
  exact va_mmax F.1 F.2.1 (by rw [F.2.2.2.1]; exact hL.1.symm) F.2.2.2.2.1 (hts _ w1) (hts _ w2) (hts _ w3) (hts _ w4) (by omega) (by omega) (by omega) (by omega) hdg (kk p e R s m₀ args below meth c H locs cells slots ls F hL hc hs hR hS)
theorem t_mmin {x y : Int32} (hw : xMa M.1.cls idx Lib.Math.min.name Lib.Math.min.code 2 .int) (hd : 1 ≤ d) (hrm : (rest.map fun v => v.category).sum ≤ 8) (hdg : decode M.2.1 pc = .ok (.invokestatic idx, 3))
    (kk : xF G l M d k n Q (pc + 3) lv (.int (if y < x then y else x) :: rest) h) : xF G l M d k n Q pc lv (.int y :: .int x :: rest) h := by
  intro p e R s m₀ args below meth c H locs cells slots ls F hL hc hs hR hS
  have hts := F.2.2.2.2.2.1
  obtain ⟨w1, w2, w3, w4⟩ := hw
  have h1 := F.2.2.2.2.2.2.2.2.1
  have h2 := F.2.2.2.2.2.2.2.2.2.1
  exact va_mmin F.1 F.2.1 (by rw [F.2.2.2.1]; exact hL.1.symm) F.2.2.2.2.1 (hts _ w1) (hts _ w2) (hts _ w3) (hts _ w4) (by omega) (by omega) (by omega) (by omega) hdg (kk p e R s m₀ args below meth c H locs cells slots ls F hL hc hs hR hS)
theorem t_mabs {x : Int32} (hw : xMa M.1.cls idx Lib.Math.abs.name Lib.Math.abs.code 1 .int) (hd : 1 ≤ d) (hrm : (rest.map fun v => v.category).sum ≤ 8) (hdg : decode M.2.1 pc = .ok (.invokestatic idx, 3))
    (kk : xF G l M d k n Q (pc + 3) lv (.int (if 0 ≤ x then x else 0 - x) :: rest) h) : xF G l M d k n Q pc lv (.int x :: rest) h := by
  intro p e R s m₀ args below meth c H locs cells slots ls F hL hc hs hR hS
  have hts := F.2.2.2.2.2.1
  obtain ⟨w1, w2, w3, w4⟩ := hw
  have h1 := F.2.2.2.2.2.2.2.2.1
  have h2 := F.2.2.2.2.2.2.2.2.2.1
  exact va_mabs F.1 F.2.1 (by rw [F.2.2.2.1]; exact hL.1.symm) F.2.2.2.2.1 (hts _ w1) (hts _ w2) (hts _ w3) (hts _ w4) (by omega) (by omega) (by omega) (by omega) hdg (kk p e R s m₀ args below meth c H locs cells slots ls F hL hc hs hR hS)
theorem t_mmax_long {x y : Int64} (hw : xMa M.1.cls idx Lib.MathLoose.max_long.x Lib.MathLoose.max_long.code 4 .long) (hd : 1 ≤ d) (hrm : (rest.map fun v => v.category).sum ≤ 8) (hdg : decode M.2.1 pc = .ok (.invokestatic idx, 3))
    (kk : xF G l M d k n Q (pc + 3) lv (.long (if y < x then x else y) :: rest) h) : xF G l M d k n Q pc lv (.long y :: .long x :: rest) h := by
  intro p e R s m₀ args below meth c H locs cells slots ls F hL hc hs hR hS
  have hts := F.2.2.2.2.2.1
  obtain ⟨w1, w2, w3, w4⟩ := hw
  have h1 := F.2.2.2.2.2.2.2.2.1
  have h2 := F.2.2.2.2.2.2.2.2.2.1
  exact va_mmax_long F.1 F.2.1 (by rw [F.2.2.2.1]; exact hL.1.symm) F.2.2.2.2.1 (hts _ w1) (hts _ w2) (hts _ w3) (hts _ w4) (by omega) (by omega) (by omega) (by omega) hdg (kk p e R s m₀ args below meth c H locs cells slots ls F hL hc hs hR hS)
theorem t_mmin_long {x y : Int64} (hw : xMa M.1.cls idx Lib.MathLoose.min_long.x Lib.MathLoose.min_long.code 4 .long) (hd : 1 ≤ d) (hrm : (rest.map fun v => v.category).sum ≤ 8) (hdg : decode M.2.1 pc = .ok (.invokestatic idx, 3))
    (kk : xF G l M d k n Q (pc + 3) lv (.long (if y < x then y else x) :: rest) h) : xF G l M d k n Q pc lv (.long y :: .long x :: rest) h := by
  intro p e R s m₀ args below meth c H locs cells slots ls F hL hc hs hR hS
  have hts := F.2.2.2.2.2.1
  obtain ⟨w1, w2, w3, w4⟩ := hw
  have h1 := F.2.2.2.2.2.2.2.2.1
  have h2 := F.2.2.2.2.2.2.2.2.2.1
  exact va_mmin_long F.1 F.2.1 (by rw [F.2.2.2.1]; exact hL.1.symm) F.2.2.2.2.1 (hts _ w1) (hts _ w2) (hts _ w3) (hts _ w4) (by omega) (by omega) (by omega) (by omega) hdg (kk p e R s m₀ args below meth c H locs cells slots ls F hL hc hs hR hS)
end TN
theorem st_9_23 : xSt 9 23 := ⟨"java/lang/String", RJ11, TJ11, 2, rfl, by decide, by decide, rfl, Or.inl rfl⟩
theorem na_X0_212 : xNat RX0 212 := ⟨q699, q701, q700, q149⟩
theorem na_X2_18 : xNat RX2 18 := ⟨q1298, q701, q700, q149⟩
theorem na_X1_43 : xNat RX1 43 := ⟨q1580, q701, q700, q149⟩
theorem na_X8_57 : xNat RX8 57 := ⟨q1189, q701, q700, q149⟩
theorem na_X21_41 : xNat RX21 41 := ⟨q1490, q701, q700, q149⟩
theorem na_X7_102 : xNat RX7 102 := ⟨q1088, q701, q700, q149⟩
theorem na_X3_22 : xNat RX3 22 := ⟨q1293, q701, q700, q149⟩
theorem na_J2_112 : xNat RJ2 112 := ⟨q1579, q701, q700, q149⟩
theorem na_J15_150 : xNat RJ15 150 := ⟨q1254, q701, q700, q149⟩
theorem ma_X0_120 : xMa RX0 120 Lib.Math.min.name Lib.Math.min.code 2 .int := ⟨q469, q470, q140, q471⟩
theorem ma_X0_275 : xMa RX0 275 Lib.Math.abs.name Lib.Math.abs.code 1 .int := ⟨q514, q515, q140, q516⟩
theorem ma_X0_346 : xMa RX0 346 Lib.Math.max.name Lib.Math.max.code 2 .int := ⟨q1358, q1212, q140, q1213⟩
theorem ma_X5_27 : xMa RX5 27 Lib.MathLoose.min_long.x Lib.MathLoose.min_long.code 4 .long := ⟨q565, q566, q140, q567⟩
theorem ma_X5_33 : xMa RX5 33 Lib.MathLoose.max_long.x Lib.MathLoose.max_long.code 4 .long := ⟨q568, q569, q140, q570⟩
theorem ma_J2_79 : xMa RJ2 79 Lib.Math.max.name Lib.Math.max.code 2 .int := ⟨q1255, q1212, q140, q1213⟩
theorem ma_J15_304 : xMa RJ15 304 Lib.Math.min.name Lib.Math.min.code 2 .int := ⟨q1253, q470, q140, q471⟩
theorem ma_J14_194 : xMa RJ14 194 Lib.Math.max.name Lib.Math.max.code 2 .int := ⟨q1211, q1212, q140, q1213⟩
