set_option maxRecDepth 100000
/-! ===== the small methods, both sides ===== -/
/-- the model's cells -/
def mO (s : tM) (o : Nat) : Nat → Prop := fun a => ∃ j, j ∈ mJ ∧ a = mA s o j
/-- the system under x and the model under o are alike -/
def RXo (N : tP) (s : tM) (x o : Nat) : Prop := ∃ L M, L 0 = x ∧ RX N s L M (mO s o) (sM s o) ∧ tMod s o
/-- behind the system's call: the model's gives the same, and K holds -/
def pK (o : Nat) (w : mS → (Int32 → mS → Prop) → Prop) (K : tM → Prop) : Int32 → tM → Prop := fun r s1 => tMod s1 o ∧ w (sM s1 o) (fun r' g => ∀ s2 : tM, s2 = sP s1 o g → ((r = r' → K s2) ∧ (¬ r = r' → (0 : Int32) = 1)))
def pKl (o : Nat) (w : mS → (Int64 → mS → Prop) → Prop) (K : tM → Prop) : Int64 → tM → Prop := fun r s1 => tMod s1 o ∧ w (sM s1 o) (fun r' g => ∀ s2 : tM, s2 = sP s1 o g → ((lg_cmp r r' = 0 → K s2) ∧ (¬ lg_cmp r r' = 0 → (0 : Int32) = 1)))
theorem cE_F {m m1 : mS} (h : cE m m1) (j : Nat) (v : Int32) : cE (mF m j v) (mF m1 j v) := ⟨fun q hq => by
  show (if q = j then v else m1.1 q) = if q = j then v else m.1 q
  rw [h.1 q hq], h.2⟩
theorem cE_I {m m1 : mS} (h : cE m m1) (j : Nat) (i v : Int32) : cE (mI m j i v) (mI m1 j i v) := ⟨h.1, fun q hq => by
  show (if q = j then upd (m1.2.1 j) i.toNatClampNeg v else m1.2.1 q) = if q = j then upd (m.2.1 j) i.toNatClampNeg v else m.2.1 q
  by_cases e : q = j
  · rw [if_pos e, if_pos e, ← e, h.2 q hq]
  · rw [if_neg e, if_neg e, h.2 q hq]⟩
section PF
variable {N : tP} {s s1 : tM} {L : Nat → Nat} {M : Nat → Prop} {m m' : mS} {o : Nat}
theorem pend (hfr : frM (mO s o) s s1) (hm : tMod s o) : tMod s1 o ∧ cE (sM s o) (sM s1 o) ∧ (∀ j, mA s1 o j = mA s o j) ∧ ∀ j, (sM s1 o).1 j = (sM s o).1 j := by
  have hoo : mO s o o := ⟨51, by decide, rfl⟩
  have hA : ∀ j, mA s1 o j = mA s o j := fun j => by
    unfold mA
    by_cases e : j = 51
    · rw [if_pos e, if_pos e]
    · rw [if_neg e, if_neg e]
      exact congrFun (hfr.1 o hoo).2.2 j
  refine ⟨⟨⟨by rw [(hfr.1 o hoo).1]; exact hm.1.1, hm.1.2⟩, fun j hj hj2 => ?_, fun i hi j hj e => ?_⟩, ⟨fun j _ => congrFun (hfr.1 o hoo).2.1 j, fun q hq => funext fun i => ?_⟩, hA, fun j => congrFun (hfr.1 o hoo).2.1 j⟩
  · rw [hA]
    have := hm.2.1 j hj hj2
    exact ⟨by rw [(hfr.1 _ ⟨j, hj, rfl⟩).1]; exact this.1, this.2⟩
  · rw [hA, hA] at e
    exact hm.2.2 i hi j hj e
  · have hq2 : q ∈ mJ := by
      have : ∀ q ∈ stA, q ∈ mJ := by decide
      exact this q hq
    show tI s1 (mA s1 o q) i = tI s (mA s o q) i
    rw [hA]
    exact congrFun (hfr.1 _ ⟨q, hq2, rfl⟩).2.1 i
theorem pfin0 (hX : RX N s1 L M (mO s o) m') (hm : tMod s o) (hfr : frM (mO s o) s s1) {x : Nat} (hL : L 0 = x) {g : mS} (hg : cE m' g) : RXo N (sP s1 o g) x o := by
  obtain ⟨hm1, -, hA, -⟩ := pend hfr hm
  have hO : mO s1 o = mO s o := by
    funext a
    unfold mO
    simp only [hA]
  have hOg : mO (sP s1 o g) o = mO s o := hO
  have hin : ∀ a i, ¬ mO s o a → tI (sP s1 o g) a i = tI s1 a i := fun a i ha => by
    show (match mFi s1 o a with
      | some j => if j = 51 then g.1 i else g.2.1 j i
      | none => s1.2.1 a i) = _
    cases hf : mFi s1 o a with
    | none => rfl
    | some j =>
      have := mFi_some hf
      exact absurd ⟨j, this.1, by rw [← hA]; exact this.2.symm⟩ ha
  have hX2 : RX N (sP s1 o g) L M (mO s o) g := by
    refine (hX.c hg).g rfl rfl (fun r j hr _ => hin _ _ (hX.1.n2 hr)) (fun a ha => ⟨rfl, funext fun i => hin a i (fun z => hX.2.1.2 a z ha), rfl⟩)
  have hce : cE g (sM (sP s1 o g) o) := by
    refine ⟨fun j _ => ?_, fun q hq => funext fun i => ?_⟩
    · show (match mFi s1 o o with
        | some q => if q = 51 then g.1 j else g.2.1 q j
        | none => s1.2.1 o j) = _
      have := mFi_at (j := 51) hm1 (by decide)
      rw [show mA s1 o 51 = o from rfl] at this
      rw [this]
      rfl
    · have hq2 : q ∈ mJ ∧ q ≠ 51 := by
        have : ∀ q ∈ stA, q ∈ mJ ∧ q ≠ 51 := by decide
        exact this q hq
      show (match mFi s1 o (mA s1 o q) with
        | some j => if j = 51 then g.1 i else g.2.1 j i
        | none => s1.2.1 (mA s1 o q) i) = _
      rw [mFi_at hm1 hq2.1]
      show (if q = 51 then g.1 i else g.2.1 q i) = _
      rw [if_neg hq2.2]
  refine ⟨L, M, hL, ?_, ?_⟩
  · rw [hOg]
    exact hX2.c hce
  · exact ⟨hm1.1, hm1.2.1, hm1.2.2⟩
theorem pfin (hX : RX N s1 L M (mO s o) m') (hm : tMod s o) (hfr : frM (mO s o) s s1) {x : Nat} (hL : L 0 = x) {K : tM → Prop} (hK : ∀ s', RXo N s' x o → K s') {w : mS → (Int32 → mS → Prop) → Prop} {r : Int32} (hw : ∀ m1 (K2 : Int32 → mS → Prop), cE (sM s o) m1 → (∀ g, cE m' g → K2 r g) → w m1 K2) : pK o w K r s1 := by
  obtain ⟨hm1, hc, -, -⟩ := pend hfr hm
  exact ⟨hm1, hw _ _ hc (fun g hg s2 e2 => ⟨fun _ => e2 ▸ hK _ (pfin0 hX hm hfr hL hg), fun z => absurd rfl z⟩)⟩
theorem pfinl (hX : RX N s1 L M (mO s o) m') (hm : tMod s o) (hfr : frM (mO s o) s s1) {x : Nat} (hL : L 0 = x) {K : tM → Prop} (hK : ∀ s', RXo N s' x o → K s') {w : mS → (Int64 → mS → Prop) → Prop} {r : Int64} (hw : ∀ m1 (K2 : Int64 → mS → Prop), cE (sM s o) m1 → (∀ g, cE m' g → K2 r g) → w m1 K2) : pKl o w K r s1 := by
  obtain ⟨hm1, hc, -, -⟩ := pend hfr hm
  exact ⟨hm1, hw _ _ hc (fun g hg s2 e2 => ⟨fun _ => e2 ▸ hK _ (pfin0 hX hm hfr hL hg), fun z => absurd (lgc_z.mpr rfl) z⟩)⟩
end PF
/-! what may be written into a kept row -/
def okv (told k : Nat) (v : Int32) : Prop := (k < 24 → pI v) ∧ (k = 24 → 0 ≤ v.toInt ∧ v.toInt ≤ 999) ∧ (k = 37 → 0 ≤ v.toInt ∧ v.toInt ≤ 10) ∧ (k = 38 → 0 ≤ v.toInt ∧ v.toInt ≤ 9) ∧ (k = 39 ∨ k = 40 → pI v) ∧ (k = 41 → ∃ n, n ≤ 12 ∧ v = nI n) ∧ (k = 42 → ∃ n, n ≤ 6 ∧ v = nI n) ∧ (∀ i, i < 6 → k = 25 + 2 * i → ∃ f, f < 4 ∧ v = nI f) ∧ k ≠ 43 ∧ (k = 44 → v = -1 ∨ ∃ t, t < told ∧ v = nI t)
theorem kpI_u {kp kp' : Nat → Int32} (h : kpI kp) {k : Nat} {v : Int32} (hk : ∀ i, kp' i = if i = k then v else kp i) {told : Nat} (ht : kp 43 = nI told) (ht2 : told ≤ 6) (ho : okv told k v) : kpI kp' := by
  obtain ⟨⟨a1, a2, a3⟩, b, c, d, e1, f, g, told', t1, t2, t3⟩ := h
  obtain ⟨o1, o2, o3, o4, o5, o6, o7, o8, o9, o10⟩ := ho
  have ett : told = told' := (nI_eq (by omega) (by omega)).mp (ht.symm.trans t2)
  subst ett
  refine ⟨⟨fun i hi => ?_, ?_, ?_⟩, ?_, ?_, ?_, ?_, ?_, fun i hi => ?_, told, t1, ?_, ?_⟩
  all_goals rw [hk]
  · by_cases z : i = k
    · rw [if_pos z]
      exact o1 (by omega)
    · rw [if_neg z]
      exact a1 i hi
  · by_cases z : 38 = k
    · rw [if_pos z]
      exact o4 z.symm
    · rw [if_neg z]
      exact a2
  · by_cases z : 24 = k
    · rw [if_pos z]
      exact o2 z.symm
    · rw [if_neg z]
      exact a3
  · by_cases z : 37 = k
    · rw [if_pos z]
      exact o3 z.symm
    · rw [if_neg z]
      exact b
  · by_cases z : 39 = k
    · rw [if_pos z]
      exact o5 (Or.inl z.symm)
    · rw [if_neg z]
      exact c
  · by_cases z : 40 = k
    · rw [if_pos z]
      exact o5 (Or.inr z.symm)
    · rw [if_neg z]
      exact d
  · by_cases z : 41 = k
    · rw [if_pos z]
      exact o6 z.symm
    · rw [if_neg z]
      exact e1
  · by_cases z : 42 = k
    · rw [if_pos z]
      exact o7 z.symm
    · rw [if_neg z]
      exact f
  · by_cases z : 25 + 2 * i = k
    · rw [if_pos z]
      exact o8 i hi z.symm
    · rw [if_neg z]
      exact g i hi
  · rw [if_neg (fun z => o9 z.symm)]
    exact t2
  · by_cases z : 44 = k
    · rw [if_pos z]
      exact o10 z.symm
    · rw [if_neg z]
      exact t3
theorem invM_F {m : mS} (h : invM m) {j : Nat} {v : Int32} (h1 : j ≠ 13) (h2 : j ≠ 49) : invM (mF m j v) := by
  obtain ⟨a, b, c, d, e⟩ := h
  refine ⟨a, ?_, c, ?_, e⟩
  · show ∃ n, n ≤ 400 ∧ (if 13 = j then v else m.1 13) = nI n
    rw [if_neg (fun z => h1 z.symm)]
    exact b
  · show (if 49 = j then v else m.1 49) = -1 ∨ ∃ n, n ≤ 12 ∧ (if 49 = j then v else m.1 49) = nI n
    rw [if_neg (fun z => h2 z.symm)]
    exact d
theorem invM_I {m : mS} (h : invM m) {k : Nat} {v : Int32} {told : Nat} (ht : m.2.1 2 43 = nI told) (ht2 : told ≤ 6) (hk : k < 2 ^ 31) (ho : okv told k v) : invM (mI m 2 (nI k) v) := by
  obtain ⟨a, b, c, d, e⟩ := h
  refine ⟨kpI_u a (fun i => mI_at m 2 v hk i) ht ht2 ho, b, fun k' hk' => ?_, d, fun j hj => ?_⟩
  · rw [mI_o _ _ _ (by decide)]
    exact c k' hk'
  · rw [mI_o _ _ _ (by decide)]
    exact e j hj
theorem invM_1 {m : mS} (h : invM m) {i v : Int32} : invM (mI m 1 i v) := by
  obtain ⟨a, b, c, d, e⟩ := h
  refine ⟨?_, b, fun k' hk' => ?_, d, fun j hj => ?_⟩
  · rw [mI_o _ _ _ (by decide)]
    exact a
  · rw [mI_o _ _ _ (by decide)]
    exact c k' hk'
  · rw [mI_o _ _ _ (by decide)]
    exact e j hj
/-! a refusal, a good answer -/
def rfM (k : Nat) (m : mS) : mS := mI (mF m 0 (-(nI k))) 1 (nI k) (m.2.1 1 k + 1)
theorem negI (x : Int32) : - -x = x := Int32.neg_neg
theorem w_refS {m : mS} {k : Nat} (hk : k < 7) {K : Int32 → mS → Prop} (h : K (-(nI k)) (rfM k m)) : w_refuses (-(nI k)) m K := by
  unfold w_refuses
  intro s1 e1 x hx
  rw [negI] at hx
  subst hx
  have v := vp_in_nI (n := k) (N := 7) hk (by decide)
  refine ⟨v, v, fun s5 e5 => ?_⟩
  rw [mAt_n (by omega), e1] at e5
  rw [e5]
  exact h
theorem rfM_c {m m1 : mS} (h : cE m m1) (k : Nat) : cE (rfM k m) (rfM k m1) := by
  unfold rfM
  rw [show m1.2.1 1 k = m.2.1 1 k from congrFun (h.2 1 (by decide)) k]
  exact cE_I (cE_F h _ _) _ _ _
theorem w_goodS {m : mS} {v : Int32} {K : Int32 → mS → Prop} (h : K v (mF m 0 0)) : w_good v m K := by
  unfold w_good
  intro s1 e1
  rw [e1]
  exact h
theorem w_setS {m : mS} {v : Int32} {K : Int32 → mS → Prop} (h : K v (mF (mF m 33 0) 0 0)) : w_settled v m K := by
  unfold w_settled
  intro s1 e1
  subst e1
  exact w_goodS h
theorem neg_lt {k : Nat} (h1 : 1 ≤ k) (hk : k < 7) : (-(nI k)).toInt = -(k : Int) := by
  have : k = 1 ∨ k = 2 ∨ k = 3 ∨ k = 4 ∨ k = 5 ∨ k = 6 := by omega
  rcases this with rfl | rfl | rfl | rfl | rfl | rfl <;> decide
section OP
variable {N : tP} {s : tM} {L : Nat → Nat} {M O : Nat → Prop} {m : mS}
theorem v_refS (hX : RX N s L M O m) {k : Nat} (h1 : 1 ≤ k) (hk : k < 7) {K : Int32 → tM → Prop} (h : ∀ s', RX N s' L M O (rfM k m) → frM O s s' → K (-(nI k)) s') : v_X0_tell (L 0) (-(nI k)) s K := by
  have hS := hX.S
  have hn := neg_lt h1 hk
  have z0 : (0 : Int32).toInt = 0 := by decide
  have g0 : ¬ 0 < (-(nI k)) := by
    rw [i32_lt, hn, z0]
    omega
  have g1 : ¬ 0 ≤ (-(nI k)) := by
    rw [i32_le, hn, z0]
    omega
  unfold v_X0_tell
  intro x hx
  rw [if_neg g0] at hx
  subst hx
  refine ⟨hS.o (r := 0) rfl, fun s3 e3 => ⟨fun z => absurd z g1, fun _ x6 h6 => ?_⟩⟩
  rw [negI] at h6
  have e9 : tR s (L 0) 9 = L 9 := hS.t (r := 0) (j := 9) (q := 9) (by decide)
  have r9 : tR s3 (L 0) 9 = L 9 := by
    rw [e3]
    exact e9
  have X3 : RX N s3 L M O (mF m 0 (-(nI k))) := by
    rw [e3]
    exact hX.w (r0 := 0) (j0 := 10) (q0 := 60) (i0 := 0) rfl (rd_F _ _ _) (by omega) (invM_F hX.I (by decide) (by decide))
  have x9 : tX s3 0 (L 9) (nI k) := ⟨7, X3.S.a (r := 9) rfl, vp_in_nI (by omega) (by decide)⟩
  rw [r9, h6]
  refine ⟨x9, x9, fun s9 h9 => ?_⟩
  rw [nI_clamp (by omega)] at h9
  have l9 : loc 9 k = some (1, k) := by
    unfold loc
    rw [if_neg (by decide), if_neg (by decide), if_neg (by decide), if_neg (by decide), if_neg (by decide), if_neg (by decide), if_pos rfl, if_pos hk]
  have v9 : tI s3 (L 9) k = m.2.1 1 k := X3.R 9 k 1 k l9
  rw [v9] at h9
  subst h9
  refine h _ (X3.w l9 (rd_I _ _ (by decide) (by omega)) (by omega) (invM_1 X3.I)) ?_
  exact frM_t (by rw [e3]; exact frM_I hX (by decide)) (frM_I X3 (by decide))
theorem v_goodS (hX : RX N s L M O m) {v : Int32} (hv : 0 ≤ v.toInt) {K : Int32 → tM → Prop} (h : ∀ s', RX N s' L M O (mF m 0 0) → frM O s s' → K v s') : v_X0_tell (L 0) v s K := by
  have hS := hX.S
  have z0 : (0 : Int32).toInt = 0 := by decide
  have g1 : 0 ≤ v := by
    rw [i32_le, z0]
    exact hv
  unfold v_X0_tell
  intro x hx
  have hx0 : x = 0 := by
    rw [hx]
    by_cases g : 0 < v
    · rw [if_pos g]
    · rw [if_neg g]
      rw [i32_lt, z0] at g
      exact Int32.toInt_inj.mp (by omega)
  subst hx0
  refine ⟨hS.o (r := 0) rfl, fun s3 e3 => ⟨fun _ => ?_, fun z => absurd g1 z⟩⟩
  subst e3
  exact h _ (hX.w (r0 := 0) (j0 := 10) (q0 := 60) (i0 := 0) rfl (rd_F _ _ _) (by omega) (invM_F hX.I (by decide) (by decide))) (frM_I hX (by decide))
theorem v_hadS (hX : RX N s L M O m) {v : Int32} {K : Int32 → tM → Prop} (h : ∀ s', RX N s' L M O (mF m 0 0) → frM O s s' → K v s') : v_X0_had (L 0) v s K := by
  unfold v_X0_had
  refine ⟨hX.S.o (r := 0) rfl, fun s3 e3 => ?_⟩
  subst e3
  exact h _ (hX.w (r0 := 0) (j0 := 10) (q0 := 60) (i0 := 0) rfl (rd_F _ _ _) (by omega) (invM_F hX.I (by decide) (by decide))) (frM_I hX (by decide))
theorem v_setlS (hX : RX N s L M O m) {v : Int32} (hv : 0 ≤ v.toInt) {K : Int32 → tM → Prop} (h : ∀ s', RX N s' L M O (mF (mF m 33 0) 0 0) → frM O s s' → K v s') : v_X0_settled (L 0) v s K := by
  have hS := hX.S
  have z0 : (0 : Int32).toInt = 0 := by decide
  unfold v_X0_settled
  refine ⟨fun z => ?_, fun _ => ⟨hS.o (r := 0) rfl, ?_⟩⟩
  · rw [i32_lt, z0] at z
    omega
  · rw [hS.t (r := 0) (j := 2) (q := 2) (by decide)]
    refine ⟨hS.o (r := 2) rfl, fun s7 e7 => ?_⟩
    subst e7
    have X7 := hX.u0
    exact v_goodS X7 hv (fun s' x' f' => h s' x' (frM_t (frM_I hX (by decide)) f'))
end OP
