set_option maxRecDepth 100000
/-! ===== the tables and the rests, side by side ===== -/
theorem i64_add {a b : Int64} (h1 : -4000000000000000000 ≤ a.toInt + b.toInt) (h2 : a.toInt + b.toInt ≤ 4000000000000000000) : (a + b).toInt = a.toInt + b.toInt := by
  rw [Int64.toInt_add, Int.bmod_def]
  split <;> omega
theorem far_t : (100000000 : Int32).toInt = 100000000 := by decide
theorem mfar_t : (-100000000 : Int32).toInt = -100000000 := by decide
theorem z32_t : (0 : Int32).toInt = 0 := by decide
theorem o32_t : (1 : Int32).toInt = 1 := by decide
theorem z64_t : (0 : Int64).toInt = 0 := by decide
theorem clampB {top v : Int64} (h : 0 ≤ top.toInt) : 0 ≤ (clamp top v).toInt ∧ (clamp top v).toInt ≤ top.toInt := by
  unfold clamp
  by_cases c : v < 0
  · rw [if_pos c, z64_t]
    omega
  · rw [if_neg c]
    rw [Int64.lt_iff_toInt_lt, z64_t] at c
    by_cases d : top < v
    · rw [if_pos d]
      omega
    · rw [if_neg d]
      rw [Int64.lt_iff_toInt_lt] at d
      omega
theorem tellsB {e : Nat → Int64} {h : Int32} {top : Int64} (ht : 0 ≤ top.toInt) : ∀ (cls : List cL) (a : Int64), 0 ≤ a.toInt ∧ a.toInt ≤ top.toInt → 0 ≤ (tellsL e h top a cls).toInt ∧ (tellsL e h top a cls).toInt ≤ top.toInt
  | [], a, ha => ha
  | c :: cls, a, ha => by
    have e1 : tellsL e h top a (c :: cls) = tellsL e h top (match clOk e h c with
      | none => a
      | some v => clamp top v) cls := rfl
    rw [e1]
    refine tellsB ht cls _ ?_
    cases clOk e h c with
    | none => exact ha
    | some v => exact clampB ht
theorem tellsOB {e : Nat → Int64} {h top wo : Int32} {lw : Option (List cL)} (hw : 0 ≤ wo.toInt ∧ wo.toInt ≤ top.toInt) : 0 ≤ (tellsO e h top wo lw).toInt ∧ (tellsO e h top wo lw).toInt ≤ top.toInt := by
  cases lw with
  | none => exact hw
  | some cls =>
    have ht : (top.toInt64).toInt = top.toInt := Int32.toInt_toInt64 top
    have hwo : (wo.toInt64).toInt = wo.toInt := Int32.toInt_toInt64 wo
    have := tellsB (e := e) (h := h) (top := top.toInt64) (by rw [ht]; omega) cls wo.toInt64 (by rw [ht, hwo]; exact hw)
    rw [ht] at this
    have l : top.toInt ≤ 2147483647 := by
      have h1 := Int32.toInt_le top
      rw [show Int32.maxValue.toInt = 2147483647 by decide] at h1
      exact h1
    have e2 : ((tellsL e h top.toInt64 wo.toInt64 cls).toInt32).toInt = (tellsL e h top.toInt64 wo.toInt64 cls).toInt := by
      rw [Int64.toInt_toInt32, Int.bmod_def]
      split <;> omega
    show 0 ≤ ((tellsL e h top.toInt64 wo.toInt64 cls).toInt32).toInt ∧ ((tellsL e h top.toInt64 wo.toInt64 cls).toInt32).toInt ≤ top.toInt
    rw [e2]
    exact this
theorem prT_B {kp : Nat → Int32} {lw : Option (List cL)} {n b h : Nat} (hb : b < 26) (hh : h < 25) : 0 ≤ (prT kp lw n b h).toInt ∧ (prT kp lw n b h).toInt ≤ 999 := by
  have : 0 ≤ (woC (nI h) (pab b)).toInt ∧ (woC (nI h) (pab b)).toInt ≤ (999 : Int32).toInt := by
    rw [show (999 : Int32).toInt = 999 by decide]
    unfold pab
    by_cases e : b = 0
    · rw [if_pos e]
      show 0 ≤ (0 : Int32).toInt ∧ (0 : Int32).toInt ≤ 999
      rw [z32_t]
      omega
    · rw [if_neg e]
      show 0 ≤ (absI (nI h - nI (b - 1))).toInt ∧ (absI (nI h - nI (b - 1))).toInt ≤ 999
      have t := pk_sub_toInt (a := h) (b := b - 1) (by omega) (by omega)
      unfold absI
      by_cases c : 0 ≤ nI h - nI (b - 1)
      · rw [if_pos c]
        rw [i32_le, z32_t] at c
        omega
      · rw [if_neg c]
        rw [i32_le, z32_t] at c
        have : (-(nI h - nI (b - 1))).toInt = -((nI h - nI (b - 1)).toInt) := by
          rw [Int32.toInt_neg, Int.bmod_def]
          split <;> omega
        rw [this]
        omega
  have r := tellsOB (e := nE kp n (nI h) (pab b)) (h := 1) (lw := lw) this
  rw [show (999 : Int32).toInt = 999 by decide] at r
  exact r
theorem gaT_B {kp : Nat → Int32} {lw : Option (List cL)} {n b h : Nat} : 0 ≤ (gaT kp lw n b h).toInt ∧ (gaT kp lw n b h).toInt ≤ 99 := by
  have r := tellsOB (e := nE kp n (nI h) (pab b)) (h := 2) (top := 99) (wo := 1) (lw := lw) (by decide)
  rw [show (99 : Int32).toInt = 99 by decide] at r
  exact r
theorem dI_B {kp : Nat → Int32} {n h : Nat} : 0 ≤ (dI kp n h).toInt ∧ (dI kp n h).toInt ≤ 1 := by
  unfold dI
  by_cases c : kp n = nI h
  · rw [if_pos c]
    decide
  · rw [if_neg c]
    decide
/-- a place of the voices' table is sound: how many, and what they cost, earn, differ -/
def vOK (B c : Nat) (v : T4) : Prop := ∃ M : Nat, M ≤ B ∧ v.2.2.2.toInt = (M : Int) ∧ ((M = 0 ∧ v.1 = 100000000 ∧ v.2.1 = -100000000 ∧ v.2.2.1 = 100000000) ∨ (0 < M ∧ 0 ≤ v.1.toInt ∧ v.1.toInt ≤ 999 * c ∧ 0 ≤ v.2.1.toInt ∧ v.2.1.toInt ≤ 99 * c ∧ 0 ≤ v.2.2.1.toInt ∧ v.2.2.1.toInt ≤ c))
theorem vOK_z {B c : Nat} {v : T4} (h : vOK B c v) : v.2.2.2 = 0 ↔ v.2.2.2.toInt = 0 := by
  refine ⟨fun z => by rw [z, z64_t], fun z => Int64.toInt_inj.mp (z.trans z64_t.symm)⟩
theorem ini_ok (f : Bool) : vOK 1 0 (ini f) := by
  cases f with
  | true => exact ⟨1, by decide, by decide, Or.inr (by decide)⟩
  | false => exact ⟨0, by decide, by decide, Or.inl ⟨rfl, rfl, rfl, rfl⟩⟩
theorem sS_ok {B B' c : Nat} (hc : c ≤ 12) (hB : B' + B ≤ 4000000000000000000) {g : Bool} {p a d : Int32} {v w : T4} (hv : vOK B c v) (hw : vOK B' (c + 1) w) (hp : g = true → (0 ≤ p.toInt ∧ p.toInt ≤ 999) ∧ 0 ≤ a.toInt ∧ a.toInt ≤ 99) (hd : 0 ≤ d.toInt ∧ d.toInt ≤ 1) : vOK (B' + B) (c + 1) (sS g p a d v w) := by
  have hz := vOK_z hv
  obtain ⟨M, M1, M2, M3⟩ := hv
  obtain ⟨W, W1, W2, W3⟩ := hw
  unfold sS
  by_cases cg : g = true ∧ ¬ v.2.2.2 = 0
  · rw [if_pos cg]
    obtain ⟨⟨p1, p2⟩, a1, a2⟩ := hp cg.1
    have M0 : 0 < M := by
      rw [hz] at cg
      omega
    rcases M3 with ⟨z, -⟩ | ⟨-, v1, v2, v3, v4, v5, v6⟩
    · omega
    have t1 : (p + v.1).toInt = p.toInt + v.1.toInt := i32_add (by omega) (by omega)
    have t2 : (a + v.2.1).toInt = a.toInt + v.2.1.toInt := i32_add (by omega) (by omega)
    have t3 : (d + v.2.2.1).toInt = d.toInt + v.2.2.1.toInt := i32_add (by omega) (by omega)
    have t4 : (w.2.2.2 + v.2.2.2).toInt = ((W + M : Nat) : Int) := by
      rw [i64_add (by omega) (by omega)]
      omega
    refine ⟨W + M, by omega, t4, Or.inr ⟨by omega, ?_⟩⟩
    have r1 : 0 ≤ (if p + v.1 < w.1 then p + v.1 else w.1).toInt ∧ (if p + v.1 < w.1 then p + v.1 else w.1).toInt ≤ 999 * ((c + 1 : Nat) : Int) := by
      by_cases e : p + v.1 < w.1
      · rw [if_pos e, t1]
        omega
      · rw [if_neg e]
        rw [i32_lt, t1] at e
        rcases W3 with ⟨-, w1, -⟩ | ⟨-, w1, w2, -⟩
        · rw [w1, far_t] at e
          omega
        · omega
    have r2 : 0 ≤ (if w.2.1 < a + v.2.1 then a + v.2.1 else w.2.1).toInt ∧ (if w.2.1 < a + v.2.1 then a + v.2.1 else w.2.1).toInt ≤ 99 * ((c + 1 : Nat) : Int) := by
      by_cases e : w.2.1 < a + v.2.1
      · rw [if_pos e, t2]
        omega
      · rw [if_neg e]
        rw [i32_lt, t2] at e
        rcases W3 with ⟨-, -, w1, -⟩ | ⟨-, -, -, w1, w2, -⟩
        · rw [w1, mfar_t] at e
          omega
        · omega
    have r3 : 0 ≤ (if d + v.2.2.1 < w.2.2.1 then d + v.2.2.1 else w.2.2.1).toInt ∧ (if d + v.2.2.1 < w.2.2.1 then d + v.2.2.1 else w.2.2.1).toInt ≤ ((c + 1 : Nat) : Int) := by
      by_cases e : d + v.2.2.1 < w.2.2.1
      · rw [if_pos e, t3]
        omega
      · rw [if_neg e]
        rw [i32_lt, t3] at e
        rcases W3 with ⟨-, -, -, w1⟩ | ⟨-, -, -, -, -, w1, w2⟩
        · rw [w1, far_t] at e
          omega
        · omega
    exact ⟨r1.1, r1.2, r2.1, r2.2, r3.1, r3.2⟩
  · rw [if_neg cg]
    exact ⟨W, by omega, W2, W3⟩
theorem sF_ok {B c : Nat} (hc : c ≤ 12) (hB : 25 * B ≤ 4000000000000000000) {g : Nat → Bool} {p a d : Nat → Int32} {V : Nat → T4} {lo : Nat} : ∀ k, k ≤ 25 → (∀ h, lo ≤ h → h < lo + k → (g h = true → (0 ≤ (p h).toInt ∧ (p h).toInt ≤ 999) ∧ 0 ≤ (a h).toInt ∧ (a h).toInt ≤ 99) ∧ (0 ≤ (d h).toInt ∧ (d h).toInt ≤ 1) ∧ vOK B c (V (h + 1))) → vOK (k * B) (c + 1) (sF g p a d V lo k)
  | 0, _, _ => ⟨0, by omega, z64_t, Or.inl ⟨rfl, rfl, rfl, rfl⟩⟩
  | k + 1, hk, h => by
    have ih := sF_ok hc hB k (by omega) (fun i h1 h2 => h i h1 (by omega))
    obtain ⟨a1, a2, a3⟩ := h (lo + k) (by omega) (by omega)
    have e : (k + 1) * B = k * B + B := Nat.succ_mul k B
    have hl : (k + 1) * B ≤ 25 * B := Nat.mul_le_mul_right B hk
    rw [e]
    exact sS_ok hc (by omega) a3 ih a1 a2
section SV
variable {g : Nat → Nat → Nat → Bool} {p a : Nat → Nat → Nat → Int32} {d : Nat → Nat → Int32} {q lo hi : Nat} {fin : Nat → Bool}
/-- the tables' contents are in their bounds -/
def tbB (g : Nat → Nat → Nat → Bool) (p a : Nat → Nat → Nat → Int32) (d : Nat → Nat → Int32) (q : Nat) : Prop := (∀ n b h, n < q → okB n b → h < 25 → g n b h = true → (0 ≤ (p n b h).toInt ∧ (p n b h).toInt ≤ 999) ∧ 0 ≤ (a n b h).toInt ∧ (a n b h).toInt ≤ 99) ∧ ∀ n h, 0 ≤ (d n h).toInt ∧ (d n h).toInt ≤ 1
theorem p25 {c : Nat} (h : c ≤ 12) : 25 ^ c ≤ 59604644775390625 := Nat.pow_le_pow_right (by decide) h
theorem okQ_n {n h : Nat} (h1 : n + 1 ≤ q) (h2 : h < 25) : okQ q (n + 1) (h + 1) := ⟨by omega, Or.inr (by omega)⟩
theorem sV_ok (hT : tbB g p a d q) (hq : q ≤ 12) (hh : hi < 25) : ∀ c, c ≤ q → ∀ b, okQ q (q - c) b → vOK (25 ^ c) c (sV g p a d q lo hi fin c b)
  | 0, _, b, _ => ini_ok (fin b)
  | c + 1, hc, b, hb => by
    have ob : okB (q - (c + 1)) b := ⟨hb.1, hb.2.resolve_left (by omega)⟩
    have e : 25 ^ (c + 1) = 25 * 25 ^ c := by rw [Nat.pow_succ, Nat.mul_comm]
    have hp := p25 (c := c) (by omega)
    have := sF_ok (B := 25 ^ c) (c := c) (by omega) (by omega) (g := g (q - (c + 1)) b) (p := p (q - (c + 1)) b) (a := a (q - (c + 1)) b) (d := d (q - (c + 1))) (V := fun j => sV g p a d q lo hi fin c j) (lo := lo) (hi + 1 - lo) (by omega) (fun h h1 h2 => ⟨fun z => hT.1 _ _ _ (by omega) ob (by omega) z, hT.2 _ _, ?_⟩)
    · obtain ⟨M, M1, M2⟩ := this
      have hl : (hi + 1 - lo) * 25 ^ c ≤ 25 * 25 ^ c := Nat.mul_le_mul_right _ (by omega)
      exact ⟨M, by omega, M2⟩
    · have := sV_ok hT hq hh c (by omega) (h + 1) (by
        rw [show q - c = q - (c + 1) + 1 by omega]
        exact okQ_n (by omega) (by omega))
      exact this
/-- which one is asked: the costs or how many differ -/
def cmp4 (df : Bool) (v : T4) : Int32 := if df = true then v.2.2.1 else v.1
theorem mLf_x {g : Nat → Bool} {ok : Nat → Prop} {p r x : Nat → Int32} {lo K : Nat} (h0 : x 0 = 100000000) (hs : ∀ k, k < K → (g (lo + k) = true ∧ ok (lo + k) → x (k + 1) = if p (lo + k) + r (lo + k) < x k then p (lo + k) + r (lo + k) else x k) ∧ (¬ (g (lo + k) = true ∧ ok (lo + k)) → x (k + 1) = x k)) (hp : ∀ k, k < K → g (lo + k) = true → 0 ≤ (p (lo + k)).toInt ∧ (p (lo + k)).toInt ≤ 999) (hr : ∀ k, k < K → (ok (lo + k) ∧ 0 ≤ (r (lo + k)).toInt ∧ (r (lo + k)).toInt ≤ 99999) ∨ (¬ ok (lo + k) ∧ r (lo + k) = 100000000)) : ∀ k, k ≤ K → mLf g p r lo k = x k ∧ (x k).toInt ≤ 100000000
  | 0, _ => ⟨h0.symm, by rw [h0, far_t]; omega⟩
  | k + 1, hk => by
    obtain ⟨i1, i2⟩ := mLf_x h0 hs hp hr k (by omega)
    obtain ⟨s1, s2⟩ := hs k (by omega)
    have e : mLf g p r lo (k + 1) = if g (lo + k) = true then lesI (mLf g p r lo k) (p (lo + k) + r (lo + k)) else mLf g p r lo k := rfl
    rw [e, i1]
    by_cases cg : g (lo + k) = true
    · rw [if_pos cg]
      have hp' := hp k (by omega) cg
      rcases hr k (by omega) with ⟨ho, r1, r2⟩ | ⟨ho, r1⟩
      · rw [s1 ⟨cg, ho⟩]
        have t : (p (lo + k) + r (lo + k)).toInt = (p (lo + k)).toInt + (r (lo + k)).toInt := i32_add (by omega) (by omega)
        unfold lesI
        by_cases c1 : p (lo + k) + r (lo + k) < x k
        · rw [if_pos c1, if_pos (by rw [i32_le]; rw [i32_lt] at c1; omega)]
          rw [i32_lt] at c1
          exact ⟨rfl, by omega⟩
        · rw [if_neg c1]
          refine ⟨?_, i2⟩
          by_cases c2 : p (lo + k) + r (lo + k) ≤ x k
          · rw [if_pos c2]
            rw [i32_le] at c2
            rw [i32_lt] at c1
            exact Int32.toInt_inj.mp (by omega)
          · rw [if_neg c2]
      · rw [s2 (fun z => ho z.2)]
        refine ⟨?_, i2⟩
        have rt : (r (lo + k)).toInt = 100000000 := by rw [r1, far_t]
        have t : (p (lo + k) + r (lo + k)).toInt = (p (lo + k)).toInt + (r (lo + k)).toInt := i32_add (by omega) (by omega)
        unfold lesI
        by_cases c2 : p (lo + k) + r (lo + k) ≤ x k
        · rw [if_pos c2]
          rw [i32_le] at c2
          exact Int32.toInt_inj.mp (by omega)
        · rw [if_neg c2]
    · rw [if_neg cg, s2 (fun z => cg z.1)]
      exact ⟨rfl, i2⟩
theorem cmp_s {df : Bool} {g1 : Bool} {p1 a1 d1 : Int32} {v w : T4} (hg : g1 = true ∧ ¬ v.2.2.2 = 0) : cmp4 df (sS g1 p1 a1 d1 v w) = if (if df = true then d1 else p1) + cmp4 df v < cmp4 df w then (if df = true then d1 else p1) + cmp4 df v else cmp4 df w := by
  unfold sS
  rw [if_pos hg]
  cases df with
  | true => rfl
  | false => rfl
theorem cmp_r {B c : Nat} (hc : c ≤ 99) {df : Bool} {v : T4} (h : vOK B c v) : (¬ v.2.2.2 = 0 ∧ 0 ≤ (cmp4 df v).toInt ∧ (cmp4 df v).toInt ≤ 99999) ∨ (¬ ¬ v.2.2.2 = 0 ∧ cmp4 df v = 100000000) := by
  have hz := vOK_z h
  obtain ⟨M, M1, M2, M3⟩ := h
  rcases M3 with ⟨m0, v1, v2, v3⟩ | ⟨m0, v1, v2, v3, v4, v5, v6⟩
  · refine Or.inr ⟨fun z => z (hz.mpr (by omega)), ?_⟩
    cases df with
    | true => exact v3
    | false => exact v1
  · refine Or.inl ⟨fun z => ?_, ?_⟩
    · have := hz.mp z
      omega
    · cases df with
      | true =>
        show 0 ≤ v.2.2.1.toInt ∧ v.2.2.1.toInt ≤ 99999
        omega
      | false =>
        show 0 ≤ v.1.toInt ∧ v.1.toInt ≤ 99999
        omega
theorem cmp_i (df f : Bool) : cmp4 df (ini f) = if f = true then 0 else 100000000 := by cases df <;> cases f <;> rfl
def pdS (df : Bool) (p : Nat → Nat → Nat → Int32) (d : Nat → Nat → Int32) (n b h : Nat) : Int32 := if df = true then d n h else p n b h
theorem mV_x (hT : tbB g p a d q) (hq : q ≤ 12) (hh : hi < 25) (df : Bool) {z : Nat → Int32} (hz : ∀ b, b < 26 → z b = if fin b = true then 0 else 100000000) : ∀ c, c ≤ q → ∀ b, okQ q (q - c) b → mV g (pdS df p d) q lo hi z c b = cmp4 df (sV g p a d q lo hi fin c b)
  | 0, _, b, hb => by
    show z b = cmp4 df (ini (fin b))
    rw [hz b hb.1, cmp_i]
  | c + 1, hc, b, hb => by
    have ob : okB (q - (c + 1)) b := ⟨hb.1, hb.2.resolve_left (by omega)⟩
    have hV : ∀ h, h < 25 → okQ q (q - c) (h + 1) := fun h h1 => by
      rw [show q - c = q - (c + 1) + 1 by omega]
      exact okQ_n (by omega) h1
    have key := mLf_x (g := g (q - (c + 1)) b) (ok := fun h => ¬ (sV g p a d q lo hi fin c (h + 1)).2.2.2 = 0) (p := pdS df p d (q - (c + 1)) b) (r := fun h => cmp4 df (sV g p a d q lo hi fin c (h + 1))) (x := fun k => cmp4 df (sF (g (q - (c + 1)) b) (p (q - (c + 1)) b) (a (q - (c + 1)) b) (d (q - (c + 1))) (fun j => sV g p a d q lo hi fin c j) lo k)) (lo := lo) (K := hi + 1 - lo) (by cases df <;> rfl) (fun k hk => ⟨fun z => ?_, fun z => ?_⟩) (fun k hk z => ?_) (fun k hk => cmp_r (by omega) (sV_ok hT hq hh c (by omega) _ (hV _ (by omega)))) (hi + 1 - lo) (Nat.le_refl _)
    · show mLf (g (q - (c + 1)) b) (pdS df p d (q - (c + 1)) b) (fun j => mV g (pdS df p d) q lo hi z c (j + 1)) lo (hi + 1 - lo) = _
      refine Eq.trans (mLf_c _ (fun h h1 h2 => ⟨rfl, fun _ => rfl, ?_⟩)) key.1
      exact mV_x hT hq hh df hz c (by omega) (h + 1) (hV h (by omega))
    · exact cmp_s z
    · show cmp4 df (sS _ _ _ _ _ _) = _
      unfold sS
      rw [if_neg z]
    · have := hT.1 (q - (c + 1)) b (lo + k) (by omega) ob (by omega) z
      have := hT.2 (q - (c + 1)) (lo + k)
      unfold pdS
      cases df with
      | true =>
        show 0 ≤ (d (q - (c + 1)) (lo + k)).toInt ∧ (d (q - (c + 1)) (lo + k)).toInt ≤ 999
        omega
      | false =>
        show 0 ≤ (p (q - (c + 1)) b (lo + k)).toInt ∧ (p (q - (c + 1)) b (lo + k)).toInt ≤ 999
        omega
/-! a first pitch that is right -/
def scn (ok : Nat → Bool) : Nat → Nat → Nat
  | 0, h => h
  | f + 1, h => if ok h = true then h else scn ok f (h + 1)
theorem scn_f {ok : Nat → Bool} : ∀ f lo, (∃ h, lo ≤ h ∧ h < lo + f ∧ ok h = true) → lo ≤ scn ok f lo ∧ scn ok f lo < lo + f ∧ ok (scn ok f lo) = true ∧ ∀ h, lo ≤ h → h < scn ok f lo → ok h = false
  | 0, lo, ⟨h, h1, h2, _⟩ => by omega
  | f + 1, lo, ⟨h, h1, h2, h3⟩ => by
    have e : scn ok (f + 1) lo = if ok lo = true then lo else scn ok f (lo + 1) := rfl
    rw [e]
    by_cases c : ok lo = true
    · rw [if_pos c]
      exact ⟨Nat.le_refl _, by omega, c, fun i i1 i2 => by omega⟩
    · rw [if_neg c]
      have hne : h ≠ lo := fun z => c (z ▸ h3)
      obtain ⟨a1, a2, a3, a4⟩ := scn_f f (lo + 1) ⟨h, by omega, by omega, h3⟩
      refine ⟨by omega, by omega, a3, fun i i1 i2 => ?_⟩
      by_cases ei : i = lo
      · rw [ei]
        exact Bool.eq_false_iff.mpr c
      · exact a4 i (by omega) i2
theorem sF_at {B c : Nat} (hc : c ≤ 12) (hB : 25 * B ≤ 4000000000000000000) {g : Nat → Bool} {p a d : Nat → Int32} {V : Nat → T4} {lo : Nat} (df : Bool) : ∀ k, k ≤ 25 → (∀ h, lo ≤ h → h < lo + k → (g h = true → (0 ≤ (p h).toInt ∧ (p h).toInt ≤ 999) ∧ 0 ≤ (a h).toInt ∧ (a h).toInt ≤ 99) ∧ (0 ≤ (d h).toInt ∧ (d h).toInt ≤ 1) ∧ vOK B c (V (h + 1))) → ¬ (sF g p a d V lo k).2.2.2 = 0 → ∃ h, lo ≤ h ∧ h < lo + k ∧ g h = true ∧ ¬ (V (h + 1)).2.2.2 = 0 ∧ (if df = true then d h else p h) + cmp4 df (V (h + 1)) = cmp4 df (sF g p a d V lo k)
  | 0, _, _, hz => absurd rfl hz
  | k + 1, hk, h, hz => by
    have hk' : ∀ i, lo ≤ i → i < lo + k → (g i = true → (0 ≤ (p i).toInt ∧ (p i).toInt ≤ 999) ∧ 0 ≤ (a i).toInt ∧ (a i).toInt ≤ 99) ∧ (0 ≤ (d i).toInt ∧ (d i).toInt ≤ 1) ∧ vOK B c (V (i + 1)) := fun i h1 h2 => h i h1 (by omega)
    have ok1 := sF_ok hc hB k (by omega) hk'
    have ih := sF_at hc hB df k (by omega) hk'
    obtain ⟨b1, b2, b3⟩ := h (lo + k) (by omega) (by omega)
    have e : sF g p a d V lo (k + 1) = sS (g (lo + k)) (p (lo + k)) (a (lo + k)) (d (lo + k)) (V (lo + k + 1)) (sF g p a d V lo k) := rfl
    by_cases cg : g (lo + k) = true ∧ ¬ (V (lo + k + 1)).2.2.2 = 0
    · have e2 : cmp4 df (sF g p a d V lo (k + 1)) = if (if df = true then d (lo + k) else p (lo + k)) + cmp4 df (V (lo + k + 1)) < cmp4 df (sF g p a d V lo k) then (if df = true then d (lo + k) else p (lo + k)) + cmp4 df (V (lo + k + 1)) else cmp4 df (sF g p a d V lo k) := by rw [e]; exact cmp_s cg
      by_cases cl : (if df = true then d (lo + k) else p (lo + k)) + cmp4 df (V (lo + k + 1)) < cmp4 df (sF g p a d V lo k)
      · rw [if_pos cl] at e2
        exact ⟨lo + k, by omega, by omega, cg.1, cg.2, e2.symm⟩
      · rw [if_neg cl] at e2
        have nz : ¬ (sF g p a d V lo k).2.2.2 = 0 := fun z => by
          have rr := (cmp_r (df := df) (by omega) b3).resolve_right (fun w => w.1 cg.2)
          have r2 := (cmp_r (B := k * B) (c := c + 1) (df := df) (v := sF g p a d V lo k) (by
            have := hc
            omega) ok1)
          rcases r2 with r2 | r2
          · exact r2.1 z
          · have t : ((if df = true then d (lo + k) else p (lo + k)) + cmp4 df (V (lo + k + 1))).toInt = (if df = true then d (lo + k) else p (lo + k)).toInt + (cmp4 df (V (lo + k + 1))).toInt := by
              have := (b1 cg.1).1
              refine i32_add ?_ ?_
              · cases df with
                | true =>
                  show _ ≤ (d (lo + k)).toInt + _
                  omega
                | false =>
                  show _ ≤ (p (lo + k)).toInt + _
                  omega
              · cases df with
                | true =>
                  show (d (lo + k)).toInt + _ ≤ _
                  omega
                | false =>
                  show (p (lo + k)).toInt + _ ≤ _
                  omega
            rw [i32_lt, t, r2.2, far_t] at cl
            have := (b1 cg.1).1
            cases df with
            | true =>
              have cl' : ¬ (d (lo + k)).toInt + (cmp4 true (V (lo + k + 1))).toInt < 100000000 := cl
              omega
            | false =>
              have cl' : ¬ (p (lo + k)).toInt + (cmp4 false (V (lo + k + 1))).toInt < 100000000 := cl
              omega
        obtain ⟨i, i1, i2, i3⟩ := ih nz
        refine ⟨i, i1, by omega, ?_⟩
        rw [e2]
        exact i3
    · have e2 : sF g p a d V lo (k + 1) = sF g p a d V lo k := by
        rw [e]
        unfold sS
        rw [if_neg cg]
      rw [e2] at hz ⊢
      obtain ⟨i, i1, i2, i3⟩ := ih hz
      exact ⟨i, i1, by omega, i3⟩
/-- which pitch is right behind b -/
def okP (df : Bool) (g : Nat → Nat → Nat → Bool) (p a : Nat → Nat → Nat → Int32) (d : Nat → Nat → Int32) (q lo hi : Nat) (fin : Nat → Bool) (n b h : Nat) : Bool := g n b h && (!decide ((sV g p a d q lo hi fin (q - (n + 1)) (h + 1)).2.2.2 = 0) && decide (pdS df p d n b h + cmp4 df (sV g p a d q lo hi fin (q - (n + 1)) (h + 1)) = cmp4 df (sV g p a d q lo hi fin (q - n) b)))
def pth (df : Bool) (g : Nat → Nat → Nat → Bool) (p a : Nat → Nat → Nat → Int32) (d : Nat → Nat → Int32) (q lo hi : Nat) (fin : Nat → Bool) : Nat → Nat
  | 0 => 0
  | n + 1 => scn (okP df g p a d q lo hi fin n (pth df g p a d q lo hi fin n)) (hi + 1 - lo) lo + 1
theorem pth_ok (hT : tbB g p a d q) (hq : q ≤ 12) (hh : hi < 25) (df : Bool) (h0 : ¬ (sV g p a d q lo hi fin q 0).2.2.2 = 0) : ∀ n, n ≤ q → okQ q n (pth df g p a d q lo hi fin n) ∧ ¬ (sV g p a d q lo hi fin (q - n) (pth df g p a d q lo hi fin n)).2.2.2 = 0 ∧ (n < q → okB n (pth df g p a d q lo hi fin n) ∧ ∃ h1, pth df g p a d q lo hi fin (n + 1) = h1 + 1 ∧ lo ≤ h1 ∧ h1 ≤ hi ∧ okP df g p a d q lo hi fin n (pth df g p a d q lo hi fin n) h1 = true ∧ ∀ h, lo ≤ h → h < h1 → okP df g p a d q lo hi fin n (pth df g p a d q lo hi fin n) h = false) := by
  intro n
  have step : ∀ n, n < q → okQ q n (pth df g p a d q lo hi fin n) → ¬ (sV g p a d q lo hi fin (q - n) (pth df g p a d q lo hi fin n)).2.2.2 = 0 → okB n (pth df g p a d q lo hi fin n) ∧ ∃ h1, pth df g p a d q lo hi fin (n + 1) = h1 + 1 ∧ lo ≤ h1 ∧ h1 ≤ hi ∧ okP df g p a d q lo hi fin n (pth df g p a d q lo hi fin n) h1 = true ∧ ∀ h, lo ≤ h → h < h1 → okP df g p a d q lo hi fin n (pth df g p a d q lo hi fin n) h = false := fun n hn ho hz => by
    generalize hb : pth df g p a d q lo hi fin n = b at ho hz
    have ob : okB n b := ⟨ho.1, ho.2.resolve_left (by omega)⟩
    refine ⟨ob, scn (okP df g p a d q lo hi fin n b) (hi + 1 - lo) lo, ?_, ?_⟩
    · show scn (okP df g p a d q lo hi fin n (pth df g p a d q lo hi fin n)) (hi + 1 - lo) lo + 1 = _
      rw [hb]
    · have e1 : q - n = q - (n + 1) + 1 := by omega
      rw [e1] at hz
      have e2 : q - (q - (n + 1) + 1) = n := by omega
      have hz2 : ¬ (sF (g n b) (p n b) (a n b) (d n) (fun j => sV g p a d q lo hi fin (q - (n + 1)) j) lo (hi + 1 - lo)).2.2.2 = 0 := by
        have : sV g p a d q lo hi fin (q - (n + 1) + 1) b = sF (g (q - (q - (n + 1) + 1)) b) (p (q - (q - (n + 1) + 1)) b) (a (q - (q - (n + 1) + 1)) b) (d (q - (q - (n + 1) + 1))) (fun j => sV g p a d q lo hi fin (q - (n + 1)) j) lo (hi + 1 - lo) := rfl
        rw [e2] at this
        rw [← this]
        exact hz
      have hp := p25 (c := q - (n + 1)) (by omega)
      obtain ⟨h, i1, i2, i3, i4, i5⟩ := sF_at (B := 25 ^ (q - (n + 1))) (c := q - (n + 1)) (by omega) (by omega) df (hi + 1 - lo) (by omega) (fun h h1 h2 => ⟨fun z => hT.1 _ _ _ (by omega) ob (by omega) z, hT.2 _ _, sV_ok hT hq hh _ (by omega) (h + 1) (by
        rw [show q - (q - (n + 1)) = n + 1 by omega]
        exact okQ_n (by omega) (by omega))⟩) hz2
      have := scn_f (ok := okP df g p a d q lo hi fin n b) (hi + 1 - lo) lo ⟨h, i1, i2, ?_⟩
      · obtain ⟨s1, s2, s3, s4⟩ := this
        exact ⟨s1, by omega, s3, s4⟩
      · unfold okP
        rw [i3, decide_eq_false i4, e1]
        have : sV g p a d q lo hi fin (q - (n + 1) + 1) b = sF (g (q - (q - (n + 1) + 1)) b) (p (q - (q - (n + 1) + 1)) b) (a (q - (q - (n + 1) + 1)) b) (d (q - (q - (n + 1) + 1))) (fun j => sV g p a d q lo hi fin (q - (n + 1)) j) lo (hi + 1 - lo) := rfl
        rw [e2] at this
        rw [this]
        have i5' : pdS df p d n b h + cmp4 df (sV g p a d q lo hi fin (q - (n + 1)) (h + 1)) = cmp4 df (sF (g n b) (p n b) (a n b) (d n) (fun j => sV g p a d q lo hi fin (q - (n + 1)) j) lo (hi + 1 - lo)) := i5
        rw [decide_eq_true i5']
        rfl
  induction n with
  | zero =>
    intro _
    have o0 : okQ q 0 (pth df g p a d q lo hi fin 0) := ⟨by show 0 < 26; omega, Or.inr ⟨fun _ => rfl, fun _ => rfl⟩⟩
    exact ⟨o0, h0, fun hn => step 0 hn o0 h0⟩
  | succ n ih =>
    intro hn
    obtain ⟨-, -, k3⟩ := ih (by omega)
    obtain ⟨-, h1, e1, l1, l2, k4, -⟩ := k3 (by omega)
    have o1 : okQ q (n + 1) (pth df g p a d q lo hi fin (n + 1)) := by
      rw [e1]
      exact okQ_n hn (by omega)
    have z1 : ¬ (sV g p a d q lo hi fin (q - (n + 1)) (pth df g p a d q lo hi fin (n + 1))).2.2.2 = 0 := by
      rw [e1]
      unfold okP at k4
      simp only [Bool.and_eq_true, Bool.not_eq_true', decide_eq_false_iff_not] at k4
      exact k4.2.1
    exact ⟨o1, z1, fun hn2 => step (n + 1) hn2 o1 z1⟩
end SV
