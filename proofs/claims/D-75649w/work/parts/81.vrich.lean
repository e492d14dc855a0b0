set_option maxRecDepth 100000
/-! ===== richest, ways ===== -/
def mMf (g : Nat → Bool) (a r : Nat → Int32) (lo : Nat) : Nat → Int32
  | 0 => -100000000
  | k + 1 => if g (lo + k) = true then maxI (mMf g a r lo k) (a (lo + k) + r (lo + k)) else mMf g a r lo k
def mMV (g : Nat → Nat → Nat → Bool) (a : Nat → Nat → Nat → Int32) (q lo hi : Nat) : Nat → Nat → Int32
  | 0, _ => 0
  | c + 1, b => mMf (g (q - (c + 1)) b) (a (q - (c + 1)) b) (fun j => mMV g a q lo hi c (j + 1)) lo (hi + 1 - lo)
def mWf (g : Nat → Bool) (r : Nat → Int64) (lo : Nat) : Nat → Int64
  | 0 => 0
  | k + 1 => if g (lo + k) = true then mWf g r lo k + r (lo + k) else mWf g r lo k
def mWV (g : Nat → Nat → Nat → Bool) (q lo hi : Nat) : Nat → Nat → Int64
  | 0, _ => 1
  | c + 1, b => mWf (g (q - (c + 1)) b) (fun j => mWV g q lo hi c (j + 1)) lo (hi + 1 - lo)
def mxR (c : Nat) (v : T4) (x : Int32) : Prop := (¬ v.2.2.2 = 0 → x = v.2.1) ∧ (v.2.2.2 = 0 → -100000000 ≤ x.toInt ∧ x.toInt ≤ -100000000 + 99 * c)
theorem mxS {B B' c : Nat} (hc : c ≤ 12) (hB : B' + B ≤ 4000000000000000000) {g : Bool} {p a d r x : Int32} {v w : T4} (hv : vOK B c v) (hw : vOK B' (c + 1) w) (ha : g = true → (0 ≤ p.toInt ∧ p.toInt ≤ 999) ∧ 0 ≤ a.toInt ∧ a.toInt ≤ 99) (hd : 0 ≤ d.toInt ∧ d.toInt ≤ 1) (hr : mxR c v r) (hx : mxR (c + 1) w x) : mxR (c + 1) (sS g p a d v w) (if g = true then maxI x (a + r) else x) := by
  have hz := vOK_z hv
  have hzw := vOK_z hw
  have hs := vOK_z (sS_ok hc hB hv hw ha hd)
  obtain ⟨M, M1, M2, M3⟩ := hv
  obtain ⟨W, W1, W2, W3⟩ := hw
  obtain ⟨r1, r2⟩ := hr
  obtain ⟨x1, x2⟩ := hx
  by_cases cg : g = true
  · rw [if_pos cg]
    obtain ⟨-, a1, a2⟩ := ha cg
    by_cases cv : v.2.2.2 = 0
    · have e : sS g p a d v w = w := by
        unfold sS
        rw [if_neg (fun z => z.2 cv)]
      rw [e]
      obtain ⟨b1, b2⟩ := r2 cv
      have t : (a + r).toInt = a.toInt + r.toInt := i32_add (by omega) (by omega)
      refine ⟨fun z => ?_, fun z => ?_⟩
      · have ex := x1 z
        have w0 : W ≠ 0 := fun y => z (hzw.mpr (by omega))
        have wb : 0 ≤ w.2.1.toInt := by
          rcases W3 with ⟨y, -⟩ | ⟨-, -, -, y, -⟩
          · omega
          · exact y
        unfold maxI
        rw [if_neg (by rw [i32_lt, ex]; omega)]
        exact ex
      · obtain ⟨y1, y2⟩ := x2 z
        unfold maxI
        by_cases cl : x < a + r
        · rw [if_pos cl, t]
          omega
        · rw [if_neg cl]
          exact ⟨y1, y2⟩
    · have e : sS g p a d v w = (if p + v.1 < w.1 then p + v.1 else w.1, if w.2.1 < a + v.2.1 then a + v.2.1 else w.2.1, if d + v.2.2.1 < w.2.2.1 then d + v.2.2.1 else w.2.2.1, w.2.2.2 + v.2.2.2) := by
        unfold sS
        rw [if_pos ⟨cg, cv⟩]
      have m0 : M ≠ 0 := fun y => cv (hz.mpr (by omega))
      obtain ⟨-, -, -, v3, v4', -⟩ := M3.resolve_left (fun y => m0 y.1)
      have t4 : (w.2.2.2 + v.2.2.2).toInt = ((W + M : Nat) : Int) := by
        rw [i64_add (by omega) (by omega)]
        omega
      rw [r1 cv]
      have t : (a + v.2.1).toInt = a.toInt + v.2.1.toInt := i32_add (by omega) (by omega)
      have nz : ¬ (sS g p a d v w).2.2.2 = 0 := fun y => by
        have y2 := hs.mp y
        rw [e] at y2
        have y3 : (w.2.2.2 + v.2.2.2).toInt = 0 := y2
        omega
      refine ⟨fun _ => ?_, fun y => absurd y nz⟩
      rw [e]
      show maxI x (a + v.2.1) = if w.2.1 < a + v.2.1 then a + v.2.1 else w.2.1
      by_cases cw : w.2.2.2 = 0
      · obtain ⟨y1, y2⟩ := x2 cw
        have w0 : W = 0 := by
          have := hzw.mp cw
          omega
        obtain ⟨-, -, w1, -⟩ := W3.resolve_right (fun y => by omega)
        unfold maxI
        rw [if_pos (by rw [i32_lt, t]; omega), if_pos (by rw [i32_lt, t, w1, mfar_t]; omega)]
      · rw [x1 cw]
        rfl
  · rw [if_neg cg]
    have e : sS g p a d v w = w := by
      unfold sS
      rw [if_neg (fun z => cg z.1)]
    rw [e]
    exact ⟨x1, x2⟩
section MX
variable {g : Nat → Nat → Nat → Bool} {p a : Nat → Nat → Nat → Int32} {d : Nat → Nat → Int32} {q lo hi : Nat}
theorem mMV_x (hT : tbB g p a d q) (hq : q ≤ 12) (hh : hi < 25) : ∀ c, c ≤ q → ∀ b, okQ q (q - c) b → mxR c (sV g p a d q lo hi (fnI (-1)) c b) (mMV g a q lo hi c b)
  | 0, _, b, _ => by
    show mxR 0 (ini (fnI (-1) b)) 0
    rw [fnI_m]
    exact ⟨fun _ => rfl, fun z => absurd z (by decide)⟩
  | c + 1, hc, b, hb => by
    have ob : okB (q - (c + 1)) b := ⟨hb.1, hb.2.resolve_left (by omega)⟩
    have hV : ∀ h, h < 25 → okQ q (q - c) (h + 1) := fun h h1 => by
      rw [show q - c = q - (c + 1) + 1 by omega]
      exact okQ_n (by omega) h1
    have hp := p25 (c := c) (by omega)
    have cells : ∀ h, lo ≤ h → h < lo + (hi + 1 - lo) → (g (q - (c + 1)) b h = true → (0 ≤ (p (q - (c + 1)) b h).toInt ∧ (p (q - (c + 1)) b h).toInt ≤ 999) ∧ 0 ≤ (a (q - (c + 1)) b h).toInt ∧ (a (q - (c + 1)) b h).toInt ≤ 99) ∧ (0 ≤ (d (q - (c + 1)) h).toInt ∧ (d (q - (c + 1)) h).toInt ≤ 1) ∧ vOK (25 ^ c) c (sV g p a d q lo hi (fnI (-1)) c (h + 1)) := fun h h1 h2 => ⟨fun z => hT.1 _ _ _ (by omega) ob (by omega) z, hT.2 _ _, sV_ok hT hq hh c (by omega) (h + 1) (hV h (by omega))⟩
    have key : ∀ k, k ≤ hi + 1 - lo → mxR (c + 1) (sF (g (q - (c + 1)) b) (p (q - (c + 1)) b) (a (q - (c + 1)) b) (d (q - (c + 1))) (fun j => sV g p a d q lo hi (fnI (-1)) c j) lo k) (mMf (g (q - (c + 1)) b) (a (q - (c + 1)) b) (fun j => mMV g a q lo hi c (j + 1)) lo k) := by
      intro k
      induction k with
      | zero =>
        intro _
        refine ⟨fun z => absurd rfl z, fun _ => ?_⟩
        show -100000000 ≤ (-100000000 : Int32).toInt ∧ (-100000000 : Int32).toInt ≤ _
        rw [mfar_t]
        omega
      | succ k ih =>
        intro hk
        obtain ⟨b1, b2, b3⟩ := cells (lo + k) (by omega) (by omega)
        have hl : k * 25 ^ c ≤ 24 * 25 ^ c := Nat.mul_le_mul_right _ (by omega)
        exact mxS (B' := k * 25 ^ c) (by omega) (by omega) b3 (sF_ok (by omega) (by omega) k (by omega) (fun h h1 h2 => cells h h1 (by omega))) b1 b2 (mMV_x hT hq hh c (by omega) (lo + k + 1) (hV _ (by omega))) (ih (by omega))
    exact key _ (Nat.le_refl _)
theorem mWV_x : ∀ c b, mWV g q lo hi c b = (sV g p a d q lo hi (fnI (-1)) c b).2.2.2
  | 0, b => by
    show 1 = (ini (fnI (-1) b)).2.2.2
    rw [fnI_m]
    rfl
  | c + 1, b => by
    have key : ∀ k, mWf (g (q - (c + 1)) b) (fun j => mWV g q lo hi c (j + 1)) lo k = (sF (g (q - (c + 1)) b) (p (q - (c + 1)) b) (a (q - (c + 1)) b) (d (q - (c + 1))) (fun j => sV g p a d q lo hi (fnI (-1)) c j) lo k).2.2.2 := by
      intro k
      induction k with
      | zero => rfl
      | succ k ih =>
        have e1 : mWf (g (q - (c + 1)) b) (fun j => mWV g q lo hi c (j + 1)) lo (k + 1) = if g (q - (c + 1)) b (lo + k) = true then mWf (g (q - (c + 1)) b) (fun j => mWV g q lo hi c (j + 1)) lo k + mWV g q lo hi c (lo + k + 1) else mWf (g (q - (c + 1)) b) (fun j => mWV g q lo hi c (j + 1)) lo k := rfl
        rw [e1, ih, mWV_x c (lo + k + 1)]
        show _ = (sS (g (q - (c + 1)) b (lo + k)) _ _ _ (sV g p a d q lo hi (fnI (-1)) c (lo + k + 1)) _).2.2.2
        unfold sS
        by_cases cg : g (q - (c + 1)) b (lo + k) = true
        · rw [if_pos cg]
          by_cases cv : (sV g p a d q lo hi (fnI (-1)) c (lo + k + 1)).2.2.2 = 0
          · rw [if_neg (fun z => z.2 cv), cv, Int64.add_zero]
          · rw [if_pos ⟨cg, cv⟩]
        · rw [if_neg cg, if_neg (fun z => cg z.1)]
    exact key _
end MX
section RW2
variable {N : Nat × Nat} {m : mS} {lw : Option (List cL)}
theorem mMf_c {g : Nat → Bool} {p r r' : Nat → Int32} {lo : Nat} : ∀ k, (∀ h, lo ≤ h → h < lo + k → r h = r' h) → mMf g p r lo k = mMf g p r' lo k
  | 0, _ => rfl
  | k + 1, h => by
    have ih := mMf_c (g := g) (p := p) k (fun i h1 h2 => h i h1 (by omega))
    show (if g (lo + k) = true then maxI (mMf g p r lo k) (p (lo + k) + r (lo + k)) else mMf g p r lo k) = (if g (lo + k) = true then maxI (mMf g p r' lo k) (p (lo + k) + r' (lo + k)) else mMf g p r' lo k)
    rw [ih, h (lo + k) (by omega) (by omega)]
theorem w_mf13 {n b lo hi : Nat} (hn : n < 12) (hb : b < 26) (hh : hi < 25) (hl : lo < 25) (hhv : m.2.1 2 40 = nI hi) {g : Nat → Bool} {P : Nat → Int32} {r : Nat → Int32} (hg : ∀ h, lo ≤ h → h ≤ hi → m.2.1 36 (mix n b h) = bI (g h) ∧ (g h = true → m.2.1 35 (mix n b h) = P h) ∧ m.2.1 37 (25 * n + h) = r h) {Kr K : Int32 → mS → Prop} (hK : K (mMf g P r lo (hi + 1 - lo)) m) : ∀ (c t k : Nat), k + c = hi + 1 - lo → c < t → w_mostFrom_13 N (nI n) (nI (b - 1)) Kr K t (mMf g P r lo k) (nI (lo + k)) m
  | _, 0, _, _, h => absurd h (Nat.not_lt_zero _)
  | 0, t + 1, k, hk, _ => by
    unfold w_mostFrom_13
    rw [show mAt m 2 40 = nI hi from (mAt_n (k := 40) (by decide)).trans hhv, nI_ltI (by omega) (by omega)]
    have e : k = hi + 1 - lo := by omega
    rw [e]
    exact ⟨vpk (k := 40) (by decide) (by decide), fun _ => hK, fun z => absurd (by omega) z⟩
  | c + 1, t + 1, k, hk, ht => by
    have next := w_mf13 hn hb hh hl hhv hg hK (Kr := Kr) c t (k + 1) (by omega) (by omega)
    have e : mMf g P r lo (k + 1) = if g (lo + k) = true then maxI (mMf g P r lo k) (P (lo + k) + r (lo + k)) else mMf g P r lo k := rfl
    rw [e] at next
    obtain ⟨g1, g2, g3⟩ := hg (lo + k) (by omega) (by omega)
    have ml := mix_l hn hb (h := lo + k) (by omega)
    unfold w_mostFrom_13 w_noteAt
    dsimp only
    rw [show mAt m 2 40 = nI hi from (mAt_n (k := 40) (by decide)).trans hhv, nI_ltI (by omega) (by omega), mix_e, mAt_n (by omega), mAt_n (by omega), r25_e, mAt_n (by omega), g1, g3]
    refine ⟨vpk (k := 40) (by decide) (by decide), fun z => by omega, fun _ => ⟨vpk ml (by decide), bI_c (fun z y hy => ?_) (fun z => ⟨vpk ml (by decide), vpk (by omega) (by decide), ?_⟩)⟩⟩
    · rw [z, if_neg (by decide)] at next
      rw [hy, nI_1]
      exact next
    · rw [g2 z]
      refine w_greaterS (fun y hy => ?_)
      rw [if_pos z] at next
      rw [hy, nI_1]
      exact next
theorem w_mostFromS (hN : 402 ≤ N.1) {n b lo hi : Nat} (hn : n < 12) (hb : b < 26) (hh : hi < 25) (hl : lo < 25) (hlv : m.2.1 2 39 = nI lo) (hhv : m.2.1 2 40 = nI hi) {g : Nat → Bool} {P : Nat → Int32} {r : Nat → Int32} (hg : ∀ h, lo ≤ h → h ≤ hi → m.2.1 36 (mix n b h) = bI (g h) ∧ (g h = true → m.2.1 35 (mix n b h) = P h) ∧ m.2.1 37 (25 * n + h) = r h) {K : Int32 → mS → Prop} (hK : K (mMf g P r lo (hi + 1 - lo)) m) : w_mostFrom N (nI n) (nI (b - 1)) m K := by
  unfold w_mostFrom
  refine ⟨vpk (k := 39) (by decide) (by decide), fun y hy => ?_⟩
  rw [hy, show mAt m 2 39 = nI lo from (mAt_n (k := 39) (by decide)).trans hlv]
  exact w_mf13 (K := fun x101 s102 => K x101 s102) hn hb hh hl hhv hg hK (hi + 1 - lo) N.1 0 (by omega) (by omega)
def gpM (q : Nat) (G : Nat → Nat → Nat → Bool) (P : Nat → Nat → Nat → Int32) (m : mS) : Prop := ∀ n b h, n < q → okB n b → h < 25 → m.2.1 36 (mix n b h) = bI (G n b h) ∧ (G n b h = true → m.2.1 35 (mix n b h) = P n b h)
theorem w_ri32 (hN : 402 ≤ N.1) {q n lo hi : Nat} (hq : q ≤ 12) (hn : n < q) (hqv : m.2.1 2 41 = nI q) (hh : hi < 25) (hl : lo < 25) (hlv : m.2.1 2 39 = nI lo) (hhv : m.2.1 2 40 = nI hi) {G : Nat → Nat → Nat → Bool} {P : Nat → Nat → Nat → Int32} (hG : gpM q G P m) {Kr : Int32 → mS → Prop} {K : mS → Prop} (hr : n + 1 < q → ∀ h, lo ≤ h → h ≤ hi → m.2.1 37 (25 * (n + 1) + h) = mMV G P q lo hi (q - (n + 2)) (h + 1)) (hK : ∀ m2, mD [] [37] [] m m2 → (∀ j, ¬ (25 * n + lo ≤ j ∧ j < 25 * n + 25) → m2.2.1 37 j = m.2.1 37 j) → (∀ h, lo ≤ h → h ≤ hi → m2.2.1 37 (25 * n + h) = mMV G P q lo hi (q - (n + 1)) (h + 1)) → K m2) : ∀ (c t k : Nat) (m1 : mS), mD [] [37] [] m m1 → (∀ j, ¬ (25 * n + lo ≤ j ∧ j < 25 * n + 25) → m1.2.1 37 j = m.2.1 37 j) → (∀ h, lo ≤ h → h < lo + k → h ≤ hi → m1.2.1 37 (25 * n + h) = mMV G P q lo hi (q - (n + 1)) (h + 1)) → k + c = hi + 1 - lo → c < t → w_richest_32 N (nI n) Kr K t (nI (lo + k)) m1
  | _, 0, _, _, _, _, _, _, h => absurd h (Nat.not_lt_zero _)
  | 0, t + 1, k, m1, j1, j2, j3, hk, _ => by
    unfold w_richest_32
    have k1 : m1.2.1 2 = m.2.1 2 := j1.2.1 2 (by decide)
    rw [show mAt m1 2 40 = nI hi from (mAt_n (k := 40) (by decide)).trans (by rw [k1]; exact hhv), nI_ltI (by omega) (by omega)]
    exact ⟨vpk (k := 40) (by decide) (by decide), fun _ => hK m1 j1 j2 (fun h z1 z2 => j3 h z1 (by omega) z2), fun z => absurd (by omega) z⟩
  | c + 1, t + 1, k, m1, j1, j2, j3, hk, ht => by
    have k1 : m1.2.1 2 = m.2.1 2 := j1.2.1 2 (by decide)
    have fin : ∀ v, v = mMV G P q lo hi (q - (n + 1)) (lo + k + 1) → ∀ m2, m2 = mI m1 37 (nI (25 * n + (lo + k))) v → ∀ y : Int32, y = nI (lo + k) + 1 → w_richest_32 N (nI n) Kr K t y m2 := fun v hv m2 e2 y hy => by
      rw [hy, nI_1]
      have at2 : ∀ j, m2.2.1 37 j = if j = 25 * n + (lo + k) then v else m1.2.1 37 j := fun j => by
        rw [e2]
        exact mI_at _ _ _ (by omega) j
      refine w_ri32 hN hq hn hqv hh hl hlv hhv hG hr hK c t (k + 1) m2 (mD_t j1 (by rw [e2]; exact mD_I m1 _ _ (by decide))) (fun j hj => ?_) (fun h z1 z2 z3 => ?_) (by omega) (by omega)
      · rw [at2, if_neg (by omega)]
        exact j2 j hj
      · rw [at2]
        by_cases e : h = lo + k
        · rw [e, if_pos rfl, hv]
        · rw [if_neg (by omega)]
          exact j3 h z1 (by omega) z3
    have eq1 : nI n = nI q - 1 ↔ n + 1 = q := by
      rw [show nI q - 1 = nI (q - 1) from pk_sub (b := 1) (by omega), nI_eq (by omega) (by omega)]
      omega
    unfold w_richest_32
    rw [show mAt m1 2 40 = nI hi from (mAt_n (k := 40) (by decide)).trans (by rw [k1]; exact hhv), nI_ltI (by omega) (by omega)]
    refine ⟨vpk (k := 40) (by decide) (by decide), fun z => by omega, fun _ => w_manyS (v := nI q) (by rw [k1]; exact hqv) ?_⟩
    rw [eq1, nI_1, r25_e]
    refine ⟨fun ne => ?_, fun e => ⟨vpk (by omega) (by decide), fin 0 ?_⟩⟩
    · have hb : nI (lo + k) = nI (lo + k + 1 - 1) := by rw [Nat.add_sub_cancel]
      have := w_mostFromS (N := N) (m := m1) hN (n := n + 1) (b := lo + k + 1) (by omega) (by omega) hh hl (by rw [k1]; exact hlv) (by rw [k1]; exact hhv) (g := G (n + 1) (lo + k + 1)) (P := P (n + 1) (lo + k + 1)) (r := fun h => mMV G P q lo hi (q - (n + 2)) (h + 1)) (fun h z1 z2 => ?_) (K := fun x105 s106 => (vp_in (nI (25 * n + (lo + k))) 300 ∧ (∀ s108 : mS, s108 = mI s106 37 (nI (25 * n + (lo + k))) x105 → (∀ x109 : Int32, x109 = nI (lo + k) + 1 → w_richest_32 N (nI n) Kr K t x109 s108)))) ⟨vpk (by omega) (by decide), fin _ ?_⟩
      · rw [← hb] at this
        exact this
      · obtain ⟨a1, a2⟩ := hG (n + 1) (lo + k + 1) h (by omega) ⟨by omega, by omega⟩ (by omega)
        refine ⟨(by rw [j1.2.1 36 (by decide)]; exact a1), (fun z => by rw [j1.2.1 35 (by decide)]; exact a2 z), ?_⟩
        rw [j2 _ (by omega)]
        exact hr (by omega) h z1 z2
      · rw [show q - (n + 1) = q - (n + 2) + 1 by omega]
        show _ = mMf (G (q - (q - (n + 2) + 1)) (lo + k + 1)) (P (q - (q - (n + 2) + 1)) (lo + k + 1)) _ _ _
        rw [show q - (q - (n + 2) + 1) = n + 1 by omega]
    · rw [e, Nat.sub_self]
      rfl
theorem w_ri20 (hN : 402 ≤ N.1) {q lo hi : Nat} (hq : q ≤ 12) (hqv : m.2.1 2 41 = nI q) (hh : hi < 25) (hl : lo < 25) (hlv : m.2.1 2 39 = nI lo) (hhv : m.2.1 2 40 = nI hi) {G : Nat → Nat → Nat → Bool} {P : Nat → Nat → Nat → Int32} (hG : gpM q G P m) {Kr : Int32 → mS → Prop} {K : mS → Prop} (hK : ∀ m2, mD [] [37] [] m m2 → (∀ n h, n < q → lo ≤ h → h ≤ hi → m2.2.1 37 (25 * n + h) = mMV G P q lo hi (q - (n + 1)) (h + 1)) → K m2) : w_richest_20 N Kr K N.1 (nI q - 1) m := by
  have key : ∀ k t m1, k ≤ q → k < t → mD [] [37] [] m m1 → (∀ n h, k ≤ n → n < q → lo ≤ h → h ≤ hi → m1.2.1 37 (25 * n + h) = mMV G P q lo hi (q - (n + 1)) (h + 1)) → w_richest_20 N Kr K t (nI k - 1) m1 := by
    intro k
    induction k with
    | zero =>
      intro t m1 hk ht j1 j2
      obtain ⟨t, rfl⟩ : ∃ u, t = u + 1 := ⟨t - 1, by omega⟩
      simp only [w_richest_20]
      exact ⟨fun _ => hK m1 j1 (fun n h z1 => j2 n h (Nat.zero_le _) z1), fun z => absurd (by decide) z⟩
    | succ k ih =>
      intro t m1 hk ht j1 j2
      obtain ⟨t, rfl⟩ : ∃ u, t = u + 1 := ⟨t - 1, by omega⟩
      have k1 : m1.2.1 2 = m.2.1 2 := j1.2.1 2 (by decide)
      simp only [w_richest_20]
      rw [nI_pred]
      refine ⟨fun z => absurd z (nI_pos (by omega)), fun _ => ⟨vpk (k := 39) (by decide) (by decide), fun y0 hy0 => ?_⟩⟩
      rw [hy0, show mAt m1 2 39 = nI lo from (mAt_n (k := 39) (by decide)).trans (by rw [k1]; exact hlv)]
      refine w_ri32 (m := m1) hN hq (n := k) (by omega) (by rw [k1]; exact hqv) hh hl (by rw [k1]; exact hlv) (by rw [k1]; exact hhv) (G := G) (P := P) (fun n b h z1 z2 z3 => ?_) (fun z1 h z2 z3 => ?_) (fun m2 i1 i2 i3 y hy => ?_) (hi + 1 - lo) N.1 0 m1 (mD_r m1) (fun _ _ => rfl) (fun h z1 z2 => by omega) (by omega) (by omega)
      · rw [j1.2.1 36 (by decide), j1.2.1 35 (by decide)]
        exact hG n b h z1 z2 z3
      · exact j2 (k + 1) h (by omega) z1 z2 z3
      · have ey : y = nI k - 1 := by rw [hy, Int32.sub_eq_add_neg]
        rw [ey]
        refine ih t m2 (by omega) (by omega) (mD_t j1 i1) (fun n h z1 z2 z3 z4 => ?_)
        by_cases e : n = k
        · rw [e, i3 h z3 z4]
        · rw [i2 _ (by omega)]
          exact j2 n h (by omega) z2 z3 z4
  exact key q N.1 m (Nat.le_refl _) (by omega) (mD_r m) (fun n h z1 z2 => by omega)
/-! ways -/
theorem mL_at (m : mS) (j : Nat) {k : Nat} (x : Int64) (hk : k < 2 ^ 31) (k2 : Nat) : (mL m j (nI k) x).2.2 j k2 = if k2 = k then x else m.2.2 j k2 := by
  show (if j = j then vp_updL (m.2.2 j) (nI k).toNatClampNeg x else m.2.2 j) k2 = _
  rw [if_pos rfl, nI_clamp hk]
  rfl
theorem mLt_n {s : mS} {j k : Nat} (h : k < 2 ^ 31) : mLt s j (nI k) = s.2.2 j k := by
  show s.2.2 j (nI k).toNatClampNeg = _
  rw [nI_clamp h]
theorem w_wf11 {n b lo hi : Nat} (hn : n < 12) (hb : b < 26) (hh : hi < 25) (hl : lo < 25) (hhv : m.2.1 2 40 = nI hi) {g : Nat → Bool} {r : Nat → Int64} (hg : ∀ h, lo ≤ h → h ≤ hi → m.2.1 36 (mix n b h) = bI (g h) ∧ m.2.2 38 (25 * n + h) = r h) {Kr K : Int64 → mS → Prop} (hK : K (mWf g r lo (hi + 1 - lo)) m) : ∀ (c t k : Nat), k + c = hi + 1 - lo → c < t → w_waysFrom_11 N (nI n) (nI (b - 1)) Kr K t (mWf g r lo k) (nI (lo + k)) m
  | _, 0, _, _, h => absurd h (Nat.not_lt_zero _)
  | 0, t + 1, k, hk, _ => by
    unfold w_waysFrom_11
    rw [show mAt m 2 40 = nI hi from (mAt_n (k := 40) (by decide)).trans hhv, nI_ltI (by omega) (by omega)]
    have e : k = hi + 1 - lo := by omega
    rw [e]
    exact ⟨vpk (k := 40) (by decide) (by decide), fun _ => hK, fun z => absurd (by omega) z⟩
  | c + 1, t + 1, k, hk, ht => by
    have next := w_wf11 hn hb hh hl hhv hg hK (Kr := Kr) c t (k + 1) (by omega) (by omega)
    have e : mWf g r lo (k + 1) = if g (lo + k) = true then mWf g r lo k + r (lo + k) else mWf g r lo k := rfl
    rw [e] at next
    obtain ⟨g1, g3⟩ := hg (lo + k) (by omega) (by omega)
    have ml := mix_l hn hb (h := lo + k) (by omega)
    unfold w_waysFrom_11 w_noteAt
    dsimp only
    rw [show mAt m 2 40 = nI hi from (mAt_n (k := 40) (by decide)).trans hhv, nI_ltI (by omega) (by omega), mix_e, mAt_n (by omega), r25_e, mLt_n (by omega), g1, g3]
    refine ⟨vpk (k := 40) (by decide) (by decide), fun z => by omega, fun _ => ⟨vpk ml (by decide), bI_c (fun z x hx y hy => ?_) (fun z => ⟨vpk (by omega) (by decide), fun x hx y hy => ?_⟩)⟩⟩
    · rw [z, if_neg (by decide)] at next
      rw [hx, hy, nI_1, Int64.add_zero]
      exact next
    · rw [if_pos z] at next
      rw [hx, hy, nI_1]
      exact next
theorem w_waysFromS (hN : 402 ≤ N.1) {n b lo hi : Nat} (hn : n < 12) (hb : b < 26) (hh : hi < 25) (hl : lo < 25) (hlv : m.2.1 2 39 = nI lo) (hhv : m.2.1 2 40 = nI hi) {g : Nat → Bool} {r : Nat → Int64} (hg : ∀ h, lo ≤ h → h ≤ hi → m.2.1 36 (mix n b h) = bI (g h) ∧ m.2.2 38 (25 * n + h) = r h) {K : Int64 → mS → Prop} (hK : K (mWf g r lo (hi + 1 - lo)) m) : w_waysFrom N (nI n) (nI (b - 1)) m K := by
  unfold w_waysFrom
  refine ⟨vpk (k := 39) (by decide) (by decide), fun y hy => ?_⟩
  rw [hy, show mAt m 2 39 = nI lo from (mAt_n (k := 39) (by decide)).trans hlv]
  exact w_wf11 (K := fun x101 s102 => K x101 s102) hn hb hh hl hhv hg hK (hi + 1 - lo) N.1 0 (by omega) (by omega)
theorem w_wy32 (hN : 402 ≤ N.1) {q n lo hi : Nat} (hq : q ≤ 12) (hn : n < q) (hqv : m.2.1 2 41 = nI q) (hh : hi < 25) (hl : lo < 25) (hlv : m.2.1 2 39 = nI lo) (hhv : m.2.1 2 40 = nI hi) {G : Nat → Nat → Nat → Bool} (hG : ∀ n b h, n < q → okB n b → h < 25 → m.2.1 36 (mix n b h) = bI (G n b h)) {Kr : Int64 → mS → Prop} {K : mS → Prop} (hr : n + 1 < q → ∀ h, lo ≤ h → h ≤ hi → m.2.2 38 (25 * (n + 1) + h) = mWV G q lo hi (q - (n + 2)) (h + 1)) (hK : ∀ m2, mD [] [] [38] m m2 → (∀ j, ¬ (25 * n + lo ≤ j ∧ j < 25 * n + 25) → m2.2.2 38 j = m.2.2 38 j) → (∀ h, lo ≤ h → h ≤ hi → m2.2.2 38 (25 * n + h) = mWV G q lo hi (q - (n + 1)) (h + 1)) → K m2) : ∀ (c t k : Nat) (m1 : mS), mD [] [] [38] m m1 → (∀ j, ¬ (25 * n + lo ≤ j ∧ j < 25 * n + 25) → m1.2.2 38 j = m.2.2 38 j) → (∀ h, lo ≤ h → h < lo + k → h ≤ hi → m1.2.2 38 (25 * n + h) = mWV G q lo hi (q - (n + 1)) (h + 1)) → k + c = hi + 1 - lo → c < t → w_ways_32 N (nI n) Kr K t (nI (lo + k)) m1
  | _, 0, _, _, _, _, _, _, h => absurd h (Nat.not_lt_zero _)
  | 0, t + 1, k, m1, j1, j2, j3, hk, _ => by
    unfold w_ways_32
    have k1 : m1.2.1 2 = m.2.1 2 := j1.2.1 2 (by decide)
    rw [show mAt m1 2 40 = nI hi from (mAt_n (k := 40) (by decide)).trans (by rw [k1]; exact hhv), nI_ltI (by omega) (by omega)]
    exact ⟨vpk (k := 40) (by decide) (by decide), fun _ => hK m1 j1 j2 (fun h z1 z2 => j3 h z1 (by omega) z2), fun z => absurd (by omega) z⟩
  | c + 1, t + 1, k, m1, j1, j2, j3, hk, ht => by
    have k1 : m1.2.1 2 = m.2.1 2 := j1.2.1 2 (by decide)
    have fin : ∀ v, v = mWV G q lo hi (q - (n + 1)) (lo + k + 1) → ∀ m2, m2 = mL m1 38 (nI (25 * n + (lo + k))) v → ∀ y : Int32, y = nI (lo + k) + 1 → w_ways_32 N (nI n) Kr K t y m2 := fun v hv m2 e2 y hy => by
      rw [hy, nI_1]
      have at2 : ∀ j, m2.2.2 38 j = if j = 25 * n + (lo + k) then v else m1.2.2 38 j := fun j => by
        rw [e2]
        exact mL_at _ _ _ (by omega) j
      refine w_wy32 hN hq hn hqv hh hl hlv hhv hG hr hK c t (k + 1) m2 (mD_t j1 (by rw [e2]; exact mD_L m1 _ _ (by decide))) (fun j hj => ?_) (fun h z1 z2 z3 => ?_) (by omega) (by omega)
      · rw [at2, if_neg (by omega)]
        exact j2 j hj
      · rw [at2]
        by_cases e : h = lo + k
        · rw [e, if_pos rfl, hv]
        · rw [if_neg (by omega)]
          exact j3 h z1 (by omega) z3
    have eq1 : nI n = nI q - 1 ↔ n + 1 = q := by
      rw [show nI q - 1 = nI (q - 1) from pk_sub (b := 1) (by omega), nI_eq (by omega) (by omega)]
      omega
    unfold w_ways_32
    rw [show mAt m1 2 40 = nI hi from (mAt_n (k := 40) (by decide)).trans (by rw [k1]; exact hhv), nI_ltI (by omega) (by omega)]
    refine ⟨vpk (k := 40) (by decide) (by decide), fun z => by omega, fun _ => w_manyS (v := nI q) (by rw [k1]; exact hqv) ?_⟩
    rw [eq1, nI_1, r25_e]
    refine ⟨fun ne => ?_, fun e => ⟨vpk (by omega) (by decide), fin 1 ?_⟩⟩
    · have hb : nI (lo + k) = nI (lo + k + 1 - 1) := by rw [Nat.add_sub_cancel]
      have := w_waysFromS (N := N) (m := m1) hN (n := n + 1) (b := lo + k + 1) (by omega) (by omega) hh hl (by rw [k1]; exact hlv) (by rw [k1]; exact hhv) (g := G (n + 1) (lo + k + 1)) (r := fun h => mWV G q lo hi (q - (n + 2)) (h + 1)) (fun h z1 z2 => ?_) (K := fun x105 s106 => (vp_in (nI (25 * n + (lo + k))) 300 ∧ (∀ s108 : mS, s108 = mL s106 38 (nI (25 * n + (lo + k))) x105 → (∀ x109 : Int32, x109 = nI (lo + k) + 1 → w_ways_32 N (nI n) Kr K t x109 s108)))) ⟨vpk (by omega) (by decide), fin _ ?_⟩
      · rw [← hb] at this
        exact this
      · refine ⟨(by rw [j1.2.1 36 (by decide)]; exact hG (n + 1) (lo + k + 1) h (by omega) ⟨by omega, by omega⟩ (by omega)), ?_⟩
        rw [j2 _ (by omega)]
        exact hr (by omega) h z1 z2
      · rw [show q - (n + 1) = q - (n + 2) + 1 by omega]
        show _ = mWf (G (q - (q - (n + 2) + 1)) (lo + k + 1)) _ _ _
        rw [show q - (q - (n + 2) + 1) = n + 1 by omega]
    · rw [e, Nat.sub_self]
      rfl
theorem w_wy20 (hN : 402 ≤ N.1) {q lo hi : Nat} (hq : q ≤ 12) (hqv : m.2.1 2 41 = nI q) (hh : hi < 25) (hl : lo < 25) (hlv : m.2.1 2 39 = nI lo) (hhv : m.2.1 2 40 = nI hi) {G : Nat → Nat → Nat → Bool} (hG : ∀ n b h, n < q → okB n b → h < 25 → m.2.1 36 (mix n b h) = bI (G n b h)) {Kr : Int64 → mS → Prop} {K : mS → Prop} (hK : ∀ m2, mD [] [] [38] m m2 → (∀ n h, n < q → lo ≤ h → h ≤ hi → m2.2.2 38 (25 * n + h) = mWV G q lo hi (q - (n + 1)) (h + 1)) → K m2) : w_ways_20 N Kr K N.1 (nI q - 1) m := by
  have key : ∀ k t m1, k ≤ q → k < t → mD [] [] [38] m m1 → (∀ n h, k ≤ n → n < q → lo ≤ h → h ≤ hi → m1.2.2 38 (25 * n + h) = mWV G q lo hi (q - (n + 1)) (h + 1)) → w_ways_20 N Kr K t (nI k - 1) m1 := by
    intro k
    induction k with
    | zero =>
      intro t m1 hk ht j1 j2
      obtain ⟨t, rfl⟩ : ∃ u, t = u + 1 := ⟨t - 1, by omega⟩
      simp only [w_ways_20]
      exact ⟨fun _ => hK m1 j1 (fun n h z1 => j2 n h (Nat.zero_le _) z1), fun z => absurd (by decide) z⟩
    | succ k ih =>
      intro t m1 hk ht j1 j2
      obtain ⟨t, rfl⟩ : ∃ u, t = u + 1 := ⟨t - 1, by omega⟩
      have k1 : m1.2.1 2 = m.2.1 2 := j1.2.1 2 (by decide)
      simp only [w_ways_20]
      rw [nI_pred]
      refine ⟨fun z => absurd z (nI_pos (by omega)), fun _ => ⟨vpk (k := 39) (by decide) (by decide), fun y0 hy0 => ?_⟩⟩
      rw [hy0, show mAt m1 2 39 = nI lo from (mAt_n (k := 39) (by decide)).trans (by rw [k1]; exact hlv)]
      refine w_wy32 (m := m1) hN hq (n := k) (by omega) (by rw [k1]; exact hqv) hh hl (by rw [k1]; exact hlv) (by rw [k1]; exact hhv) (G := G) (fun n b h z1 z2 z3 => ?_) (fun z1 h z2 z3 => ?_) (fun m2 i1 i2 i3 y hy => ?_) (hi + 1 - lo) N.1 0 m1 (mD_r m1) (fun _ _ => rfl) (fun h z1 z2 => by omega) (by omega) (by omega)
      · rw [j1.2.1 36 (by decide)]
        exact hG n b h z1 z2 z3
      · exact j2 (k + 1) h (by omega) z1 z2 z3
      · have ey : y = nI k - 1 := by rw [hy, Int32.sub_eq_add_neg]
        rw [ey]
        refine ih t m2 (by omega) (by omega) (mD_t j1 i1) (fun n h z1 z2 z3 z4 => ?_)
        by_cases e : n = k
        · rw [e, i3 h z3 z4]
        · rw [i2 _ (by omega)]
          exact j2 n h (by omega) z2 z3 z4
  exact key q N.1 m (Nat.le_refl _) (by omega) (mD_r m) (fun n h z1 z2 => by omega)
end RW2
section RO
variable {N : tP} {s : tM} {L : Nat → Nat} {M O : Nat → Prop} {m : mS} {lw : Option (List cL)} {x o : Nat} {K : tM → Prop}
theorem op_richest (hN : nOK N) (hX : RXo N s x o) (hK : ∀ s', RXo N s' x o → K s') : v_X0_richest N x s (pK o (w_richest (nP N)) K) := by
  obtain ⟨L, M, rfl, hX, hm⟩ := hX
  have hS := hX.S
  obtain ⟨q, n1, n2⟩ := hX.I.1.2.2.2.2.1
  obtain ⟨lo, lo1, lo2⟩ := i32N hX.I.1.2.2.1.1
  obtain ⟨hi, hi1, hi2⟩ := i32N hX.I.1.2.2.2.1.1
  have hl : lo < 25 := by have := hX.I.1.2.2.1.2; omega
  have hh : hi < 25 := by have := hX.I.1.2.2.2.1.2; omega
  obtain ⟨lw, hF⟩ := hX.inF
  have hN1 : 60 ≤ N.1 := by have := hN.1; omega
  have hN2 : 120 ≤ N.2.1 := by have := hN.2; omega
  have hM1 : 402 ≤ (nP N).1 := by have := hN.1; show 402 ≤ N.1; omega
  have hM2 : 40 ≤ (nP N).2 := by have := hN.2; show 40 ≤ N.2.1; omega
  have ok := sV_ok (lo := lo) (hi := hi) (fin := fnI (-1)) (tbB_T ((sM s o).2.1 2) lw q) n1 hh q (Nat.le_refl _) 0 ⟨by omega, Or.inr (by omega)⟩
  unfold v_X0_richest
  refine ⟨hS.o (r := 0) rfl, v_layAllS hN2 hN1 hX hF n1 n2 hh hl lo1 hi1 (fun s1 a1 l1 => ?_)⟩
  have X1 := hX.t a1
  have S1 := X1.S
  have l0 := laid_0 l1
  have fin : ∀ r, r = (if (sV (goT ((sM s o).2.1 2) lw) (prT ((sM s o).2.1 2) lw) (gaT ((sM s o).2.1 2) lw) (dI ((sM s o).2.1 2)) q lo hi (fnI (-1)) q 0).2.2.2 = 0 then -1 else (sV (goT ((sM s o).2.1 2) lw) (prT ((sM s o).2.1 2) lw) (gaT ((sM s o).2.1 2) lw) (dI ((sM s o).2.1 2)) q lo hi (fnI (-1)) q 0).2.1) → pK o (w_richest (nP N)) K r s1 := fun r hr => by
    refine pfin X1 hm (frM_s (aT_M a1 hS) (fun _ => Or.inr)) rfl hK (fun m1 K2 hc h2 => ?_)
    have e2 := eqP hc
    unfold w_richest
    refine w_manyS (v := nI q) (by rw [e2]; exact n2) ?_
    rw [show (0 : Int32) = nI 0 from rfl, nI_eq (by omega) (by omega)]
    refine ⟨fun nz => w_laysNotesS (lw := lw) hM1 hM2 (by rw [e2]; exact hF) (by rw [e2]; exact hX.I.1.1) n1 (by rw [e2]; exact n2) (fun m2 T2 C2 => w_manyS (v := nI q) (by rw [mT_2 T2, e2]; exact n2) (fun y hy => ?_)), fun z => ?_⟩
    · have k2 : m2.2.1 2 = (sM s o).2.1 2 := (mT_2 T2).trans e2
      rw [e2] at C2
      rw [hy]
      refine w_ri20 hM1 n1 (by rw [k2]; exact n2) hh hl (by rw [k2]; exact lo1) (by rw [k2]; exact hi1) (G := goT ((sM s o).2.1 2) lw) (P := gaT ((sM s o).2.1 2) lw) (fun n b h z1 z2 z3 => ⟨(C2 n b h z1 z2 z3).1, fun z => ((C2 n b h z1 z2 z3).2 z).2⟩) (fun m3 d3 r3 => ?_)
      have k3 : m3.2.1 2 = (sM s o).2.1 2 := (d3.2.1 2 (by decide)).trans k2
      refine w_mostFromS (N := nP N) (m := m3) hM1 (n := 0) (b := 0) (by omega) (by omega) hh hl (by rw [k3]; exact lo1) (by rw [k3]; exact hi1) (g := goT ((sM s o).2.1 2) lw 0 0) (P := gaT ((sM s o).2.1 2) lw 0 0) (r := fun h => mMV (goT ((sM s o).2.1 2) lw) (gaT ((sM s o).2.1 2) lw) q lo hi (q - 1) (h + 1)) (fun h z1 z2 => ?_) ?_
      · obtain ⟨c1, c2⟩ := C2 0 0 h (by omega) ⟨by omega, by omega⟩ (by omega)
        refine ⟨(by rw [d3.2.1 36 (by decide)]; exact c1), (fun z => by rw [d3.2.1 35 (by decide)]; exact (c2 z).2), r3 0 h (by omega) z1 z2⟩
      · have mx := mMV_x (lo := lo) (hi := hi) (tbB_T ((sM s o).2.1 2) lw q) n1 hh q (Nat.le_refl _) 0 ⟨by omega, Or.inr (by omega)⟩
        have eM : mMV (goT ((sM s o).2.1 2) lw) (gaT ((sM s o).2.1 2) lw) q lo hi q 0 = mMf (goT ((sM s o).2.1 2) lw 0 0) (gaT ((sM s o).2.1 2) lw 0 0) (fun h => mMV (goT ((sM s o).2.1 2) lw) (gaT ((sM s o).2.1 2) lw) q lo hi (q - 1) (h + 1)) lo (hi + 1 - lo) := by
          have : ∀ c, c + 1 = q → mMV (goT ((sM s o).2.1 2) lw) (gaT ((sM s o).2.1 2) lw) q lo hi (c + 1) 0 = mMf (goT ((sM s o).2.1 2) lw 0 0) (gaT ((sM s o).2.1 2) lw 0 0) (fun h => mMV (goT ((sM s o).2.1 2) lw) (gaT ((sM s o).2.1 2) lw) q lo hi c (h + 1)) lo (hi + 1 - lo) := fun c hc => by
            show mMf (goT ((sM s o).2.1 2) lw (q - (c + 1)) 0) (gaT ((sM s o).2.1 2) lw (q - (c + 1)) 0) _ _ _ = _
            rw [show q - (c + 1) = 0 by omega]
          have h1 := this (q - 1) (by omega)
          rw [show q - 1 + 1 = q by omega] at h1
          exact h1
        rw [← eM]
        have g3 : cE (sM s o) m3 := cE_t hc (cE_t (mT_cE T2) (cE_D d3 (by decide) (by decide)))
        obtain ⟨x1, x2⟩ := mx
        obtain ⟨W, W1, W2, W3⟩ := ok
        have hz := vOK_z ⟨W, W1, W2, W3⟩
        by_cases cz : (sV (goT ((sM s o).2.1 2) lw) (prT ((sM s o).2.1 2) lw) (gaT ((sM s o).2.1 2) lw) (dI ((sM s o).2.1 2)) q lo hi (fnI (-1)) q 0).2.2.2 = 0
        · rw [if_pos cz] at hr
          obtain ⟨y1, y2⟩ := x2 cz
          refine ⟨fun z => ?_, fun _ => ?_⟩
          · rw [i32_le, show nI 0 = 0 from rfl, z32_t] at z
            omega
          · rw [← hr]
            exact h2 m3 g3
        · rw [if_neg cz] at hr
          have w0 : W ≠ 0 := fun y => cz (hz.mpr (by omega))
          obtain ⟨-, -, -, y1, -⟩ := W3.resolve_left (fun y => w0 y.1)
          rw [x1 cz]
          refine ⟨fun _ => ?_, fun z => absurd ?_ z⟩
          · rw [← hr]
            exact h2 m3 g3
          · rw [i32_le, show nI 0 = 0 from rfl, z32_t]
            exact y1
    · subst z
      have e0 : sV (goT ((sM s o).2.1 2) lw) (prT ((sM s o).2.1 2) lw) (gaT ((sM s o).2.1 2) lw) (dI ((sM s o).2.1 2)) 0 lo hi (fnI (-1)) 0 0 = ini (fnI (-1) 0) := rfl
      rw [e0, fnI_m, if_neg (by decide)] at hr
      have hr0 : r = nI 0 := hr
      rw [← hr0]
      exact h2 m1 hc
  refine ⟨S1.o (r := 0) rfl, v_isThereS X1 (congrArg (fun v : T4 => v.2.2.2) l0) ok ?_⟩
  by_cases cz : (sV (goT ((sM s o).2.1 2) lw) (prT ((sM s o).2.1 2) lw) (gaT ((sM s o).2.1 2) lw) (dI ((sM s o).2.1 2)) q lo hi (fnI (-1)) q 0).2.2.2 = 0
  · rw [if_pos cz] at fin
    rw [decide_eq_true cz]
    exact ⟨fun _ => fin _ rfl, fun z => absurd rfl z⟩
  · rw [if_neg cz] at fin
    rw [decide_eq_false cz]
    have qr := S1.q0.2.2.2.2.1
    have rr := (S1.q19 (n := 0) (by omega)).2.1
    have ev : tI s1 (L (680 + 0)) 0 = (sV (goT ((sM s o).2.1 2) lw) (prT ((sM s o).2.1 2) lw) (gaT ((sM s o).2.1 2) lw) (dI ((sM s o).2.1 2)) q lo hi (fnI (-1)) q 0).2.1 := congrArg (fun v : T4 => v.2.1) l0
    refine ⟨fun z => absurd z (by decide), fun _ => ?_⟩
    rw [qr, rr, ev]
    exact ⟨S1.o (r := 0) rfl, (S1.x19 (n := 0) (by omega)).2.1, (S1.x660 (n := 0) (b := 0) (by omega) (by omega)).2.1, fin _ rfl⟩
theorem op_ways (hN : nOK N) (hX : RXo N s x o) (hK : ∀ s', RXo N s' x o → K s') : v_X0_ways N x s (pKl o (w_ways (nP N)) K) := by
  obtain ⟨L, M, rfl, hX, hm⟩ := hX
  have hS := hX.S
  obtain ⟨q, n1, n2⟩ := hX.I.1.2.2.2.2.1
  obtain ⟨lo, lo1, lo2⟩ := i32N hX.I.1.2.2.1.1
  obtain ⟨hi, hi1, hi2⟩ := i32N hX.I.1.2.2.2.1.1
  have hl : lo < 25 := by have := hX.I.1.2.2.1.2; omega
  have hh : hi < 25 := by have := hX.I.1.2.2.2.1.2; omega
  obtain ⟨lw, hF⟩ := hX.inF
  have hN1 : 60 ≤ N.1 := by have := hN.1; omega
  have hN2 : 120 ≤ N.2.1 := by have := hN.2; omega
  have hM1 : 402 ≤ (nP N).1 := by have := hN.1; show 402 ≤ N.1; omega
  have hM2 : 40 ≤ (nP N).2 := by have := hN.2; show 40 ≤ N.2.1; omega
  unfold v_X0_ways
  refine ⟨hS.o (r := 0) rfl, v_layAllS hN2 hN1 hX hF n1 n2 hh hl lo1 hi1 (fun s1 a1 l1 => ?_)⟩
  have X1 := hX.t a1
  have S1 := X1.S
  have l0 := laid_0 l1
  have qr := S1.q0.2.2.2.2.2.2
  have rr := (S1.q19 (n := 0) (by omega)).2.2.2
  have ev : tJ s1 (L (720 + 0)) 0 = (sV (goT ((sM s o).2.1 2) lw) (prT ((sM s o).2.1 2) lw) (gaT ((sM s o).2.1 2) lw) (dI ((sM s o).2.1 2)) q lo hi (fnI (-1)) q 0).2.2.2 := congrArg (fun v : T4 => v.2.2.2) l0
  rw [qr, rr, ev]
  refine ⟨S1.o (r := 0) rfl, (S1.x19 (n := 0) (by omega)).2.2.2, (S1.x660 (n := 0) (b := 0) (by omega) (by omega)).2.2.2, ?_⟩
  rw [← mWV_x]
  refine pfinl X1 hm (frM_s (aT_M a1 hS) (fun _ => Or.inr)) rfl hK (fun m1 K2 hc h2 => ?_)
  have e2 := eqP hc
  unfold w_ways
  refine w_manyS (v := nI q) (by rw [e2]; exact n2) ?_
  rw [show (0 : Int32) = nI 0 from rfl, nI_eq (by omega) (by omega)]
  refine ⟨fun nz => w_laysNotesS (lw := lw) hM1 hM2 (by rw [e2]; exact hF) (by rw [e2]; exact hX.I.1.1) n1 (by rw [e2]; exact n2) (fun m2 T2 C2 => w_manyS (v := nI q) (by rw [mT_2 T2, e2]; exact n2) (fun y hy => ?_)), fun z => ?_⟩
  · have k2 : m2.2.1 2 = (sM s o).2.1 2 := (mT_2 T2).trans e2
    rw [e2] at C2
    rw [hy]
    refine w_wy20 hM1 n1 (by rw [k2]; exact n2) hh hl (by rw [k2]; exact lo1) (by rw [k2]; exact hi1) (G := goT ((sM s o).2.1 2) lw) (fun n b h z1 z2 z3 => (C2 n b h z1 z2 z3).1) (fun m3 d3 r3 => ?_)
    have k3 : m3.2.1 2 = (sM s o).2.1 2 := (d3.2.1 2 (by decide)).trans k2
    refine w_waysFromS (N := nP N) (m := m3) hM1 (n := 0) (b := 0) (by omega) (by omega) hh hl (by rw [k3]; exact lo1) (by rw [k3]; exact hi1) (g := goT ((sM s o).2.1 2) lw 0 0) (r := fun h => mWV (goT ((sM s o).2.1 2) lw) q lo hi (q - 1) (h + 1)) (fun h z1 z2 => ?_) ?_
    · obtain ⟨c1, c2⟩ := C2 0 0 h (by omega) ⟨by omega, by omega⟩ (by omega)
      exact ⟨(by rw [d3.2.1 36 (by decide)]; exact c1), r3 0 h (by omega) z1 z2⟩
    · have eM : mWV (goT ((sM s o).2.1 2) lw) q lo hi q 0 = mWf (goT ((sM s o).2.1 2) lw 0 0) (fun h => mWV (goT ((sM s o).2.1 2) lw) q lo hi (q - 1) (h + 1)) lo (hi + 1 - lo) := by
        have : ∀ c, c + 1 = q → mWV (goT ((sM s o).2.1 2) lw) q lo hi (c + 1) 0 = mWf (goT ((sM s o).2.1 2) lw 0 0) (fun h => mWV (goT ((sM s o).2.1 2) lw) q lo hi c (h + 1)) lo (hi + 1 - lo) := fun c hc => by
          show mWf (goT ((sM s o).2.1 2) lw (q - (c + 1)) 0) _ _ _ = _
          rw [show q - (c + 1) = 0 by omega]
        have h1 := this (q - 1) (by omega)
        rw [show q - 1 + 1 = q by omega] at h1
        exact h1
      rw [← eM]
      exact h2 m3 (cE_t hc (cE_t (mT_cE T2) (cE_D d3 (by decide) (by decide))))
  · subst z
    exact h2 m1 hc
end RO
