set_option maxRecDepth 100000
/-! ===== the system's reader of orders: a number that is nought ===== -/
def allZ (tp : Nat → Int32) (to : Nat) : Nat → Nat → Bool
  | 0, _ => true
  | f + 1, k => if k < to then (decide (tp k = 48) && allZ tp to f (k + 1)) else true
section NZ
variable {N : tP} {io : Bool} {rd x ta pl wd p : Nat} {tp : Nat → Int32} {n : Nat} {s : tM} {i l d : Nat}
theorem valW_0 {to : Nat} : ∀ f k v, (∀ j, k ≤ j → j < to → isDg (tp j) = true) → 0 ≤ v.toInt → v.toInt ≤ 1000000 → (valW tp to f k v = 0 ↔ v = 0 ∧ allZ tp to f k = true)
  | 0, _, v, _, _, _ => ⟨fun h => ⟨h, rfl⟩, fun h => h.1⟩
  | f + 1, k, v, hd, h0, h1 => by
    have e1 : valW tp to (f + 1) k v = if k < to then valW tp to f (k + 1) (if v ≤ 1000000 then ((10 * v) + tp k) - 48 else v) else v := rfl
    have e2 : allZ tp to (f + 1) k = if k < to then (decide (tp k = 48) && allZ tp to f (k + 1)) else true := rfl
    have c3 : v ≤ 1000000 := i32_le.mpr h1
    by_cases c : k < to
    · rw [e1, e2, if_pos c, if_pos c, if_pos c3]
      have hb := hd k (Nat.le_refl _) c
      have hd' := dg_b hb
      have e := ten_d h0 h1 hb
      by_cases cv : v = 0
      · have ev : v.toInt = 0 := by rw [cv]; decide
        rw [valW_0 f (k + 1) _ (fun j hj => hd j (by omega)) (by rw [e]; omega) (by rw [e]; omega), Bool.and_eq_true, decide_eq_true_eq]
        have key : ((10 * v) + tp k) - 48 = 0 ↔ tp k = 48 := by
          rw [← Int32.toInt_inj, e, ← Int32.toInt_inj, show (0 : Int32).toInt = 0 by decide, show (48 : Int32).toInt = 48 by decide]
          omega
        rw [key]
        exact ⟨fun z => ⟨cv, z⟩, fun z => z.2⟩
      · have g := valW_g f (k + 1) (((10 * v) + tp k) - 48) (fun j hj => hd j (by omega)) (by rw [e]; omega)
        have nv : v.toInt ≠ 0 := fun z => cv (Int32.toInt_inj.mp (by rw [z]; decide))
        refine ⟨fun z => ?_, fun z => absurd z.1 cv⟩
        rw [z, e, show (0 : Int32).toInt = 0 by decide] at g
        omega
    · rw [e1, e2, if_neg c, if_neg c]
      exact ⟨fun h => ⟨h, rfl⟩, fun h => h.1⟩
theorem v_nou22 (hn : n ≤ 400) (h0 : PS0 N true rd x ta pl wd tp n s) {to : Nat} (hto : to ≤ n) (h1 : tI s rd 1 = nI to) {Kr K : Int32 → tM → Prop} : ∀ (g u j : Nat) (b : Bool), j ≤ to → to < j + g → g ≤ u → K (bI (b && allZ tp to g j)) s → v_X21_isNought_22 N rd Kr K u (bI b) (nI j) s
  | 0, _, _, _, h1, h2, _, _ => absurd h2 (by omega)
  | g + 1, 0, _, _, _, _, h, _ => absurd h (Nat.not_succ_le_zero _)
  | g + 1, u + 1, j, b, j1, j2, hu, hK => by
    have e2 : allZ tp to (g + 1) j = if j < to then (decide (tp j = 48) && allZ tp to g (j + 1)) else true := rfl
    rw [e2] at hK
    obtain ⟨t1, t2, t3, t4, t5⟩ := PS0_T h0
    unfold v_X21_isNought_22
    rw [h1, h0.2.2.2.2.1 rfl, t2, nI_lle (by omega) (by omega), nI_clamp (by omega)]
    refine ⟨h0.1, fun z => ?_, fun z => ⟨t1, ⟨400, t3, vpk (by omega) (by decide)⟩, fun y v ev j' ej => ?_, fun y v ev j' ej => ?_⟩⟩
    · rw [if_neg (by omega), Bool.and_true] at hK
      exact hK
    · rw [t4 j (by omega)] at y
      rw [if_pos (by omega), decide_eq_false y, Bool.false_and, Bool.and_false] at hK
      have e0 : v = bI false := by
        rw [ev]
        cases b <;> decide
      rw [ej, nI_1, e0]
      exact v_nou22 hn h0 hto h1 g u (j + 1) false (by omega) (by omega) (by omega) (by rw [Bool.false_and]; exact hK)
    · rw [t4 j (by omega)] at y
      rw [if_pos (by omega), decide_eq_true y, Bool.true_and] at hK
      have e0 : v = bI b := by
        rw [ev]
        cases b <;> decide
      rw [ej, nI_1, e0]
      exact v_nou22 hn h0 hto h1 g u (j + 1) b (by omega) (by omega) (by omega) hK
theorem v_isNoughtS (hN : 402 ≤ N.1) (hn : n ≤ 400) (hb : ∀ k, k < 400 → byT (tp k)) (h0 : PS0 N true rd x ta pl wd tp n s) (hd : PSd rd tp n s i l d p) {K : Int32 → tM → Prop} (hK : K (bI (decide (cdT tp n i = 50 ∧ vlT tp n i = 0))) s) : v_X21_isNought N rd s K := by
  have hle := toP_le (tp := tp) hn i
  have hc := cd_dg hb hn i
  have fin : ∀ b : Bool, (b && allZ tp (toP tp n i) 401 (tokP tp n i)) = decide (cdT tp n i = 50 ∧ vlT tp n i = 0) → v_X21_isNought_16 N rd (bI b) K s := fun b e => by
    unfold v_X21_isNought_16
    refine ⟨h0.1, fun j ej => ?_⟩
    rw [ej, hd.1.1]
    refine v_nou22 hn h0 hle.2 hd.1.2 401 N.1 _ b hle.1 (by omega) (by omega) ?_
    rw [e]
    exact ⟨xB_bI _, hK⟩
  unfold v_X21_isNought
  rw [hd.1.1, hd.1.2, nI_lle (by omega) (by omega)]
  refine ⟨h0.1, fun z => fin false ?_, fun z => fin true ?_⟩
  · rw [Bool.false_and]
    refine (decide_eq_false fun y => ?_).symm
    have hk := (hc.mp y.1).1
    unfold toP at z
    rw [if_pos hk] at z
    have := en_le (tp := tp) hk
    omega
  · rw [Bool.true_and]
    have hk : tokP tp n i < n := by
      refine Nat.lt_of_not_le fun y => z ?_
      unfold toP
      rw [if_neg (by omega)]
      exact Nat.le_refl _
    by_cases hg : isDg (tp (tokP tp n i)) = true
    · have dg := dg_to (tp := tp) (n := n) (i := i) hk hg
      have ev : vlT tp n i = valW tp (toP tp n i) 401 (tokP tp n i) 0 := by
        unfold vlT toP
        rw [if_pos ⟨hk, hg⟩, if_pos hk]
      have k0 := valW_0 (tp := tp) (to := toP tp n i) 401 (tokP tp n i) 0 dg (by decide) (by decide)
      rw [← ev] at k0
      by_cases cz : vlT tp n i = 0
      · rw [(k0.mp cz).2, decide_eq_true ⟨hc.mpr ⟨hk, hg⟩, cz⟩]
      · rw [decide_eq_false (fun y => cz y.2)]
        exact Bool.eq_false_iff.mpr fun y => cz (k0.mpr ⟨rfl, y⟩)
    · rw [decide_eq_false (fun y => hg (hc.mp y.1).2)]
      have e2 : allZ tp (toP tp n i) 401 (tokP tp n i) = if tokP tp n i < toP tp n i then (decide (tp (tokP tp n i) = 48) && allZ tp (toP tp n i) 400 (tokP tp n i + 1)) else true := rfl
      rw [e2, if_pos (by omega), decide_eq_false (fun y => hg (by rw [y]; decide)), Bool.false_and]
end NZ
