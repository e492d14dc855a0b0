set_option maxRecDepth 100000
/-! ===== a new desk ===== -/
theorem none_ite {α : Type} {c : Prop} [Decidable c] {x : α} {y : Option α} : (if c then some x else y) = none ↔ ¬ c ∧ y = none := by
  by_cases h : c
  · rw [if_pos h]
    exact ⟨fun z => (by cases z), fun z => absurd h z.1⟩
  · rw [if_neg h]
    exact ⟨fun z => ⟨h, z⟩, fun z => z.2⟩
section TM
variable {m : tM} {q t0 n0 t1 n1 : Nat}
theorem tMk_1 : ∀ (k b : Nat), (tMk m q t0 n0 t1 n1 k).1 b = if b = q then some (.inr (t0, n0)) else if q < b ∧ b ≤ q + k then some (.inr (t1, n1)) else m.1 b
  | 0, b => by
    show (if b = q then some (Sum.inr (t0, n0)) else m.1 b) = _
    by_cases c : b = q
    · rw [if_pos c, if_pos c]
    · rw [if_neg c, if_neg c, if_neg (by omega)]
  | k + 1, b => by
    show (if b = q + 1 + k then some (Sum.inr (t1, n1)) else (tMk m q t0 n0 t1 n1 k).1 b) = _
    rw [tMk_1 k b]
    by_cases c : b = q + 1 + k
    · rw [if_pos c, if_neg (by omega), if_pos (by omega)]
    · rw [if_neg c]
      by_cases c1 : b = q
      · rw [if_pos c1, if_pos c1]
      · rw [if_neg c1, if_neg c1]
        by_cases c2 : q < b ∧ b ≤ q + k
        · rw [if_pos c2, if_pos (by omega)]
        · rw [if_neg c2, if_neg (by omega)]
theorem tMk_I : ∀ (k b i : Nat), tI (tMk m q t0 n0 t1 n1 k) b i = if q ≤ b ∧ b ≤ q + k then 0 else tI m b i
  | 0, b, i => by
    show (if b = q then (0 : Int32) else m.2.1 b i) = _
    by_cases c : b = q
    · rw [if_pos c, if_pos (by omega)]
    · rw [if_neg c, if_neg (by omega)]
  | k + 1, b, i => by
    show (if b = q + 1 + k then (0 : Int32) else tI (tMk m q t0 n0 t1 n1 k) b i) = _
    rw [tMk_I k b i]
    by_cases c : b = q + 1 + k
    · rw [if_pos c, if_pos (by omega)]
    · rw [if_neg c]
      by_cases c2 : q ≤ b ∧ b ≤ q + k
      · rw [if_pos c2, if_pos (by omega)]
      · rw [if_neg c2, if_neg (by omega)]
theorem tMk_J : ∀ (k b i : Nat), tJ (tMk m q t0 n0 t1 n1 k) b i = if q ≤ b ∧ b ≤ q + k then 0 else tJ m b i
  | 0, b, i => by
    show (if b = q then (0 : Int64) else m.2.2.1 b i) = _
    by_cases c : b = q
    · rw [if_pos c, if_pos (by omega)]
    · rw [if_neg c, if_neg (by omega)]
  | k + 1, b, i => by
    show (if b = q + 1 + k then (0 : Int64) else tJ (tMk m q t0 n0 t1 n1 k) b i) = _
    rw [tMk_J k b i]
    by_cases c : b = q + 1 + k
    · rw [if_pos c, if_pos (by omega)]
    · rw [if_neg c]
      by_cases c2 : q ≤ b ∧ b ≤ q + k
      · rw [if_pos c2, if_pos (by omega)]
      · rw [if_neg c2, if_neg (by omega)]
theorem tMk_R : ∀ (k b i : Nat), tR (tMk m q t0 n0 t1 n1 k) b i = if b = q then (if i < k then q + 1 + i else 0) else if q < b ∧ b ≤ q + k then 0 else tR m b i
  | 0, b, i => by
    show (if b = q then 0 else m.2.2.2 b i) = _
    by_cases c : b = q
    · rw [if_pos c, if_pos c, if_neg (Nat.not_lt_zero _)]
    · rw [if_neg c, if_neg c, if_neg (by omega)]
  | k + 1, b, i => by
    show (if b = q ∧ i = k then q + 1 + k else if b = q + 1 + k then 0 else tR (tMk m q t0 n0 t1 n1 k) b i) = _
    rw [tMk_R k b i]
    by_cases c : b = q
    · by_cases ci : i = k
      · rw [if_pos ⟨c, ci⟩, if_pos c, if_pos (by omega), ci]
      · rw [if_neg (fun z => ci z.2), if_neg (by omega), if_pos c, if_pos c]
        by_cases c2 : i < k
        · rw [if_pos c2, if_pos (by omega)]
        · rw [if_neg c2, if_neg (by omega)]
    · rw [if_neg (fun z => c z.1), if_neg c, if_neg c]
      by_cases c1 : b = q + 1 + k
      · rw [if_pos c1, if_pos (by omega)]
      · rw [if_neg c1]
        by_cases c2 : q < b ∧ b ≤ q + k
        · rw [if_pos c2, if_pos (by omega)]
        · rw [if_neg c2, if_neg (by omega)]
end TM
/-- pairwise apart -/
def ndL : List Nat → Prop
  | [] => True
  | a :: l => (∀ b ∈ l, a ≠ b) ∧ ndL l
def nthL : List Nat → Nat → Nat
  | [], _ => 0
  | a :: _, 0 => a
  | _ :: l, i + 1 => nthL l i
theorem nthL_m : ∀ (l : List Nat) (i : Nat), i < l.length → nthL l i ∈ l
  | [], _, h => absurd h (Nat.not_lt_zero _)
  | a :: l, 0, _ => List.mem_cons_self
  | a :: l, i + 1, h => List.mem_cons_of_mem _ (nthL_m l i (by
    have : (a :: l).length = l.length + 1 := rfl
    omega))
theorem ndL_i : ∀ (l : List Nat), ndL l → ∀ i j, i < j → j < l.length → nthL l i ≠ nthL l j
  | [], _, _, j, _, hj => absurd hj (Nat.not_lt_zero _)
  | a :: l, h, 0, j + 1, _, hj => by
    refine h.1 (nthL l j) (nthL_m l j ?_)
    have : (a :: l).length = l.length + 1 := rfl
    omega
  | a :: l, h, i + 1, j + 1, hij, hj => ndL_i l h.2 i j (by omega) (by
    have : (a :: l).length = l.length + 1 := rfl
    omega)
/-- a desk's cells -/
def dkL (d l t h b u w : Nat) : List Nat := [d, l, t, h, b, u, w, h + 1, h + 2, h + 3, h + 4, h + 5, h + 6]
/-- a new desk: its cells, new since s0, refer to each other -/
def DK (N : tP) (s0 s : tM) (d l t h b u w : Nat) : Prop := ndL (dkL d l t h b u w) ∧ (∀ a ∈ dkL d l t h b u w, s0.1 a = none ∧ a ≠ 0 ∧ a ≠ N.2.2 200) ∧ (s.1 d = some (.inl 1) ∧ s.1 l = some (.inl 20) ∧ s.1 t = some (.inr (0, 5)) ∧ s.1 h = some (.inr (11, 6)) ∧ s.1 b = some (.inl 2) ∧ s.1 u = some (.inr (0, 12)) ∧ s.1 w = some (.inr (0, 12)) ∧ ∀ i, i < 6 → s.1 (h + 1 + i) = some (.inr (0, 2))) ∧ tR s d 0 = l ∧ tR s d 1 = t ∧ tR s d 2 = h ∧ tR s d 3 = b ∧ tR s b 0 = u ∧ tR s b 1 = w ∧ ∀ i, i < 6 → tR s h i = h + 1 + i
/-- and it is blank -/
def DB (N : tP) (s : tM) (d l t h b u w : Nat) : Prop := (tR s l 1 = N.2.2 200 ∧ tI s l 2 = 0) ∧ (tI s t 0 = 0 ∧ tI s t 1 = 1 ∧ tI s t 2 = 0 ∧ tI s t 3 = 0 ∧ tI s t 4 = 24) ∧ (∀ i j, i < 6 → tI s (h + 1 + i) j = 0) ∧ (∀ j, tI s b j = 0 ∧ tI s u j = 0 ∧ tI s w j = 0) ∧ tI s d 4 = 0 ∧ tI s d 5 = 0 ∧ tI s d 6 = -1
section DN
variable {N : tP} {s0 : tM}
theorem rng_n {h x : Nat} (h1 : x ≠ h + 1) (h2 : x ≠ h + 2) (h3 : x ≠ h + 3) (h4 : x ≠ h + 4) (h5 : x ≠ h + 5) (h6 : x ≠ h + 6) : ¬ (h < x ∧ x ≤ h + 6) := by omega
theorem rng_k {h x : Nat} (h0 : x ≠ h) (h1 : x ≠ h + 1) (h2 : x ≠ h + 2) (h3 : x ≠ h + 3) (h4 : x ≠ h + 4) (h5 : x ≠ h + 5) (h6 : x ≠ h + 6) : ¬ (h ≤ x ∧ x ≤ h + 6) := by omega
theorem rng_o {h x j : Nat} (hr : ¬ (h < x ∧ x ≤ h + 6)) (h1 : 1 ≤ j) (h6 : j ≤ 6) : x ≠ h + j := by omega
theorem rng_e {h x : Nat} (hr : ∀ j, j ≤ 6 → h + j ≠ x) : ¬ (h < x ∧ x ≤ h + 6) := fun z => hr (x - h) (by omega) (by omega)
theorem desk_pure {s : tM} {d l t h b u w : Nat} (hnd : ndL (dkL d l t h b u w)) (fr : ∀ a ∈ dkL d l t h b u w, s0.1 a = none ∧ a ≠ 0 ∧ a ≠ N.2.2 200) (g20 : ∀ a, s.1 a = if a = w then some (.inr (0, 12)) else if a = u then some (.inr (0, 12)) else if a = b then some (.inl 2) else if a = h then some (.inr (11, 6)) else if h < a ∧ a ≤ h + 6 then some (.inr (0, 2)) else if a = t then some (.inr (0, 5)) else if a = l then some (.inl 20) else if a = d then some (.inl 1) else s0.1 a) (r20 : ∀ a i, tR s a i = if a = d ∧ i = 3 then b else if a = b ∧ i = 1 then w else if a = w then 0 else if a = b ∧ i = 0 then u else if a = u then 0 else if a = b then 0 else if a = d ∧ i = 2 then h else if a = h then (if i < 6 then h + 1 + i else 0) else if h < a ∧ a ≤ h + 6 then 0 else if a = d ∧ i = 1 then t else if a = t then 0 else if a = d ∧ i = 0 then l else if a = l ∧ i = 1 then N.2.2 200 else if a = l then 0 else if a = d then 0 else tR s0 a i) (i20 : ∀ a i, tI s a i = if a = d ∧ i = 6 then -1 else if a = w then 0 else if a = u then 0 else if a = b then 0 else if h ≤ a ∧ a ≤ h + 6 then 0 else if a = t ∧ i = 4 then 24 else if a = t ∧ i = 3 then 0 else if a = t ∧ i = 2 then 0 else if a = t ∧ i = 1 then 1 else if a = t ∧ i = 0 then 0 else if a = t then 0 else if a = l ∧ i = 0 then 0 else if a = l then 0 else if a = d then 0 else tI s0 a i) (j20 : ∀ a i, tJ s a i = if a = w then 0 else if a = u then 0 else if a = b then 0 else if h ≤ a ∧ a ≤ h + 6 then 0 else if a = t then 0 else if a = l then 0 else if a = d then 0 else tJ s0 a i) : DK N s0 s d l t h b u w ∧ DB N s d l t h b u w ∧ extN N s0 s := by
  have hnd' := hnd
  unfold dkL at hnd
  simp only [ndL, List.mem_cons, List.not_mem_nil, or_false, forall_eq_or_imp, forall_eq] at hnd
  obtain ⟨⟨n_dl, n_dt, n_dh, n_db, n_du, n_dw, n_d1, n_d2, n_d3, n_d4, n_d5, n_d6⟩, ⟨n_lt, n_lh, n_lb, n_lu, n_lw, n_l1, n_l2, n_l3, n_l4, n_l5, n_l6⟩, ⟨n_th, n_tb, n_tu, n_tw, n_t1, n_t2, n_t3, n_t4, n_t5, n_t6⟩, ⟨n_hb, n_hu, n_hw, n_h1, n_h2, n_h3, n_h4, n_h5, n_h6⟩, ⟨n_bu, n_bw, n_b1, n_b2, n_b3, n_b4, n_b5, n_b6⟩, ⟨n_uw, n_u1, n_u2, n_u3, n_u4, n_u5, n_u6⟩, ⟨n_w1, n_w2, n_w3, n_w4, n_w5, n_w6⟩, ⟨n_12, n_13, n_14, n_15, n_16⟩, ⟨n_23, n_24, n_25, n_26⟩, ⟨n_34, n_35, n_36⟩, ⟨n_45, n_46⟩, n_56, -⟩ := hnd
  have n_ld := Ne.symm n_dl
  have n_td := Ne.symm n_dt
  have n_hd := Ne.symm n_dh
  have n_bd := Ne.symm n_db
  have n_ud := Ne.symm n_du
  have n_wd := Ne.symm n_dw
  have n_tl := Ne.symm n_lt
  have n_hl := Ne.symm n_lh
  have n_bl := Ne.symm n_lb
  have n_ul := Ne.symm n_lu
  have n_wl := Ne.symm n_lw
  have n_ht := Ne.symm n_th
  have n_bt := Ne.symm n_tb
  have n_ut := Ne.symm n_tu
  have n_wt := Ne.symm n_tw
  have n_bh := Ne.symm n_hb
  have n_uh := Ne.symm n_hu
  have n_wh := Ne.symm n_hw
  have n_ub := Ne.symm n_bu
  have n_wb := Ne.symm n_bw
  have n_wu := Ne.symm n_uw
  have g_d := rng_n n_d1 n_d2 n_d3 n_d4 n_d5 n_d6
  have k_d := rng_k n_dh n_d1 n_d2 n_d3 n_d4 n_d5 n_d6
  have g_l := rng_n n_l1 n_l2 n_l3 n_l4 n_l5 n_l6
  have k_l := rng_k n_lh n_l1 n_l2 n_l3 n_l4 n_l5 n_l6
  have g_t := rng_n n_t1 n_t2 n_t3 n_t4 n_t5 n_t6
  have k_t := rng_k n_th n_t1 n_t2 n_t3 n_t4 n_t5 n_t6
  have g_b := rng_n n_b1 n_b2 n_b3 n_b4 n_b5 n_b6
  have k_b := rng_k n_bh n_b1 n_b2 n_b3 n_b4 n_b5 n_b6
  have g_u := rng_n n_u1 n_u2 n_u3 n_u4 n_u5 n_u6
  have k_u := rng_k n_uh n_u1 n_u2 n_u3 n_u4 n_u5 n_u6
  have g_w := rng_n n_w1 n_w2 n_w3 n_w4 n_w5 n_w6
  have k_w := rng_k n_wh n_w1 n_w2 n_w3 n_w4 n_w5 n_w6
  have hin : ∀ i, i < 6 → ¬ h + 1 + i = w ∧ ¬ h + 1 + i = u ∧ ¬ h + 1 + i = b ∧ ¬ h + 1 + i = h ∧ ¬ h + 1 + i = d ∧ (h < h + 1 + i ∧ h + 1 + i ≤ h + 6) ∧ h ≤ h + 1 + i ∧ h + 1 + i ≤ h + 6 := fun i hi => ⟨fun z => g_w ⟨by omega, by omega⟩, fun z => g_u ⟨by omega, by omega⟩, fun z => g_b ⟨by omega, by omega⟩, by omega, fun z => g_d ⟨by omega, by omega⟩, ⟨by omega, by omega⟩, by omega, by omega⟩
  refine ⟨⟨hnd', fr, ⟨?_, ?_, ?_, ?_, ?_, ?_, ?_, fun i hi => ?_⟩, ?_, ?_, ?_, ?_, ?_, ?_, fun i hi => ?_⟩, ⟨⟨?_, ?_⟩, ⟨?_, ?_, ?_, ?_, ?_⟩, fun i j hi => ?_, fun j => ⟨?_, ?_, ?_⟩, ?_, ?_, ?_⟩, ?_⟩
  · simp only [g20, n_dl, n_ld, n_dt, n_td, n_dh, n_hd, n_db, n_bd, n_du, n_ud, n_dw, n_wd, n_lt, n_tl, n_lh, n_hl, n_lb, n_bl, n_lu, n_ul, n_lw, n_wl, n_th, n_ht, n_tb, n_bt, n_tu, n_ut, n_tw, n_wt, n_hb, n_bh, n_hu, n_uh, n_hw, n_wh, n_bu, n_ub, n_bw, n_wb, n_uw, n_wu, g_d, k_d, g_l, k_l, g_t, k_t, g_b, k_b, g_u, k_u, g_w, k_w, ne_eq, not_false_eq_true, false_and, and_false, true_and, and_true, and_self, if_true, if_false, Nat.reduceEqDiff, reduceCtorEq]
  · simp only [g20, n_dl, n_ld, n_dt, n_td, n_dh, n_hd, n_db, n_bd, n_du, n_ud, n_dw, n_wd, n_lt, n_tl, n_lh, n_hl, n_lb, n_bl, n_lu, n_ul, n_lw, n_wl, n_th, n_ht, n_tb, n_bt, n_tu, n_ut, n_tw, n_wt, n_hb, n_bh, n_hu, n_uh, n_hw, n_wh, n_bu, n_ub, n_bw, n_wb, n_uw, n_wu, g_d, k_d, g_l, k_l, g_t, k_t, g_b, k_b, g_u, k_u, g_w, k_w, ne_eq, not_false_eq_true, false_and, and_false, true_and, and_true, and_self, if_true, if_false, Nat.reduceEqDiff, reduceCtorEq]
  · simp only [g20, n_dl, n_ld, n_dt, n_td, n_dh, n_hd, n_db, n_bd, n_du, n_ud, n_dw, n_wd, n_lt, n_tl, n_lh, n_hl, n_lb, n_bl, n_lu, n_ul, n_lw, n_wl, n_th, n_ht, n_tb, n_bt, n_tu, n_ut, n_tw, n_wt, n_hb, n_bh, n_hu, n_uh, n_hw, n_wh, n_bu, n_ub, n_bw, n_wb, n_uw, n_wu, g_d, k_d, g_l, k_l, g_t, k_t, g_b, k_b, g_u, k_u, g_w, k_w, ne_eq, not_false_eq_true, false_and, and_false, true_and, and_true, and_self, if_true, if_false, Nat.reduceEqDiff, reduceCtorEq]
  · simp only [g20, n_dl, n_ld, n_dt, n_td, n_dh, n_hd, n_db, n_bd, n_du, n_ud, n_dw, n_wd, n_lt, n_tl, n_lh, n_hl, n_lb, n_bl, n_lu, n_ul, n_lw, n_wl, n_th, n_ht, n_tb, n_bt, n_tu, n_ut, n_tw, n_wt, n_hb, n_bh, n_hu, n_uh, n_hw, n_wh, n_bu, n_ub, n_bw, n_wb, n_uw, n_wu, g_d, k_d, g_l, k_l, g_t, k_t, g_b, k_b, g_u, k_u, g_w, k_w, ne_eq, not_false_eq_true, false_and, and_false, true_and, and_true, and_self, if_true, if_false, Nat.reduceEqDiff, reduceCtorEq]
  · simp only [g20, n_dl, n_ld, n_dt, n_td, n_dh, n_hd, n_db, n_bd, n_du, n_ud, n_dw, n_wd, n_lt, n_tl, n_lh, n_hl, n_lb, n_bl, n_lu, n_ul, n_lw, n_wl, n_th, n_ht, n_tb, n_bt, n_tu, n_ut, n_tw, n_wt, n_hb, n_bh, n_hu, n_uh, n_hw, n_wh, n_bu, n_ub, n_bw, n_wb, n_uw, n_wu, g_d, k_d, g_l, k_l, g_t, k_t, g_b, k_b, g_u, k_u, g_w, k_w, ne_eq, not_false_eq_true, false_and, and_false, true_and, and_true, and_self, if_true, if_false, Nat.reduceEqDiff, reduceCtorEq]
  · simp only [g20, n_dl, n_ld, n_dt, n_td, n_dh, n_hd, n_db, n_bd, n_du, n_ud, n_dw, n_wd, n_lt, n_tl, n_lh, n_hl, n_lb, n_bl, n_lu, n_ul, n_lw, n_wl, n_th, n_ht, n_tb, n_bt, n_tu, n_ut, n_tw, n_wt, n_hb, n_bh, n_hu, n_uh, n_hw, n_wh, n_bu, n_ub, n_bw, n_wb, n_uw, n_wu, g_d, k_d, g_l, k_l, g_t, k_t, g_b, k_b, g_u, k_u, g_w, k_w, ne_eq, not_false_eq_true, false_and, and_false, true_and, and_true, and_self, if_true, if_false, Nat.reduceEqDiff, reduceCtorEq]
  · simp only [g20, n_dl, n_ld, n_dt, n_td, n_dh, n_hd, n_db, n_bd, n_du, n_ud, n_dw, n_wd, n_lt, n_tl, n_lh, n_hl, n_lb, n_bl, n_lu, n_ul, n_lw, n_wl, n_th, n_ht, n_tb, n_bt, n_tu, n_ut, n_tw, n_wt, n_hb, n_bh, n_hu, n_uh, n_hw, n_wh, n_bu, n_ub, n_bw, n_wb, n_uw, n_wu, g_d, k_d, g_l, k_l, g_t, k_t, g_b, k_b, g_u, k_u, g_w, k_w, ne_eq, not_false_eq_true, false_and, and_false, true_and, and_true, and_self, if_true, if_false, Nat.reduceEqDiff, reduceCtorEq]
  · obtain ⟨c1, c2, c3, c4, c5, c6, c7⟩ := hin i hi
    rw [g20, if_neg c1, if_neg c2, if_neg c3, if_neg c4, if_pos c6]
  · simp only [r20, n_dl, n_ld, n_dt, n_td, n_dh, n_hd, n_db, n_bd, n_du, n_ud, n_dw, n_wd, n_lt, n_tl, n_lh, n_hl, n_lb, n_bl, n_lu, n_ul, n_lw, n_wl, n_th, n_ht, n_tb, n_bt, n_tu, n_ut, n_tw, n_wt, n_hb, n_bh, n_hu, n_uh, n_hw, n_wh, n_bu, n_ub, n_bw, n_wb, n_uw, n_wu, g_d, k_d, g_l, k_l, g_t, k_t, g_b, k_b, g_u, k_u, g_w, k_w, ne_eq, not_false_eq_true, false_and, and_false, true_and, and_true, and_self, if_true, if_false, Nat.reduceEqDiff, reduceCtorEq]
  · simp only [r20, n_dl, n_ld, n_dt, n_td, n_dh, n_hd, n_db, n_bd, n_du, n_ud, n_dw, n_wd, n_lt, n_tl, n_lh, n_hl, n_lb, n_bl, n_lu, n_ul, n_lw, n_wl, n_th, n_ht, n_tb, n_bt, n_tu, n_ut, n_tw, n_wt, n_hb, n_bh, n_hu, n_uh, n_hw, n_wh, n_bu, n_ub, n_bw, n_wb, n_uw, n_wu, g_d, k_d, g_l, k_l, g_t, k_t, g_b, k_b, g_u, k_u, g_w, k_w, ne_eq, not_false_eq_true, false_and, and_false, true_and, and_true, and_self, if_true, if_false, Nat.reduceEqDiff, reduceCtorEq]
  · simp only [r20, n_dl, n_ld, n_dt, n_td, n_dh, n_hd, n_db, n_bd, n_du, n_ud, n_dw, n_wd, n_lt, n_tl, n_lh, n_hl, n_lb, n_bl, n_lu, n_ul, n_lw, n_wl, n_th, n_ht, n_tb, n_bt, n_tu, n_ut, n_tw, n_wt, n_hb, n_bh, n_hu, n_uh, n_hw, n_wh, n_bu, n_ub, n_bw, n_wb, n_uw, n_wu, g_d, k_d, g_l, k_l, g_t, k_t, g_b, k_b, g_u, k_u, g_w, k_w, ne_eq, not_false_eq_true, false_and, and_false, true_and, and_true, and_self, if_true, if_false, Nat.reduceEqDiff, reduceCtorEq]
  · simp only [r20, n_dl, n_ld, n_dt, n_td, n_dh, n_hd, n_db, n_bd, n_du, n_ud, n_dw, n_wd, n_lt, n_tl, n_lh, n_hl, n_lb, n_bl, n_lu, n_ul, n_lw, n_wl, n_th, n_ht, n_tb, n_bt, n_tu, n_ut, n_tw, n_wt, n_hb, n_bh, n_hu, n_uh, n_hw, n_wh, n_bu, n_ub, n_bw, n_wb, n_uw, n_wu, g_d, k_d, g_l, k_l, g_t, k_t, g_b, k_b, g_u, k_u, g_w, k_w, ne_eq, not_false_eq_true, false_and, and_false, true_and, and_true, and_self, if_true, if_false, Nat.reduceEqDiff, reduceCtorEq]
  · simp only [r20, n_dl, n_ld, n_dt, n_td, n_dh, n_hd, n_db, n_bd, n_du, n_ud, n_dw, n_wd, n_lt, n_tl, n_lh, n_hl, n_lb, n_bl, n_lu, n_ul, n_lw, n_wl, n_th, n_ht, n_tb, n_bt, n_tu, n_ut, n_tw, n_wt, n_hb, n_bh, n_hu, n_uh, n_hw, n_wh, n_bu, n_ub, n_bw, n_wb, n_uw, n_wu, g_d, k_d, g_l, k_l, g_t, k_t, g_b, k_b, g_u, k_u, g_w, k_w, ne_eq, not_false_eq_true, false_and, and_false, true_and, and_true, and_self, if_true, if_false, Nat.reduceEqDiff, reduceCtorEq]
  · simp only [r20, n_dl, n_ld, n_dt, n_td, n_dh, n_hd, n_db, n_bd, n_du, n_ud, n_dw, n_wd, n_lt, n_tl, n_lh, n_hl, n_lb, n_bl, n_lu, n_ul, n_lw, n_wl, n_th, n_ht, n_tb, n_bt, n_tu, n_ut, n_tw, n_wt, n_hb, n_bh, n_hu, n_uh, n_hw, n_wh, n_bu, n_ub, n_bw, n_wb, n_uw, n_wu, g_d, k_d, g_l, k_l, g_t, k_t, g_b, k_b, g_u, k_u, g_w, k_w, ne_eq, not_false_eq_true, false_and, and_false, true_and, and_true, and_self, if_true, if_false, Nat.reduceEqDiff, reduceCtorEq]
  · rw [r20, if_neg (fun z => n_hd z.1), if_neg (fun z => n_hb z.1), if_neg n_hw, if_neg (fun z => n_hb z.1), if_neg n_hu, if_neg n_hb, if_neg (fun z => n_hd z.1), if_pos rfl, if_pos hi]
  · simp only [r20, n_dl, n_ld, n_dt, n_td, n_dh, n_hd, n_db, n_bd, n_du, n_ud, n_dw, n_wd, n_lt, n_tl, n_lh, n_hl, n_lb, n_bl, n_lu, n_ul, n_lw, n_wl, n_th, n_ht, n_tb, n_bt, n_tu, n_ut, n_tw, n_wt, n_hb, n_bh, n_hu, n_uh, n_hw, n_wh, n_bu, n_ub, n_bw, n_wb, n_uw, n_wu, g_d, k_d, g_l, k_l, g_t, k_t, g_b, k_b, g_u, k_u, g_w, k_w, ne_eq, not_false_eq_true, false_and, and_false, true_and, and_true, and_self, if_true, if_false, Nat.reduceEqDiff, reduceCtorEq]
  · simp only [i20, n_dl, n_ld, n_dt, n_td, n_dh, n_hd, n_db, n_bd, n_du, n_ud, n_dw, n_wd, n_lt, n_tl, n_lh, n_hl, n_lb, n_bl, n_lu, n_ul, n_lw, n_wl, n_th, n_ht, n_tb, n_bt, n_tu, n_ut, n_tw, n_wt, n_hb, n_bh, n_hu, n_uh, n_hw, n_wh, n_bu, n_ub, n_bw, n_wb, n_uw, n_wu, g_d, k_d, g_l, k_l, g_t, k_t, g_b, k_b, g_u, k_u, g_w, k_w, ne_eq, not_false_eq_true, false_and, and_false, true_and, and_true, and_self, if_true, if_false, Nat.reduceEqDiff, reduceCtorEq]
  · simp only [i20, n_dl, n_ld, n_dt, n_td, n_dh, n_hd, n_db, n_bd, n_du, n_ud, n_dw, n_wd, n_lt, n_tl, n_lh, n_hl, n_lb, n_bl, n_lu, n_ul, n_lw, n_wl, n_th, n_ht, n_tb, n_bt, n_tu, n_ut, n_tw, n_wt, n_hb, n_bh, n_hu, n_uh, n_hw, n_wh, n_bu, n_ub, n_bw, n_wb, n_uw, n_wu, g_d, k_d, g_l, k_l, g_t, k_t, g_b, k_b, g_u, k_u, g_w, k_w, ne_eq, not_false_eq_true, false_and, and_false, true_and, and_true, and_self, if_true, if_false, Nat.reduceEqDiff, reduceCtorEq]
  · simp only [i20, n_dl, n_ld, n_dt, n_td, n_dh, n_hd, n_db, n_bd, n_du, n_ud, n_dw, n_wd, n_lt, n_tl, n_lh, n_hl, n_lb, n_bl, n_lu, n_ul, n_lw, n_wl, n_th, n_ht, n_tb, n_bt, n_tu, n_ut, n_tw, n_wt, n_hb, n_bh, n_hu, n_uh, n_hw, n_wh, n_bu, n_ub, n_bw, n_wb, n_uw, n_wu, g_d, k_d, g_l, k_l, g_t, k_t, g_b, k_b, g_u, k_u, g_w, k_w, ne_eq, not_false_eq_true, false_and, and_false, true_and, and_true, and_self, if_true, if_false, Nat.reduceEqDiff, reduceCtorEq]
  · simp only [i20, n_dl, n_ld, n_dt, n_td, n_dh, n_hd, n_db, n_bd, n_du, n_ud, n_dw, n_wd, n_lt, n_tl, n_lh, n_hl, n_lb, n_bl, n_lu, n_ul, n_lw, n_wl, n_th, n_ht, n_tb, n_bt, n_tu, n_ut, n_tw, n_wt, n_hb, n_bh, n_hu, n_uh, n_hw, n_wh, n_bu, n_ub, n_bw, n_wb, n_uw, n_wu, g_d, k_d, g_l, k_l, g_t, k_t, g_b, k_b, g_u, k_u, g_w, k_w, ne_eq, not_false_eq_true, false_and, and_false, true_and, and_true, and_self, if_true, if_false, Nat.reduceEqDiff, reduceCtorEq]
  · simp only [i20, n_dl, n_ld, n_dt, n_td, n_dh, n_hd, n_db, n_bd, n_du, n_ud, n_dw, n_wd, n_lt, n_tl, n_lh, n_hl, n_lb, n_bl, n_lu, n_ul, n_lw, n_wl, n_th, n_ht, n_tb, n_bt, n_tu, n_ut, n_tw, n_wt, n_hb, n_bh, n_hu, n_uh, n_hw, n_wh, n_bu, n_ub, n_bw, n_wb, n_uw, n_wu, g_d, k_d, g_l, k_l, g_t, k_t, g_b, k_b, g_u, k_u, g_w, k_w, ne_eq, not_false_eq_true, false_and, and_false, true_and, and_true, and_self, if_true, if_false, Nat.reduceEqDiff, reduceCtorEq]
  · simp only [i20, n_dl, n_ld, n_dt, n_td, n_dh, n_hd, n_db, n_bd, n_du, n_ud, n_dw, n_wd, n_lt, n_tl, n_lh, n_hl, n_lb, n_bl, n_lu, n_ul, n_lw, n_wl, n_th, n_ht, n_tb, n_bt, n_tu, n_ut, n_tw, n_wt, n_hb, n_bh, n_hu, n_uh, n_hw, n_wh, n_bu, n_ub, n_bw, n_wb, n_uw, n_wu, g_d, k_d, g_l, k_l, g_t, k_t, g_b, k_b, g_u, k_u, g_w, k_w, ne_eq, not_false_eq_true, false_and, and_false, true_and, and_true, and_self, if_true, if_false, Nat.reduceEqDiff, reduceCtorEq]
  · obtain ⟨c1, c2, c3, c4, c5, c6, c7⟩ := hin i hi
    rw [i20, if_neg (fun z => c5 z.1), if_neg c1, if_neg c2, if_neg c3, if_pos c7]
  · simp only [i20, n_dl, n_ld, n_dt, n_td, n_dh, n_hd, n_db, n_bd, n_du, n_ud, n_dw, n_wd, n_lt, n_tl, n_lh, n_hl, n_lb, n_bl, n_lu, n_ul, n_lw, n_wl, n_th, n_ht, n_tb, n_bt, n_tu, n_ut, n_tw, n_wt, n_hb, n_bh, n_hu, n_uh, n_hw, n_wh, n_bu, n_ub, n_bw, n_wb, n_uw, n_wu, g_d, k_d, g_l, k_l, g_t, k_t, g_b, k_b, g_u, k_u, g_w, k_w, ne_eq, not_false_eq_true, false_and, and_false, true_and, and_true, and_self, if_true, if_false, Nat.reduceEqDiff, reduceCtorEq]
  · simp only [i20, n_dl, n_ld, n_dt, n_td, n_dh, n_hd, n_db, n_bd, n_du, n_ud, n_dw, n_wd, n_lt, n_tl, n_lh, n_hl, n_lb, n_bl, n_lu, n_ul, n_lw, n_wl, n_th, n_ht, n_tb, n_bt, n_tu, n_ut, n_tw, n_wt, n_hb, n_bh, n_hu, n_uh, n_hw, n_wh, n_bu, n_ub, n_bw, n_wb, n_uw, n_wu, g_d, k_d, g_l, k_l, g_t, k_t, g_b, k_b, g_u, k_u, g_w, k_w, ne_eq, not_false_eq_true, false_and, and_false, true_and, and_true, and_self, if_true, if_false, Nat.reduceEqDiff, reduceCtorEq]
  · simp only [i20, n_dl, n_ld, n_dt, n_td, n_dh, n_hd, n_db, n_bd, n_du, n_ud, n_dw, n_wd, n_lt, n_tl, n_lh, n_hl, n_lb, n_bl, n_lu, n_ul, n_lw, n_wl, n_th, n_ht, n_tb, n_bt, n_tu, n_ut, n_tw, n_wt, n_hb, n_bh, n_hu, n_uh, n_hw, n_wh, n_bu, n_ub, n_bw, n_wb, n_uw, n_wu, g_d, k_d, g_l, k_l, g_t, k_t, g_b, k_b, g_u, k_u, g_w, k_w, ne_eq, not_false_eq_true, false_and, and_false, true_and, and_true, and_self, if_true, if_false, Nat.reduceEqDiff, reduceCtorEq]
  · simp only [i20, n_dl, n_ld, n_dt, n_td, n_dh, n_hd, n_db, n_bd, n_du, n_ud, n_dw, n_wd, n_lt, n_tl, n_lh, n_hl, n_lb, n_bl, n_lu, n_ul, n_lw, n_wl, n_th, n_ht, n_tb, n_bt, n_tu, n_ut, n_tw, n_wt, n_hb, n_bh, n_hu, n_uh, n_hw, n_wh, n_bu, n_ub, n_bw, n_wb, n_uw, n_wu, g_d, k_d, g_l, k_l, g_t, k_t, g_b, k_b, g_u, k_u, g_w, k_w, ne_eq, not_false_eq_true, false_and, and_false, true_and, and_true, and_self, if_true, if_false, Nat.reduceEqDiff, reduceCtorEq]
  · simp only [i20, n_dl, n_ld, n_dt, n_td, n_dh, n_hd, n_db, n_bd, n_du, n_ud, n_dw, n_wd, n_lt, n_tl, n_lh, n_hl, n_lb, n_bl, n_lu, n_ul, n_lw, n_wl, n_th, n_ht, n_tb, n_bt, n_tu, n_ut, n_tw, n_wt, n_hb, n_bh, n_hu, n_uh, n_hw, n_wh, n_bu, n_ub, n_bw, n_wb, n_uw, n_wu, g_d, k_d, g_l, k_l, g_t, k_t, g_b, k_b, g_u, k_u, g_w, k_w, ne_eq, not_false_eq_true, false_and, and_false, true_and, and_true, and_self, if_true, if_false, Nat.reduceEqDiff, reduceCtorEq]
  · simp only [i20, n_dl, n_ld, n_dt, n_td, n_dh, n_hd, n_db, n_bd, n_du, n_ud, n_dw, n_wd, n_lt, n_tl, n_lh, n_hl, n_lb, n_bl, n_lu, n_ul, n_lw, n_wl, n_th, n_ht, n_tb, n_bt, n_tu, n_ut, n_tw, n_wt, n_hb, n_bh, n_hu, n_uh, n_hw, n_wh, n_bu, n_ub, n_bw, n_wb, n_uw, n_wu, g_d, k_d, g_l, k_l, g_t, k_t, g_b, k_b, g_u, k_u, g_w, k_w, ne_eq, not_false_eq_true, false_and, and_false, true_and, and_true, and_self, if_true, if_false, Nat.reduceEqDiff, reduceCtorEq]
  · intro a ha
    have hna : a ∉ dkL d l t h b u w := fun z => by
      obtain ⟨z1, -, z3⟩ := fr a z
      rcases ha with ha | ha
      · exact ha z1
      · exact z3 ha
    clear fr hnd' hin
    unfold dkL at hna
    simp only [List.mem_cons, List.not_mem_nil, or_false, not_or] at hna
    obtain ⟨n1, n2, n3, n4, n5, n6, n7, n8, n9, n10, n11, n12, n13⟩ := hna
    have nh := rng_n n8 n9 n10 n11 n12 n13
    have nk := rng_k n4 n8 n9 n10 n11 n12 n13
    refine ⟨?_, funext fun i => ?_, funext fun i => ?_, funext fun i => ?_⟩
    · rw [g20, if_neg n7, if_neg n6, if_neg n5, if_neg n4, if_neg nh, if_neg n3, if_neg n2, if_neg n1]
    · show tI s a i = tI s0 a i
      rw [i20, if_neg (fun z => n1 z.1), if_neg n7, if_neg n6, if_neg n5, if_neg nk, if_neg (fun z => n3 z.1), if_neg (fun z => n3 z.1), if_neg (fun z => n3 z.1), if_neg (fun z => n3 z.1), if_neg (fun z => n3 z.1), if_neg n3, if_neg (fun z => n2 z.1), if_neg n2, if_neg n1]
    · show tJ s a i = tJ s0 a i
      rw [j20, if_neg n7, if_neg n6, if_neg n5, if_neg nk, if_neg n3, if_neg n2, if_neg n1]
    · show tR s a i = tR s0 a i
      rw [r20, if_neg (fun z => n1 z.1), if_neg (fun z => n5 z.1), if_neg n7, if_neg (fun z => n5 z.1), if_neg n6, if_neg n5, if_neg (fun z => n1 z.1), if_neg n4, if_neg nh, if_neg (fun z => n1 z.1), if_neg n3, if_neg (fun z => n1 z.1), if_neg (fun z => n2 z.1), if_neg n2, if_neg n1]
theorem v_deskNewS {d : Nat} (hd : s0.1 d = none) (hd0 : ¬ d = 0) (hd2 : ¬ d = N.2.2 200) {k n : Nat} (hk : 12 ≤ k) (hn : 54 ≤ n) {K : tM → Prop} (hK : ∀ s1 l t h b u w, DK N s0 s1 d l t h b u w → DB N s1 d l t h b u w → extN N s0 s1 → K s1) : v_X1_init N d k n (tNew s0 d (.inl 1)) K := by
  unfold v_X1_init
  have od : tO (tNew s0 d (.inl 1)) 1 d := ⟨if_pos rfl, hd0⟩
  have b1 : 1 ≤ k ∧ 3 ≤ n ∧ 1 ≤ k - 1 ∧ 5 ≤ n - 3 ∧ 7 ≤ k - 1 - 1 ∧ 18 ≤ n - 3 - 5 ∧ 1 ≤ k - 1 - 1 - 7 ∧ 4 ≤ n - 3 - 5 - 18 ∧ 2 ≤ k - 1 - 1 - 7 - 1 ∧ 24 ≤ n - 3 - 5 - 18 - 4 := by omega
  obtain ⟨b1, b2, b3, b4, b5, b6, b7, b8, b9, b10⟩ := b1
  refine ⟨od, b1, b2, fun l hl hl0 hl2 s1 e1 => ?_⟩
  have nl : l ≠ d ∧ s0.1 l = none := none_ite.mp hl
  have ol : tO s1 20 l := by rw [e1]; exact ⟨if_pos rfl, hl0⟩
  unfold v_J2_init v_J1_init v_J0_init
  refine ⟨ol, ol, ol, ol, fun s2 e2 => ⟨by rw [e2]; exact ol, fun s3 e3 => ⟨?_, fun s4 e4 => ?_⟩⟩⟩
  · rw [e3, e2, e1]
    exact ⟨(if_neg (fun z => nl.1 z.symm)).trans (if_pos rfl), hd0⟩
  have g4 : ∀ a, s4.1 a = if a = l then some (.inl 20) else if a = d then some (.inl 1) else s0.1 a := fun a => by
    rw [e4, e3, e2, e1]
    rfl
  refine ⟨b3, b4, fun t ht ht0 ht2 s5 e5 => ?_⟩
  rw [g4, none_ite, none_ite] at ht
  obtain ⟨t1, t2, t3⟩ := ht
  have x5 : ∀ i, i < 5 → ∀ s, s.1 t = some (.inr (0, 5)) → tX s 0 t (nI i) := fun i hi s hs => ⟨5, ⟨hs, ht0⟩, vpk hi (by decide)⟩
  have g5 : ∀ a, s5.1 a = if a = t then some (.inr (0, 5)) else s4.1 a := fun a => by
    rw [e5]
    rfl
  have ht5 : s5.1 t = some (.inr (0, 5)) := (g5 t).trans (if_pos rfl)
  refine ⟨x5 0 (by decide) _ ht5, fun s6 e6 => ⟨x5 1 (by decide) _ (by rw [e6]; exact ht5), fun s7 e7 => ⟨x5 2 (by decide) _ (by rw [e7, e6]; exact ht5), fun s8 e8 => ⟨x5 3 (by decide) _ (by rw [e8, e7, e6]; exact ht5), fun s9 e9 => ⟨x5 4 (by decide) _ (by rw [e9, e8, e7, e6]; exact ht5), fun s10 e10 => ?_⟩⟩⟩⟩⟩
  have g10 : ∀ a, s10.1 a = s5.1 a := fun a => by
    rw [e10, e9, e8, e7, e6]
    rfl
  have od10 : tO s10 1 d := ⟨by rw [g10, g5, if_neg (fun z => t2 z.symm), g4, if_neg (fun z => nl.1 z.symm), if_pos rfl], hd0⟩
  refine ⟨od10, fun s11 e11 => ⟨b5, b6, fun h hh hh0 hh2 s12 e12 => ?_⟩⟩
  have g11 : ∀ a, s11.1 a = if a = t then some (.inr (0, 5)) else if a = l then some (.inl 20) else if a = d then some (.inl 1) else s0.1 a := fun a => by
    rw [e11, show (tsR s10 d 1 t).1 a = s10.1 a from rfl, g10, g5, g4]
  have hj : ∀ j, j ≤ 6 → h + j ≠ t ∧ h + j ≠ l ∧ h + j ≠ d ∧ s0.1 (h + j) = none := fun j hj => by
    have := hh j hj
    rw [g11, none_ite, none_ite, none_ite] at this
    exact this
  have h0 := hj 0 (Nat.zero_le _)
  rw [Nat.add_zero] at h0
  obtain ⟨h0t, h0l, h0d, h0n⟩ := h0
  have gd := rng_e (h := h) (x := d) (fun j a => (hj j a).2.2.1)
  have gl := rng_e (h := h) (x := l) (fun j a => (hj j a).2.1)
  have gt := rng_e (h := h) (x := t) (fun j a => (hj j a).1)
  have g12 : ∀ a, s12.1 a = if a = h then some (.inr (11, 6)) else if h < a ∧ a ≤ h + 6 then some (.inr (0, 2)) else s11.1 a := fun a => by
    rw [e12]
    exact tMk_1 6 a
  have hd12 : s12.1 d = some (.inl 1) := by
    rw [g12, if_neg (fun z => h0d z.symm), if_neg gd, g11, if_neg (fun z => t2 z.symm), if_neg (fun z => nl.1 z.symm), if_pos rfl]
  refine ⟨⟨hd12, hd0⟩, fun s13 e13 => ⟨b7, b8, fun b hb hb0 hb2 s14 e14 => ⟨2, 24, b9, b10, ?_⟩⟩⟩
  have g13 : ∀ a, s13.1 a = s12.1 a := fun a => by rw [e13]; rfl
  rw [g13, g12, none_ite, none_ite, g11, none_ite, none_ite, none_ite] at hb
  obtain ⟨bh, br, bt, bl, bd, bn⟩ := hb
  have g14 : ∀ a, s14.1 a = if a = b then some (.inl 2) else s12.1 a := fun a => by
    rw [e14]
    show (if a = b then some (Sum.inl 2) else s13.1 a) = _
    rw [g13]
  have ob : ∀ s, s.1 b = some (.inl 2) → tO s 2 b := fun s hs => ⟨hs, hb0⟩
  have hb14 : s14.1 b = some (.inl 2) := (g14 b).trans (if_pos rfl)
  unfold v_X2_init
  refine ⟨ob _ hb14, by decide, by decide, fun u hu hu0 hu2 s15 e15 => ?_⟩
  rw [g14, none_ite, g12, none_ite, none_ite, g11, none_ite, none_ite, none_ite] at hu
  obtain ⟨ub, uh, ur, ut, ul, ud, un⟩ := hu
  have g15 : ∀ a, s15.1 a = if a = u then some (.inr (0, 12)) else s14.1 a := fun a => by
    rw [e15]
    rfl
  have hb15 : s15.1 b = some (.inl 2) := by rw [g15, if_neg (fun z => ub z.symm)]; exact hb14
  refine ⟨ob _ hb15, fun s16 e16 => ⟨by decide, by decide, fun w hw hw0 hw2 s17 e17 => ?_⟩⟩
  have g16 : ∀ a, s16.1 a = s15.1 a := fun a => by rw [e16]; rfl
  rw [g16, g15, none_ite, g14, none_ite, g12, none_ite, none_ite, g11, none_ite, none_ite, none_ite] at hw
  obtain ⟨wu, wb, wh, wr, wt, wl, wd, wn⟩ := hw
  have g17 : ∀ a, s17.1 a = if a = w then some (.inr (0, 12)) else if a = u then some (.inr (0, 12)) else if a = b then some (.inl 2) else if a = h then some (.inr (11, 6)) else if h < a ∧ a ≤ h + 6 then some (.inr (0, 2)) else if a = t then some (.inr (0, 5)) else if a = l then some (.inl 20) else if a = d then some (.inl 1) else s0.1 a := fun a => by
    rw [e17]
    show (if a = w then some (Sum.inr (0, 12)) else s16.1 a) = _
    rw [g16, g15, g14, g12, g11]
  have hb17 : s17.1 b = some (.inl 2) := by rw [g17, if_neg (fun z => wb z.symm), if_neg (fun z => ub z.symm), if_pos rfl]
  refine ⟨ob _ hb17, fun s18 e18 => ?_⟩
  have g18 : ∀ a, s18.1 a = s17.1 a := fun a => by rw [e18]; rfl
  have hd17 : s17.1 d = some (.inl 1) := by
    rw [g17, if_neg (fun z => wd z.symm), if_neg (fun z => ud z.symm), if_neg (fun z => bd z.symm), if_neg (fun z => h0d z.symm), if_neg gd, if_neg (fun z => t2 z.symm), if_neg (fun z => nl.1 z.symm), if_pos rfl]
  refine ⟨⟨by rw [g18]; exact hd17, hd0⟩, fun s19 e19 s20 e20 => ?_⟩
  have g20 : ∀ a, s20.1 a = s17.1 a := fun a => by
    rw [e20, e19]
    exact g18 a
  have r12 : ∀ a i, tR s12 a i = if a = h then (if i < 6 then h + 1 + i else 0) else if h < a ∧ a ≤ h + 6 then 0 else tR s11 a i := fun a i => by
    rw [e12]
    exact tMk_R 6 a i
  have r11 : ∀ a i, tR s11 a i = if a = d ∧ i = 1 then t else if a = t then 0 else if a = d ∧ i = 0 then l else if a = l ∧ i = 1 then N.2.2 200 else if a = l then 0 else if a = d then 0 else tR s0 a i := fun a i => by
    rw [e11, e10, e9, e8, e7, e6, e5, e4, e3, e2, e1]
    rfl
  have r20 : ∀ a i, tR s20 a i = if a = d ∧ i = 3 then b else if a = b ∧ i = 1 then w else if a = w then 0 else if a = b ∧ i = 0 then u else if a = u then 0 else if a = b then 0 else if a = d ∧ i = 2 then h else tR s12 a i := fun a i => by
    rw [e20, e19, e18, e17, e16, e15, e14, e13]
    rfl
  have i12 : ∀ a i, tI s12 a i = if h ≤ a ∧ a ≤ h + 6 then 0 else tI s11 a i := fun a i => by
    rw [e12]
    exact tMk_I 6 a i
  have i11 : ∀ a i, tI s11 a i = if a = t ∧ i = 4 then 24 else if a = t ∧ i = 3 then 0 else if a = t ∧ i = 2 then 0 else if a = t ∧ i = 1 then 1 else if a = t ∧ i = 0 then 0 else if a = t then 0 else if a = l ∧ i = 0 then 0 else if a = l then 0 else if a = d then 0 else tI s0 a i := fun a i => by
    rw [e11, e10, e9, e8, e7, e6, e5, e4, e3, e2, e1]
    rfl
  have i20 : ∀ a i, tI s20 a i = if a = d ∧ i = 6 then -1 else if a = w then 0 else if a = u then 0 else if a = b then 0 else tI s12 a i := fun a i => by
    rw [e20, e19, e18, e17, e16, e15, e14, e13]
    rfl
  have j12 : ∀ a i, tJ s12 a i = if h ≤ a ∧ a ≤ h + 6 then 0 else tJ s11 a i := fun a i => by
    rw [e12]
    exact tMk_J 6 a i
  have j11 : ∀ a i, tJ s11 a i = if a = t then 0 else if a = l then 0 else if a = d then 0 else tJ s0 a i := fun a i => by
    rw [e11, e10, e9, e8, e7, e6, e5, e4, e3, e2, e1]
    rfl
  have j20 : ∀ a i, tJ s20 a i = if a = w then 0 else if a = u then 0 else if a = b then 0 else tJ s12 a i := fun a i => by
    rw [e20, e19, e18, e17, e16, e15, e14, e13]
    rfl
  have hndl : ndL (dkL d l t h b u w) := by
    unfold dkL
    simp only [ndL, List.mem_cons, List.not_mem_nil, or_false, forall_eq_or_imp, forall_eq]
    have hjd : ∀ j, j ≤ 6 → d ≠ h + j := fun j a z => (hj j a).2.2.1 z.symm
    have hjl : ∀ j, j ≤ 6 → l ≠ h + j := fun j a z => (hj j a).2.1 z.symm
    have hjt : ∀ j, j ≤ 6 → t ≠ h + j := fun j a z => (hj j a).1 z.symm
    have hjb : ∀ j, 1 ≤ j → j ≤ 6 → b ≠ h + j := fun j a c => rng_o br a c
    have hju : ∀ j, 1 ≤ j → j ≤ 6 → u ≠ h + j := fun j a c => rng_o ur a c
    have hjw : ∀ j, 1 ≤ j → j ≤ 6 → w ≠ h + j := fun j a c => rng_o wr a c
    clear hj hh hh2 b1 b2 b3 b4 b5 b6 b7 b8 b9 b10
    refine ⟨⟨nl.1.symm, Ne.symm t2, Ne.symm h0d, Ne.symm bd, Ne.symm ud, Ne.symm wd, hjd 1 (by decide), hjd 2 (by decide), hjd 3 (by decide), hjd 4 (by decide), hjd 5 (by decide), hjd 6 (by decide)⟩, ⟨Ne.symm t1, Ne.symm h0l, Ne.symm bl, Ne.symm ul, Ne.symm wl, hjl 1 (by decide), hjl 2 (by decide), hjl 3 (by decide), hjl 4 (by decide), hjl 5 (by decide), hjl 6 (by decide)⟩, ⟨Ne.symm h0t, Ne.symm bt, Ne.symm ut, Ne.symm wt, hjt 1 (by decide), hjt 2 (by decide), hjt 3 (by decide), hjt 4 (by decide), hjt 5 (by decide), hjt 6 (by decide)⟩, ⟨Ne.symm bh, Ne.symm uh, Ne.symm wh, ?_⟩, ⟨Ne.symm ub, Ne.symm wb, hjb 1 (by decide) (by decide), hjb 2 (by decide) (by decide), hjb 3 (by decide) (by decide), hjb 4 (by decide) (by decide), hjb 5 (by decide) (by decide), hjb 6 (by decide) (by decide)⟩, ⟨Ne.symm wu, hju 1 (by decide) (by decide), hju 2 (by decide) (by decide), hju 3 (by decide) (by decide), hju 4 (by decide) (by decide), hju 5 (by decide) (by decide), hju 6 (by decide) (by decide)⟩, ⟨hjw 1 (by decide) (by decide), hjw 2 (by decide) (by decide), hjw 3 (by decide) (by decide), hjw 4 (by decide) (by decide), hjw 5 (by decide) (by decide), hjw 6 (by decide) (by decide)⟩, ?_⟩
    · clear nl t1 t2 h0t h0l h0d bh br bt bl bd ub uh ur ut ul ud wu wb wh wr wt wl wd hjd hjl hjt hjb hju hjw gd gl gt
      omega
    · clear nl t1 t2 h0t h0l h0d bh br bt bl bd ub uh ur ut ul ud wu wb wh wr wt wl wd hjd hjl hjt hjb hju hjw gd gl gt
      refine ⟨?_, ?_, ?_, ?_, ?_, ?_⟩ <;> simp
  have fr : ∀ a ∈ dkL d l t h b u w, s0.1 a = none ∧ a ≠ 0 ∧ a ≠ N.2.2 200 := by
    have hz : ∀ j, j ≤ 6 → s0.1 (h + j) = none ∧ h + j ≠ 0 ∧ h + j ≠ N.2.2 200 := fun j hj2 => ⟨(hj j hj2).2.2.2, fun z => hh0 (Nat.eq_zero_of_add_eq_zero_right z), hh2 j⟩
    have h00 := hz 0 (Nat.zero_le _)
    rw [Nat.add_zero] at h00
    unfold dkL
    simp only [List.mem_cons, List.not_mem_nil, or_false, forall_eq_or_imp, forall_eq]
    exact ⟨⟨hd, hd0, hd2⟩, ⟨nl.2, hl0, hl2⟩, ⟨t3, ht0, ht2⟩, h00, ⟨bn, hb0, hb2⟩, ⟨un, hu0, hu2⟩, ⟨wn, hw0, hw2⟩, hz 1 (by decide), hz 2 (by decide), hz 3 (by decide), hz 4 (by decide), hz 5 (by decide), hz 6 (by decide)⟩
  obtain ⟨k1, k2, k3⟩ := desk_pure hndl fr (fun a => (g20 a).trans (g17 a)) (fun a i => by rw [r20, r12, r11]) (fun a i => by rw [i20, i12, i11]) (fun a i => by rw [j20, j12, j11])
  exact hK s20 l t h b u w k1 k2 k3
end DN
