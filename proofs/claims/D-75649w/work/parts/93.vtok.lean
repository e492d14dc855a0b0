set_option maxRecDepth 100000
/-! ===== the system's reader: tokens ===== -/
/-- the token's end -/
def toP (tp : Nat → Int32) (n i : Nat) : Nat := if tokP tp n i < n then en tp n (tokP tp n i) else tokP tp n i
/-- the constants' codes -/
def cdSL : List Int32 := [8, 15, 16, 9, 10, 11, 12, 13, 17, 14, 1, 2, 3, 191, 193, 142, 147, 137, 143, 145, 4, 7, 140, 141, 160, 162, 161, 6, 5, 25, 24, 22, 23, 26, 27, 159, 18, 19, 20, 21]
def cdS (i : Nat) : Int32 := cdSL.getD i 0
/-- letters from a place on -/
def txL (tp : Nat → Int32) : Nat → Nat → List Int32
  | 0, _ => []
  | m + 1, k => tp k :: txL tp m (k + 1)
def fndL (T : List Int32) : Nat → List (List Int32) → Nat
  | _, [] => 0
  | w, c :: cs => if c = T then w else fndL T (w + 1) cs
section TX
variable {tp : Nat → Int32} {n : Nat}
theorem eqL_t : ∀ (c : List Int32) (m k : Nat), (c.length = m ∧ eqL tp c k = true) ↔ c = txL tp m k
  | [], 0, k => ⟨fun _ => rfl, fun _ => ⟨rfl, rfl⟩⟩
  | [], m + 1, k => ⟨fun z => absurd z.1 (by simp), fun z => by cases z⟩
  | a :: c, 0, k => ⟨fun z => absurd z.1 (by simp), fun z => by cases z⟩
  | a :: c, m + 1, k => by
    have ih := eqL_t c m (k + 1)
    have e1 : eqL tp (a :: c) k = (decide (a = tp k) && eqL tp c (k + 1)) := rfl
    have e2 : txL tp (m + 1) k = tp k :: txL tp m (k + 1) := rfl
    rw [e1, e2, List.cons.injEq, ← ih, Bool.and_eq_true, decide_eq_true_eq, List.length_cons]
    constructor
    · intro ⟨z1, z2, z3⟩
      exact ⟨z2, by omega, z3⟩
    · intro ⟨z1, z2, z3⟩
      exact ⟨by omega, z1, z3⟩
theorem findW_t (k to : Nat) : ∀ (ws : List (List Int32)) (w : Nat), findW tp k to w ws = fndL (txL tp (to - k) k) w ws
  | [], _ => rfl
  | c :: cs, w => by
    have e1 : findW tp k to w (c :: cs) = if c.length = to - k ∧ eqL tp c k = true then w else findW tp k to (w + 1) cs := rfl
    have e2 : fndL (txL tp (to - k) k) w (c :: cs) = if c = txL tp (to - k) k then w else fndL (txL tp (to - k) k) (w + 1) cs := rfl
    rw [e1, e2, findW_t k to cs (w + 1)]
    by_cases h : c = txL tp (to - k) k
    · rw [if_pos h, if_pos ((eqL_t c (to - k) k).mpr h)]
    · rw [if_neg h, if_neg (fun z => h ((eqL_t c (to - k) k).mp z))]
theorem fndL_s (T : List Int32) : ∀ (ws : List (List Int32)) (w : Nat), 1 ≤ w → fndL T w ws = 0 ∨ ∃ j, j < ws.length ∧ ws.getD j [] = T ∧ fndL T w ws = w + j
  | [], _, _ => Or.inl rfl
  | c :: cs, w, hw => by
    have e : fndL T w (c :: cs) = if c = T then w else fndL T (w + 1) cs := rfl
    rw [e]
    by_cases h : c = T
    · rw [if_pos h]
      exact Or.inr ⟨0, by simp, h, rfl⟩
    · rw [if_neg h]
      rcases fndL_s T cs (w + 1) (by omega) with z | ⟨j, j1, j2, j3⟩
      · exact Or.inl z
      · exact Or.inr ⟨j + 1, by simp; omega, j2, by omega⟩
theorem wd_tab : ∀ idx, idx < 40 → ((xbyt.getD idx []).length = 1 ∧ 33 ≤ (xbyt.getD idx []).getD 0 0 ∧ (xbyt.getD idx []).getD 0 0 ≤ 126 ∧ isLt ((xbyt.getD idx []).getD 0 0) = false ∧ isDg ((xbyt.getD idx []).getD 0 0) = false ∧ cdS idx = 100 + (xbyt.getD idx []).getD 0 0) ∨ (2 ≤ (xbyt.getD idx []).length ∧ isLt ((xbyt.getD idx []).getD 0 0) = true ∧ fndL (xbyt.getD idx []) 1 wrdL = (cdS idx).toNatClampNeg ∧ 1 ≤ (cdS idx).toNatClampNeg ∧ (cdS idx).toNatClampNeg ≤ 27 ∧ cdS idx = nI (cdS idx).toNatClampNeg ∧ wrdL.getD ((cdS idx).toNatClampNeg - 1) [] = xbyt.getD idx []) := by decide +kernel
theorem cd_50 : ∀ idx, idx < 40 → ¬ cdS idx = 50 ∧ ¬ cdS idx = 0 := by decide +kernel
theorem by_tab : ∀ u, u < 256 → ∀ v, 33 ≤ v → v ≤ 126 → (100 + ((nI u - 128) &&& 255) = 100 + nI v ↔ nI u - 128 = nI v) := by
  intro u hu v h1 h2
  have key : ∀ u, u < 256 → (nI u - 128) &&& 255 = nI ((u + 128) % 256) := by decide +kernel
  rw [key u hu, show (100 : Int32) = nI 100 from rfl, nI_add, nI_add, nI_eq (by omega) (by omega)]
  have t : (nI u - 128).toInt = (u : Int) - 128 := pk_sub_toInt (a := u) (b := 128) (by omega) (by omega)
  constructor
  · intro z
    refine Int32.toInt_inj.mp ?_
    rw [t, nI_toInt (by omega)]
    omega
  · intro z
    have := congrArg Int32.toInt z
    rw [t, nI_toInt (by omega)] at this
    omega
theorem and_tab : ∀ u, u < 256 → 0 ≤ ((nI u - 128) &&& 255).toInt ∧ ((nI u - 128) &&& 255).toInt ≤ 255 := by decide +kernel
/-- a byte -/
def byT (b : Int32) : Prop := -128 ≤ b.toInt ∧ b.toInt ≤ 127
theorem by_u {b : Int32} (h : byT b) : ∃ u, u < 256 ∧ b = nI u - 128 := by
  obtain ⟨h1, h2⟩ := h
  refine ⟨(b.toInt + 128).toNat, by omega, Int32.toInt_inj.mp ?_⟩
  have t : (nI (b.toInt + 128).toNat - 128).toInt = ((b.toInt + 128).toNat : Int) - 128 := pk_sub_toInt (a := (b.toInt + 128).toNat) (b := 128) (by omega) (by omega)
  rw [t]
  omega
theorem i32_Nn {b : Int32} (h : 33 ≤ b ∧ b ≤ 126) : ∃ v, 33 ≤ v ∧ v ≤ 126 ∧ b = nI v := by
  obtain ⟨h1, h2⟩ := h
  rw [i32_le, show (33 : Int32).toInt = 33 by decide] at h1
  rw [i32_le, show (126 : Int32).toInt = 126 by decide] at h2
  obtain ⟨v, v1, v2⟩ := i32N (c := b) (by omega)
  exact ⟨v, by omega, by omega, v1⟩
/-- a token is a constant's word just where its code is the constant's -/
theorem tk_cd (hn : n ≤ 400) (htp : ∀ k, k < 400 → byT (tp k)) (i : Nat) {idx : Nat} (hi : idx < 40) : (xbyt.getD idx [] = txL tp (toP tp n i - tokP tp n i) (tokP tp n i)) ↔ cdT tp n i = cdS idx := by
  obtain ⟨c50, c0⟩ := cd_50 idx hi
  unfold toP cdT
  by_cases hk : tokP tp n i < n
  · rw [if_pos hk, if_pos hk]
    have hen := en_le (tp := tp) (n := n) hk
    obtain ⟨m, hm⟩ : ∃ m, en tp n (tokP tp n i) - tokP tp n i = m + 1 := ⟨en tp n (tokP tp n i) - tokP tp n i - 1, by omega⟩
    have hT : txL tp (en tp n (tokP tp n i) - tokP tp n i) (tokP tp n i) = tp (tokP tp n i) :: txL tp m (tokP tp n i + 1) := by
      rw [hm]
      rfl
    have hd : ∀ {c : List Int32}, c = tp (tokP tp n i) :: txL tp m (tokP tp n i + 1) → c.getD 0 0 = tp (tokP tp n i) := fun {c} e => by rw [e]; rfl
    by_cases hl : isLt (tp (tokP tp n i)) = true
    · rw [if_pos hl]
      have hw : wordOf tp (tokP tp n i) (en tp n (tokP tp n i)) = fndL (txL tp (en tp n (tokP tp n i) - tokP tp n i) (tokP tp n i)) 1 wrdL := findW_t _ _ _ _
      rw [hw]
      have hle : fndL (txL tp (en tp n (tokP tp n i) - tokP tp n i) (tokP tp n i)) 1 wrdL ≤ 27 := by
        rcases fndL_s (txL tp (en tp n (tokP tp n i) - tokP tp n i) (tokP tp n i)) wrdL 1 (Nat.le_refl _) with z | ⟨j, j1, j2, j3⟩
        · omega
        · have : wrdL.length = 27 := rfl
          omega
      rcases wd_tab idx hi with ⟨w1, w2, w3, w4, w5, w6⟩ | ⟨w1, w2, w3, w4, w5, w6, w7⟩
      · constructor
        · intro z
          rw [hT] at z
          have := hd z
          rw [this, hl] at w4
          cases w4
        · intro z
          exfalso
          obtain ⟨v, v1, v2, v3⟩ := i32_Nn ⟨w2, w3⟩
          rw [w6, v3, show (100 : Int32) = nI 100 from rfl, nI_add, nI_eq (by omega) (by omega)] at z
          omega
      · rw [w6, nI_eq (by omega) (by omega)]
        constructor
        · intro z
          rw [← z]
          exact w3
        · intro z
          rcases fndL_s (txL tp (en tp n (tokP tp n i) - tokP tp n i) (tokP tp n i)) wrdL 1 (Nat.le_refl _) with y | ⟨j, j1, j2, j3⟩
          · omega
          · rw [← j2, ← w7]
            congr 1
            omega
    · rw [if_neg hl]
      have notw : ∀ {P : Prop}, (2 ≤ (xbyt.getD idx []).length ∧ isLt ((xbyt.getD idx []).getD 0 0) = true) → xbyt.getD idx [] = txL tp (en tp n (tokP tp n i) - tokP tp n i) (tokP tp n i) → P := fun {P} h z => by
        rw [hT] at z
        have := hd z
        rw [this] at h
        exact absurd h.2 hl
      by_cases hg : isDg (tp (tokP tp n i)) = true
      · rw [if_pos hg]
        constructor
        · intro z
          rcases wd_tab idx hi with ⟨w1, w2, w3, w4, w5, w6⟩ | ⟨w1, w2, -⟩
          · rw [hT] at z
            have := hd z
            rw [this, hg] at w5
            cases w5
          · exact notw ⟨w1, w2⟩ z
        · intro z
          exact absurd z.symm c50
      · rw [if_neg hg]
        have hen1 : en tp n (tokP tp n i) = tokP tp n i + 1 := by
          unfold en
          rw [if_neg hl, if_neg hg]
        obtain ⟨u, u1, u2⟩ := by_u (htp (tokP tp n i) (by omega))
        have hm0 : m = 0 := by omega
        rcases wd_tab idx hi with ⟨w1, w2, w3, w4, w5, w6⟩ | ⟨w1, w2, w3, w4, w5, w6, w7⟩
        · obtain ⟨v, v1, v2, v3⟩ := i32_Nn ⟨w2, w3⟩
          have hx : xbyt.getD idx [] = [(xbyt.getD idx []).getD 0 0] := by
            match h : xbyt.getD idx [], w1 with
            | [a], _ => rfl
          rw [hx, hT, hm0, w6, v3, u2, by_tab u u1 v v1 v2]
          show [nI v] = [nI u - 128] ↔ _
          rw [List.cons.injEq]
          exact ⟨fun z => z.1.symm, fun z => ⟨z.symm, rfl⟩⟩
        · constructor
          · intro z
            exact notw ⟨w1, w2⟩ z
          · intro z
            exfalso
            have a := and_tab u u1
            have := congrArg Int32.toInt z
            rw [u2, i32_add (by rw [show (100 : Int32).toInt = 100 by decide]; omega) (by rw [show (100 : Int32).toInt = 100 by decide]; omega), w6, nI_toInt (by omega), show (100 : Int32).toInt = 100 by decide] at this
            omega
  · rw [if_neg hk, if_neg hk, Nat.sub_self]
    constructor
    · intro z
      have : (xbyt.getD idx []).length = 0 := by
        rw [z]
        rfl
      rcases wd_tab idx hi with ⟨w1, -⟩ | ⟨w1, -⟩ <;> omega
    · intro z
      exact absurd z.symm c0
end TX
