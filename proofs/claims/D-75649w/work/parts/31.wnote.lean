set_option maxRecDepth 100000
/-! ===== the reference: a note asked, its costs, earnings, whether it is barred; all notes ===== -/
theorem i32_sub {a b : Int32} (h1 : -2000000000 ≤ a.toInt - b.toInt) (h2 : a.toInt - b.toInt ≤ 2000000000) : (a - b).toInt = a.toInt - b.toInt := by
  rw [Int32.toInt_sub, Int.bmod_def]
  split <;> omega
theorem i32_add {a b : Int32} (h1 : -2000000000 ≤ a.toInt + b.toInt) (h2 : a.toInt + b.toInt ≤ 2000000000) : (a + b).toInt = a.toInt + b.toInt := by
  rw [Int32.toInt_add, Int.bmod_def]
  split <;> omega
def pI (x : Int32) : Prop := 0 ≤ x.toInt ∧ x.toInt ≤ 24
def ntOK (kp : Nat → Int32) (n : Nat) (here : Int32) (pa : Option Int32) : Prop := n < 12 ∧ pI here ∧ pI (kp (12 + n)) ∧ pI (kp (12 + n - 1)) ∧ (∀ a, pa = some a → pI a) ∧ (0 ≤ (kp 38).toInt ∧ (kp 38).toInt ≤ 9) ∧ 0 ≤ (kp 24).toInt ∧ (kp 24).toInt ≤ 999
theorem inB_i {x : Int32} (h1 : -1000000000 ≤ x.toInt) (h2 : x.toInt ≤ 1000000000) : inB x.toInt64 := by
  unfold inB
  rw [Int32.toInt_toInt64]
  exact ⟨h1, h2⟩
theorem nE_B {kp : Nat → Int32} {n : Nat} {here : Int32} {pa : Option Int32} (h : ntOK kp n here pa) (c : Nat) : inB (nE kp n here pa c) := by
  obtain ⟨hn, ⟨a1, a2⟩, ⟨b1, b2⟩, ⟨c1, c2⟩, hp, ⟨d1, d2⟩, e1, e2⟩ := h
  have z0 : (0 : Int32).toInt = 0 := by decide
  have z1 : (1 : Int32).toInt = 1 := by decide
  have sub : ∀ x y : Int32, 0 ≤ x.toInt ∧ x.toInt ≤ 24 → 0 ≤ y.toInt ∧ y.toInt ≤ 24 → inB (x - y).toInt64 := fun x y hx hy => by
    have := i32_sub (a := x) (b := y) (by omega) (by omega)
    exact inB_i (by omega) (by omega)
  have hz : inB (0 : Int32).toInt64 := inB_i (by rw [z0]; decide) (by rw [z0]; decide)
  unfold nE nE32
  split
  · have := nI_toInt (n := n) (by omega)
    exact inB_i (by omega) (by omega)
  · split
    · exact sub _ _ ⟨a1, a2⟩ ⟨b1, b2⟩
    · split
      · cases pa with
        | none => exact hz
        | some a => exact sub _ _ (hp a rfl) ⟨c1, c2⟩
      · split
        · cases pa with
          | none => exact hz
          | some a => exact sub _ _ ⟨a1, a2⟩ (hp a rfl)
        · split
          · cases pa with
            | none => exact hz
            | some a => exact sub _ _ ⟨b1, b2⟩ ⟨c1, c2⟩
          · split
            · split
              · exact inB_i (by rw [z1]; decide) (by rw [z1]; decide)
              · exact hz
            · split
              · exact inB_i (by omega) (by omega)
              · split
                · exact inB_i (by omega) (by omega)
                · split
                  · exact inB_i (by omega) (by omega)
                  · split
                    · exact inB_i (by omega) (by omega)
                    · exact hz
/-- the asked row holds a note -/
def askR (s : mS) (n : Nat) (here : Int32) (pa : Option Int32) : Prop := ∀ k, k < 10 → s.2.1 26 k = nE32 (s.2.1 2) n here pa (k + 8)
theorem askR_E {s : mS} {n : Nat} {here : Int32} {pa : Option Int32} (h : askR s n here pa) : askE s = nE (s.2.1 2) n here pa := by
  funext c
  unfold askE nE
  by_cases hc : 8 ≤ c ∧ c ≤ 17
  · rw [if_pos hc, h (c - 8) (by omega), show c - 8 + 8 = c by omega]
  · rw [if_neg hc]
    unfold nE32
    rw [if_neg (by omega), if_neg (by omega), if_neg (by omega), if_neg (by omega), if_neg (by omega), if_neg (by omega), if_neg (by omega), if_neg (by omega), if_neg (by omega), if_neg (by omega)]
    rfl
theorem askR_B {s : mS} {n : Nat} {here : Int32} {pa : Option Int32} (h : askR s n here pa) (hn : ntOK (s.2.1 2) n here pa) : ∀ k, k < 10 → inB (s.2.1 26 k).toInt64 := fun k hk => by
  rw [h k hk]
  exact nE_B hn (k + 8)
theorem a26 {s s' : mS} {i : Nat} {x : Int32} (hi : i < 10) (e : s' = mI s 26 (nI i) x) : mD [] [26] [] s s' ∧ ∀ k, s'.2.1 26 k = if k = i then x else s.2.1 26 k := by
  subst e
  exact ⟨mD_I s _ _ (by decide), fun k => mI_at s 26 x (by omega) k⟩
section NT
variable {N : Nat × Nat}
theorem w_takesNoteS {s : mS} {n : Nat} {here x3 x4 : Int32} {pa : Option Int32} (hn : n < 12) (hpa : pa = if x3 = 0 then none else some x4) {K : mS → Prop} (hK : ∀ s', mD [] [26] [] s s' → askR s' n here pa → K s') : w_takesNote (nI n) here x3 x4 s K := by
  have e12 : (12 : Int32) + nI n = nI (12 + n) := nI_add 12 n
  have e11 : nI (12 + n) - 1 = nI (12 + n - 1) := pk_sub (b := 1) (by omega)
  have v12 : vp_in (nI (12 + n)) 5652 := vp_in_nI (by omega) (by decide)
  have v11 : vp_in (nI (12 + n - 1)) 5652 := vp_in_nI (by omega) (by decide)
  have v10 : ∀ i, i < 10 → vp_in (nI i) 10 := fun i hi => vp_in_nI hi (by decide)
  have c1 : ∀ {s' : mS}, mD [] [26] [] s s' → ∀ k, k < 5652 → mAt s' 2 (nI k) = s.2.1 2 k := fun h k hk => by
    rw [mAt_n (by omega), h.2.1 2 (by decide)]
  -- the tail
  have t125 : ∀ (y2 : Int32) (sa : mS), mD [] [26] [] s sa → y2 = (if nI n = s.2.1 2 41 - 1 then 1 else 0) → (∀ k, k < 5 → sa.2.1 26 k = nE32 (s.2.1 2) n here pa (k + 8)) → w_takesNote_125 (nI n) here 5 y2 K sa := fun y2 sa hsa hy hrow => by
    unfold w_takesNote_125
    refine ⟨v10 5 (by decide), fun s1 e1 => ⟨vp_in_nI (n := 38) (by decide) (by decide), v10 6 (by decide), fun s2 e2 => ⟨v10 7 (by decide), fun s3 e3 => ?_⟩⟩⟩
    obtain ⟨d1, r1⟩ := a26 (i := 5) (by decide) e1
    obtain ⟨d2, r2⟩ := a26 (i := 6) (by decide) e2
    obtain ⟨d3, r3⟩ := a26 (i := 7) (by decide) e3
    have D1 := mD_t hsa d1
    have D2 := mD_t D1 d2
    have D3 := mD_t D2 d3
    rw [e12]
    refine ⟨v12, v10 8 (by decide), fun s4 e4 => ⟨vp_in_nI (n := 24) (by decide) (by decide), v10 9 (by decide), fun s5 e5 => ?_⟩⟩
    obtain ⟨d4, r4⟩ := a26 (i := 8) (by decide) e4
    obtain ⟨d5, r5⟩ := a26 (i := 9) (by decide) e5
    have D4 := mD_t D3 d4
    have D5 := mD_t D4 d5
    have q38 : mAt s1 2 38 = s.2.1 2 38 := c1 D1 38 (by decide)
    have q12 : mAt s3 2 (nI (12 + n)) = s.2.1 2 (12 + n) := c1 D3 (12 + n) (by omega)
    have q24 : mAt s4 2 24 = s.2.1 2 24 := c1 D4 24 (by decide)
    refine hK s5 D5 (fun k hk => ?_)
    rw [D5.2.1 2 (by decide)]
    have hr : s5.2.1 26 k = if k = 9 then s.2.1 2 24 else if k = 8 then s.2.1 2 (12 + n) else if k = 7 then here else if k = 6 then s.2.1 2 38 else if k = 5 then y2 else sa.2.1 26 k := by
      rw [r5, r4, r3, r2, r1, q38, q12, q24]
    rw [hr]
    have hk10 : k < 5 ∨ k = 5 ∨ k = 6 ∨ k = 7 ∨ k = 8 ∨ k = 9 := by omega
    rcases hk10 with h | rfl | rfl | rfl | rfl | rfl
    · rw [if_neg (by omega), if_neg (by omega), if_neg (by omega), if_neg (by omega), if_neg (by omega)]
      exact hrow k h
    · exact hy
    · rfl
    · rfl
    · rfl
    · rfl
  have t104 : ∀ (y2 : Int32) (sa : mS), mD [] [26] [] s sa → y2 = nE32 (s.2.1 2) n here pa 12 → (∀ k, k < 4 → sa.2.1 26 k = nE32 (s.2.1 2) n here pa (k + 8)) → w_takesNote_104 (nI n) here 4 y2 K sa := fun y2 sa hsa hy hrow => by
    unfold w_takesNote_104
    refine ⟨v10 4 (by decide), fun s1 e1 => ?_⟩
    obtain ⟨d1, r1⟩ := a26 (i := 4) (by decide) e1
    have D1 := mD_t hsa d1
    unfold w_noteMany
    have q41 : mAt s1 2 41 = s.2.1 2 41 := c1 D1 41 (by decide)
    rw [q41]
    have row : ∀ k, k < 5 → s1.2.1 26 k = nE32 (s.2.1 2) n here pa (k + 8) := fun k hk => by
      rw [r1]
      have hk5 : k < 4 ∨ k = 4 := by omega
      rcases hk5 with h | rfl
      · rw [if_neg (by omega)]
        exact hrow k h
      · rw [if_pos rfl]
        exact hy
    exact ⟨vp_in_nI (n := 41) (by decide) (by decide), fun z => t125 0 s1 D1 (by rw [if_neg z]) row, fun z => t125 1 s1 D1 (by rw [if_pos z]) row⟩
  unfold w_takesNote
  refine ⟨v10 0 (by decide), fun s1 e1 => ?_⟩
  obtain ⟨d1, r1⟩ := a26 (i := 0) (by decide) e1
  rw [e12]
  refine ⟨v12, v10 1 (by decide), fun s2 e2 => ?_⟩
  rw [c1 d1 (12 + n) (by omega)] at e2
  obtain ⟨d2, r2⟩ := a26 (i := 1) (by decide) e2
  have D2 := mD_t d1 d2
  have row2 : ∀ k, k < 2 → s2.2.1 26 k = nE32 (s.2.1 2) n here pa (k + 8) := fun k hk => by
    rw [r2, r1]
    have h2 : k = 0 ∨ k = 1 := by omega
    rcases h2 with rfl | rfl
    · rfl
    · rfl
  have t51 : ∀ y2 : Int32, y2 = nE32 (s.2.1 2) n here pa 10 → w_takesNote_51 (nI n) here x3 x4 2 y2 K s2 := fun y2 hy => by
    unfold w_takesNote_51
    refine ⟨v10 2 (by decide), fun s3 e3 => ?_⟩
    obtain ⟨d3, r3⟩ := a26 (i := 2) (by decide) e3
    have D3 := mD_t D2 d3
    have row3 : ∀ k, k < 3 → s3.2.1 26 k = nE32 (s.2.1 2) n here pa (k + 8) := fun k hk => by
      rw [r3]
      have h2 : k < 2 ∨ k = 2 := by omega
      rcases h2 with h | rfl
      · rw [if_neg (by omega)]
        exact row2 k h
      · rw [if_pos rfl]
        exact hy
    have t69 : ∀ y3 : Int32, y3 = nE32 (s.2.1 2) n here pa 11 → w_takesNote_69 (nI n) here x3 3 y3 K s3 := fun y3 hy3 => by
      unfold w_takesNote_69
      refine ⟨v10 3 (by decide), fun s4 e4 => ?_⟩
      obtain ⟨d4, r4⟩ := a26 (i := 3) (by decide) e4
      have D4 := mD_t D3 d4
      have row4 : ∀ k, k < 4 → s4.2.1 26 k = nE32 (s.2.1 2) n here pa (k + 8) := fun k hk => by
        rw [r4]
        have h2 : k < 3 ∨ k = 3 := by omega
        rcases h2 with h | rfl
        · rw [if_neg (by omega)]
          exact row3 k h
        · rw [if_pos rfl]
          exact hy3
      refine ⟨fun z => t104 0 s4 D4 (by rw [hpa, if_pos z]; rfl) row4, fun z => ?_⟩
      rw [e12, e11, c1 D4 (12 + n) (by omega), c1 D4 (12 + n - 1) (by omega)]
      exact ⟨v12, v11, t104 _ s4 D4 (by rw [hpa, if_neg z]; rfl) row4⟩
    exact ⟨fun z => t69 0 (by rw [hpa, if_pos z]; rfl), fun z => t69 _ (by rw [hpa, if_neg z]; rfl)⟩
  refine ⟨fun z => t51 0 (by rw [hpa, if_pos z]; rfl), fun z => ?_⟩
  rw [e11, c1 D2 (12 + n - 1) (by omega)]
  exact ⟨v11, t51 _ (by rw [hpa, if_neg z]; rfl)⟩
theorem w_bareS {x : Int32} {K : Int32 → Prop} (h : K (absI x)) : w_bare x K := by
  unfold w_bare
  unfold absI at h
  exact ⟨fun z => by rw [if_pos z] at h; exact h, fun z => by rw [if_neg z] at h; exact h⟩
theorem w_costsS (hN : 402 ≤ N.1) (hN2 : 40 ≤ N.2) {s : mS} {lw : Option (List cL)} (hF : inF (s.2.1 2) lw) {n : Nat} {here : Int32} {pa : Option Int32} (hA : askR s n here pa) (hn : ntOK (s.2.1 2) n here pa) {K : Int32 → mS → Prop} (hK : ∀ s', mD teF [] [] s s' → K (mCost (s.2.1 2) lw n here pa) s') : w_costsNow N s K := by
  unfold w_costsNow
  have e3 : mAt s 26 3 = nE32 (s.2.1 2) n here pa 11 := by
    have := hA 3 (by decide)
    exact (mAt_n (k := 3) (by decide)).trans this
  rw [e3]
  refine ⟨vp_in_nI (n := 3) (by decide) (by decide), w_bareS ?_⟩
  refine w_tellsS hN hN2 hF (askR_B hA hn) 1 999 _ (fun s' hs' => ?_)
  have := hK s' hs'
  unfold mCost at this
  rw [askR_E hA]
  have e : woC here pa = absI (nE32 (s.2.1 2) n here pa 11) := by
    cases pa with
    | none => rfl
    | some a => rfl
  rw [e] at this
  exact this
theorem w_earnsS (hN : 402 ≤ N.1) (hN2 : 40 ≤ N.2) {s : mS} {lw : Option (List cL)} (hF : inF (s.2.1 2) lw) {n : Nat} {here : Int32} {pa : Option Int32} (hA : askR s n here pa) (hn : ntOK (s.2.1 2) n here pa) {K : Int32 → mS → Prop} (hK : ∀ s', mD teF [] [] s s' → K (mEarn (s.2.1 2) lw n here pa) s') : w_earnsNow N s K := by
  unfold w_earnsNow
  refine w_tellsS hN hN2 hF (askR_B hA hn) 2 99 1 (fun s' hs' => ?_)
  have := hK s' hs'
  unfold mEarn at this
  rw [askR_E hA]
  exact this
/-- a clause that bars has no sum -/
def wfC (c : cL) : Prop := c.1 = 3 → c.2.1 = none
theorem pAll_wf {cd vl : Nat → Int32} {T : Nat} : ∀ f n i l acc cls, pAll cd T (pClause cd vl false) f n i l acc = .inr cls → (∀ c ∈ acc, wfC c) → ∀ c ∈ cls, wfC c := by
  intro f
  induction f with
  | zero =>
    intro n i l acc cls h
    cases h
  | succ f ih =>
    intro n i l acc cls h ha
    have e1 : pAll cd T (pClause cd vl false) (f + 1) n i l acc = pb (pClause cd vl false i l) (fun z => if cd z.1 = 159 then (if n + 1 = 12 then .inl (z.1 + 1) else pAll cd T (pClause cd vl false) f (n + 1) (z.1 + 1) z.2.1 (acc ++ [z.2.2])) else if z.1 < T then .inl z.1 else .inr (acc ++ [z.2.2])) := rfl
    rw [e1] at h
    obtain ⟨⟨j, l1, c⟩, h1, h2⟩ := pb_r h
    dsimp only at h2
    have hc : wfC c := by
      unfold pClause at h1
      by_cases c12 : cd i = 1 ∨ cd i = 2
      · rw [if_pos c12] at h1
        obtain ⟨z, h3, h4⟩ := pb_r h1
        obtain ⟨w, h5, h6⟩ := pb_r h4
        cases h6
        intro z3
        have z3' : cd i = 3 := z3
        rcases c12 with c12 | c12
        · exact absurd (c12.symm.trans z3') (by decide)
        · exact absurd (c12.symm.trans z3') (by decide)
      · rw [if_neg c12] at h1
        by_cases c3 : cd i = 3
        · rw [if_pos c3] at h1
          obtain ⟨w, h5, h6⟩ := pb_r h1
          cases h6
          exact fun _ => rfl
        · rw [if_neg c3] at h1
          cases h1
    have ha' : ∀ c' ∈ acc ++ [c], wfC c' := fun c' h => by
      rcases List.mem_append.mp h with h | h
      · exact ha c' h
      · rw [List.mem_singleton] at h
        rw [h]
        exact hc
    by_cases h6 : cd j = 159
    · rw [if_pos h6] at h2
      by_cases h7 : n + 1 = 12
      · rw [if_pos h7] at h2
        cases h2
      · rw [if_neg h7] at h2
        exact ih _ _ _ _ _ h2 ha'
    · rw [if_neg h6] at h2
      by_cases h8 : j < T
      · rw [if_pos h8] at h2
        cases h2
      · rw [if_neg h8] at h2
        cases h2
        exact ha'
theorem tells_has {e : Nat → Int64} : ∀ (cls : List cL) (a : Int64), (∀ c ∈ cls, wfC c) → tellsL e 3 1 a cls = if hasL e cls = true then 1 else a := by
  intro cls
  induction cls with
  | nil => exact fun a _ => rfl
  | cons c cls ih =>
    intro a h
    have e1 : tellsL e 3 1 a (c :: cls) = tellsL e 3 1 (match clOk e 3 c with
      | none => a
      | some v => clamp 1 v) cls := rfl
    have e2 : hasL e (c :: cls) = ((decide (c.1 = 3) && tstOk e c.2.2) || hasL e cls) := rfl
    rw [e1, ih _ (fun c' hc' => h c' (List.mem_cons_of_mem _ hc')), e2]
    by_cases hc : c.1 = 3 ∧ tstOk e c.2.2 = true
    · have e3 : clOk e 3 c = some 1 := by
        unfold clOk
        rw [if_pos hc, h c List.mem_cons_self hc.1]
      rw [e3, hc.2, decide_eq_true hc.1]
      have e4 : clamp 1 1 = 1 := by decide
      show (if hasL e cls = true then 1 else clamp 1 1) = _
      rw [e4]
      simp
    · have e3 : clOk e 3 c = none := by
        unfold clOk
        rw [if_neg hc]
      rw [e3]
      have e5 : (decide (c.1 = 3) && tstOk e c.2.2) = false := by
        by_cases h3 : c.1 = 3
        · have : tstOk e c.2.2 = false := by
            cases ht : tstOk e c.2.2 with
            | false => rfl
            | true => exact absurd ⟨h3, ht⟩ hc
          rw [this, Bool.and_false]
        · rw [decide_eq_false h3, Bool.false_and]
      rw [e5, Bool.false_or]
theorem w_barS (hN : 402 ≤ N.1) (hN2 : 40 ≤ N.2) {s : mS} {lw : Option (List cL)} (hF : inF (s.2.1 2) lw) {n : Nat} {here : Int32} {pa : Option Int32} (hA : askR s n here pa) (hn : ntOK (s.2.1 2) n here pa) {K : Int32 → mS → Prop} (hK : ∀ s', mD teF [] [] s s' → K (bI (mBar (s.2.1 2) lw n here pa)) s') : w_isBarred N s K := by
  unfold w_isBarred
  refine w_tellsS hN hN2 hF (askR_B hA hn) 3 1 0 (fun s' hs' => ?_)
  have hk := hK s' hs'
  rw [askR_E hA]
  unfold mBar at hk
  cases lw with
  | none =>
    show (¬ (0 : Int32) = 1 → K 0 s') ∧ ((0 : Int32) = 1 → K 1 s')
    exact ⟨fun _ => hk, fun z => absurd z (by decide)⟩
  | some cls =>
    have hwf : ∀ c ∈ cls, wfC c := by
      rcases hF with ⟨-, h⟩ | ⟨t, cls', -, -, hx, h⟩
      · cases h
      · cases h
        exact pAll_wf _ _ _ _ _ _ hx.2.2.2 (fun c hc => by cases hc)
    have e : tellsO (nE (s.2.1 2) n here pa) 3 1 0 (some cls) = bI (hasL (nE (s.2.1 2) n here pa) cls) := by
      show (tellsL (nE (s.2.1 2) n here pa) 3 1 0 cls).toInt32 = _
      rw [tells_has cls 0 hwf]
      cases hasL (nE (s.2.1 2) n here pa) cls with
      | true => decide
      | false => decide
    rw [e]
    have hk' : K (bI (hasL (nE (s.2.1 2) n here pa) cls)) s' := hk
    revert hk'
    cases hasL (nE (s.2.1 2) n here pa) cls with
    | true => exact fun hk' => ⟨fun z => absurd rfl z, fun _ => hk'⟩
    | false => exact fun hk' => ⟨fun _ => hk', fun z => absurd z (by decide)⟩
/-- the note ahead of one, as it is here -/
def prevI (kp : Nat → Int32) (n : Nat) : Option Int32 := if n = 0 then none else some (kp (n - 1))
theorem w_takesNowS {s : mS} {n : Nat} (hn : n < 12) {K : mS → Prop} (hK : ∀ s', mD [] [26] [] s s' → askR s' n (s.2.1 2 n) (prevI (s.2.1 2) n) → K s') : w_takesNow (nI n) s K := by
  unfold w_takesNow
  have e0 : (0 : Int32) + nI n = nI n := by
    have := nI_add 0 n
    rw [Nat.zero_add] at this
    exact this
  have z0 : (0 : Int32) = nI 0 := rfl
  have at0 : mAt s 2 (nI n) = s.2.1 2 n := mAt_n (by omega)
  rw [e0, at0]
  have v0 : vp_in (nI n) 5652 := vp_in_nI (by omega) (by decide)
  have h19 : w_takesNow_19 (nI n) (nI n) (s.2.1 2 n) (if n = 0 then 0 else 1) K s := by
    unfold w_takesNow_19
    rw [z0, nI_leI (by omega) (by omega), ← z0]
    refine ⟨fun z => ?_, fun z => ?_⟩
    · have hn0 : n = 0 := by omega
      rw [if_pos hn0]
      exact w_takesNoteS hn (by unfold prevI; rw [if_pos hn0, if_pos rfl]) hK
    · have hn0 : ¬ n = 0 := by omega
      rw [if_neg hn0, e0]
      have e1 : nI n - 1 = nI (n - 1) := pk_sub (b := 1) (by omega)
      rw [e1, mAt_n (by omega)]
      exact ⟨vp_in_nI (by omega) (by decide), w_takesNoteS hn (by unfold prevI; rw [if_neg hn0, if_neg (by decide)]) hK⟩
  refine ⟨v0, fun z => ?_, fun z => ?_⟩
  · rw [z0, nI_leI (by omega) (by omega)] at z
    rw [if_pos (by omega)] at h19
    exact h19
  · rw [z0, nI_leI (by omega) (by omega)] at z
    rw [if_neg (by omega)] at h19
    exact h19
def sumI (f : Nat → Int32) : Nat → Int32
  | 0 => 0
  | k + 1 => sumI f k + f k
def mOne (w : Nat) (kp : Nat → Int32) (lw : Option (List cL)) (n : Nat) : Int32 := if w = 0 then mCost kp lw n (kp n) (prevI kp n) else if w = 1 then mEarn kp lw n (kp n) (prevI kp n) else bI (mBar kp lw n (kp n) (prevI kp n))
/-- what of the kept row notes rest on -/
def kpN (kp : Nat → Int32) : Prop := (∀ k, k < 24 → pI (kp k)) ∧ (0 ≤ (kp 38).toInt ∧ (kp 38).toInt ≤ 9) ∧ 0 ≤ (kp 24).toInt ∧ (kp 24).toInt ≤ 999
theorem kpN_nt {kp : Nat → Int32} (h : kpN kp) {n : Nat} (hn : n < 12) : ntOK kp n (kp n) (prevI kp n) := by
  refine ⟨hn, h.1 n (by omega), h.1 _ (by omega), h.1 _ (by omega), fun a ha => ?_, h.2.1, h.2.2⟩
  unfold prevI at ha
  split at ha
  · cases ha
  · cases ha
    exact h.1 _ (by omega)
theorem w_allS (hN : 402 ≤ N.1) (hN2 : 40 ≤ N.2) {s0 : mS} {lw : Option (List cL)} (hF : inF (s0.2.1 2) lw) (hk : kpN (s0.2.1 2)) {m w : Nat} (hm : s0.2.1 2 41 = nI m) (hm2 : m ≤ 12) (hw : w ≤ 2) {K : Int32 → mS → Prop} (hK : ∀ s', mD teF [26] [] s0 s' → K (sumI (mOne w (s0.2.1 2) lw) m) s') : w_allOf N (nI w) s0 K := by
  unfold w_allOf
  have key : ∀ f t k s, k + f = m → f + 1 ≤ t → mD teF [26] [] s0 s → w_allOf_4 N (nI w) K (fun x101 s102 => K x101 s102) t (sumI (mOne w (s0.2.1 2) lw) k) (nI k) s := by
    intro f
    induction f with
    | zero =>
      intro t k s hkf ht hs
      obtain ⟨t, rfl⟩ : ∃ u, t = u + 1 := ⟨t - 1, by omega⟩
      have e1 : k = m := by omega
      subst e1
      simp only [w_allOf_4, w_noteMany]
      have a41 : mAt s 2 41 = nI k := by
        rw [show (41 : Int32) = nI 41 from rfl, mAt_n (by omega), hs.2.1 2 (by decide)]
        exact hm
      rw [a41]
      exact ⟨vp_in_nI (n := 41) (by decide) (by decide), fun _ => hK s hs, fun z => absurd (nI_le (Nat.le_refl _) (by omega)) z⟩
    | succ f ih =>
      intro t k s hkf ht hs
      obtain ⟨t, rfl⟩ : ∃ u, t = u + 1 := ⟨t - 1, by omega⟩
      simp only [w_allOf_4, w_noteMany]
      have k2 : s.2.1 2 = s0.2.1 2 := hs.2.1 2 (by decide)
      have a41 : mAt s 2 41 = nI m := by
        rw [show (41 : Int32) = nI 41 from rfl, mAt_n (by omega), k2]
        exact hm
      rw [a41, nI_leI (by omega) (by omega)]
      refine ⟨vp_in_nI (n := 41) (by decide) (by decide), fun z => by omega, fun _ => ?_⟩
      refine w_takesNowS (by omega) (fun s1 d1 r1 => ?_)
      have k1 : s1.2.1 2 = s0.2.1 2 := (d1.2.1 2 (by decide)).trans k2
      have hs1 : mD teF [26] [] s0 s1 := mD_t hs (mD_w d1 (fun j hj => by cases hj) (fun j hj => hj) (fun j hj => hj))
      have hF1 : inF (s1.2.1 2) lw := by rw [k1]; exact hF
      rw [k2] at r1
      have hn1 : ntOK (s1.2.1 2) k (s0.2.1 2 k) (prevI (s0.2.1 2) k) := by
        rw [k1]
        exact kpN_nt hk (by omega)
      have next : ∀ v s2, v = mOne w (s0.2.1 2) lw k → mD teF [] [] s1 s2 → w_allOf_4 N (nI w) K (fun x101 s102 => K x101 s102) t (sumI (mOne w (s0.2.1 2) lw) k + v) (nI k + 1) s2 := fun v s2 hv d2 => by
        rw [hv, nI_1]
        exact ih t (k + 1) s2 (by omega) (by omega) (mD_t hs1 (mD_w d2 (fun j hj => hj) (fun j hj => by cases hj) (fun j hj => hj)))
      have w0 : nI w = 0 ↔ w = 0 := by
        rw [show (0 : Int32) = nI 0 from rfl, nI_eq (by omega) (by omega)]
      have w1 : nI w = 1 ↔ w = 1 := by
        rw [show (1 : Int32) = nI 1 from rfl, nI_eq (by omega) (by omega)]
      rw [w0, w1]
      refine ⟨fun n0 => ⟨fun n1 => ?_, fun c1 => ?_⟩, fun c0 => ?_⟩
      · refine w_barS hN hN2 hF1 r1 hn1 (fun s2 d2 => ?_)
        rw [k1]
        have hone : bI (mBar (s0.2.1 2) lw k (s0.2.1 2 k) (prevI (s0.2.1 2) k)) = mOne w (s0.2.1 2) lw k := by
          unfold mOne
          rw [if_neg n0, if_neg n1]
        refine ⟨fun z x hx y hy => ?_, fun z x hx y hy => ?_⟩
        · rw [hx, hy]
          exact next 0 s2 (by rw [← hone, z]) d2
        · rw [hx, hy]
          exact next 1 s2 (by rw [← hone]; exact ((bI_x _).resolve_left z).symm) d2
      · refine w_earnsS hN hN2 hF1 r1 hn1 (fun s2 d2 x hx y hy => ?_)
        rw [hx, hy, k1]
        refine next _ s2 ?_ d2
        unfold mOne
        rw [if_neg n0, if_pos c1]
      · refine w_costsS hN hN2 hF1 r1 hn1 (fun s2 d2 x hx y hy => ?_)
        rw [hx, hy, k1]
        refine next _ s2 ?_ d2
        unfold mOne
        rw [if_pos c0]
  exact key m N.1 0 s0 (by omega) (by omega) (mD_r s0)
end NT
