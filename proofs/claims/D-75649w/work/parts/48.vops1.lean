set_option maxRecDepth 100000
/-! ===== small public methods: both sides give the same ===== -/
theorem bI_c {b : Bool} {A B : Prop} (h0 : b = false → A) (h1 : b = true → B) : (bI b = 0 → A) ∧ (¬ bI b = 0 → B) := by
  cases b with
  | true => exact ⟨fun z => absurd z (by decide), fun _ => h1 rfl⟩
  | false => exact ⟨fun _ => h0 rfl, fun z => absurd rfl z⟩
theorem bI_d {b : Bool} {A B : Prop} (h1 : b = true → B) (h0 : b = false → A) : (¬ bI b = 0 → B) ∧ (bI b = 0 → A) := ⟨(bI_c h0 h1).2, (bI_c h0 h1).1⟩
theorem w_liesS {x lo hi : Int32} {K : Int32 → Prop} (h : K (bI (decide (lo ≤ x) && decide (x ≤ hi)))) : w_lies x lo hi K := by
  unfold w_lies
  have hn : ∀ a b : Int32, ¬ a < b ↔ b ≤ a := fun a b => by
    rw [i32_lt, i32_le]
    omega
  refine ⟨fun z => ?_, fun z => ⟨fun z2 => ?_, fun z2 => ?_⟩⟩
  · rw [decide_eq_false (fun q => (hn _ _).mpr q z)] at h
    exact h
  · rw [decide_eq_false (p := x ≤ hi) (fun q => (hn _ _).mpr q z2), Bool.and_false] at h
    exact h
  · rw [decide_eq_true ((hn _ _).mp z), decide_eq_true ((hn _ _).mp z2)] at h
    exact h
theorem w_isPitchS {x : Int32} {K : Int32 → Prop} (h : K (bI (isPI x))) : w_isPitch x K := by
  unfold w_isPitch
  refine w_liesS ⟨bI_x _, ?_⟩
  have e : (decide ((0 : Int32) ≤ x) && decide (x ≤ 24)) = isPI x := by
    unfold isPI
    have z0 : (0 : Int32).toInt = 0 := by decide
    have z24 : (24 : Int32).toInt = 24 := by decide
    simp only [i32_le, z0, z24]
  rw [e]
  exact h
theorem m1s {n : Nat} (h : n < 2 ^ 30) : (nI n - 1).toInt = (n : Int) - 1 := by
  have e1 : (1 : Int32).toInt = 1 := by decide
  have e2 := nI_toInt (n := n) (by omega)
  rw [i32_sub (by omega) (by omega), e1, e2]
theorem w_isNoteS {m1 : mS} {n : Nat} (hn : m1.2.1 2 41 = nI n) (hn2 : n ≤ 12) {x : Int32} {K : Int32 → mS → Prop} (h : K (bI (isNI n x)) m1) : w_isNote x m1 K := by
  unfold w_isNote w_noteMany
  have e41 : mAt m1 2 41 = nI n := (mAt_n (k := 41) (by decide)).trans hn
  rw [e41]
  refine ⟨vp_in_nI (n := 41) (by decide) (by decide), w_liesS ⟨bI_x _, ?_⟩⟩
  have e : (decide ((0 : Int32) ≤ x) && decide (x ≤ nI n - 1)) = isNI n x := by
    unfold isNI
    have z0 : (0 : Int32).toInt = 0 := by decide
    simp only [i32_le, z0, m1s (n := n) (by omega)]
    congr 1
    rw [decide_eq_decide]
    omega
  rw [e]
  exact h
theorem isNI_t {n : Nat} {x : Int32} (hn : n ≤ 400) (h : isNI n x = true) : ∃ k, k < n ∧ x = nI k := by
  unfold isNI at h
  simp only [Bool.and_eq_true, decide_eq_true_eq] at h
  obtain ⟨j, h1, h2⟩ := i32N (c := x) h.1
  exact ⟨j, by omega, h1⟩
theorem vpk {k n : Nat} (h : k < n) (hn : n < 2 ^ 31) : vp_in (nI k) n := vp_in_nI h hn
section O1
variable {N : tP} {s : tM} {x o : Nat} {K : tM → Prop}
theorem op_blots (hX : RXo N s x o) (hK : ∀ s', RXo N s' x o → K s') : v_X0_blots x s (pK o w_blots K) := by
  obtain ⟨L, M, rfl, hX, hm⟩ := hX
  unfold v_X0_blots
  refine ⟨hX.S.o (r := 0) rfl, ?_⟩
  rw [hX.R 0 12 60 6 rfl]
  refine pfin hX hm (frM_r _ _) rfl hK (fun m1 K2 hc h2 => ?_)
  have := h2 m1 hc
  unfold w_blots
  rw [show mFd m1 6 = (sM s o).1 6 from hc.1 6 (by decide)]
  exact this
theorem op_fault (hX : RXo N s x o) (hK : ∀ s', RXo N s' x o → K s') : v_X0_fault x s (pK o w_fault K) := by
  obtain ⟨L, M, rfl, hX, hm⟩ := hX
  unfold v_X0_fault
  refine ⟨hX.S.o (r := 0) rfl, ?_⟩
  rw [hX.R 0 11 60 14 rfl]
  refine pfin hX hm (frM_r _ _) rfl hK (fun m1 K2 hc h2 => ?_)
  have := h2 m1 hc
  unfold w_fault
  rw [show mFd m1 14 = (sM s o).1 14 from hc.1 14 (by decide)]
  exact this
theorem op_stopped (hX : RXo N s x o) (hK : ∀ s', RXo N s' x o → K s') : v_X0_stopped x s (pK o w_stopped K) := by
  obtain ⟨L, M, rfl, hX, hm⟩ := hX
  unfold v_X0_stopped
  refine ⟨hX.S.o (r := 0) rfl, ?_⟩
  rw [hX.R 0 13 60 41 rfl]
  refine pfin hX hm (frM_r _ _) rfl hK (fun m1 K2 hc h2 => ?_)
  have := h2 m1 hc
  unfold w_stopped
  rw [show mFd m1 41 = (sM s o).1 41 from hc.1 41 (by decide)]
  exact this
theorem op_status (hX : RXo N s x o) (hK : ∀ s', RXo N s' x o → K s') : v_X0_status x s (pK o w_status K) := by
  obtain ⟨L, M, rfl, hX, hm⟩ := hX
  unfold v_X0_status
  refine ⟨hX.S.o (r := 0) rfl, ?_⟩
  rw [hX.R 0 10 60 0 rfl]
  refine pfin hX hm (frM_r _ _) rfl hK (fun m1 K2 hc h2 => ?_)
  have := h2 m1 hc
  unfold w_status
  rw [show mFd m1 0 = (sM s o).1 0 from hc.1 0 (by decide)]
  exact this
/-- a refusal on both sides -/
theorem op_ref {L : Nat → Nat} {M : Nat → Prop} (hX : RX N s L M (mO s o) (sM s o)) (hm : tMod s o) (hL : L 0 = x) (hK : ∀ s', RXo N s' x o → K s') {k : Nat} (h1 : 1 ≤ k) (hk : k < 7) {w : mS → (Int32 → mS → Prop) → Prop} (hw : ∀ m1 (K2 : Int32 → mS → Prop), cE (sM s o) m1 → K2 (-(nI k)) (rfM k m1) → w m1 K2) : v_X0_tell x (-(nI k)) s (pK o w K) := by
  subst hL
  refine v_refS hX h1 hk (fun s' hX' hf => pfin hX' hm hf rfl hK (fun m1 K2 hc h2 => hw m1 K2 hc (h2 _ (rfM_c hc k))))
theorem op_forget (hX : RXo N s x o) (hK : ∀ s', RXo N s' x o → K s') : v_X0_forget x s (pK o w_forget K) := by
  obtain ⟨L, M, rfl, hX, hm⟩ := hX
  have hS := hX.S
  obtain ⟨told, k1, k2, -⟩ := hX.told
  unfold v_X0_forget
  rw [hS.t (r := 0) (j := 0) (q := 40) (by decide)]
  refine ⟨hS.o (r := 0) rfl, hS.o (r := 40) rfl, fun r hr s4 e4 => ?_⟩
  have hr' : r = (sM s o).2.1 2 42 := hr.trans (hX.R 40 5 2 42 rfl)
  subst hr' e4
  have X4 : RX N (tsI s (L 40) 5 0) L M (mO s o) (mI (sM s o) 2 (nI 42) 0) := hX.w (r0 := 40) (j0 := 5) (q0 := 2) (i0 := 42) rfl (rd_I _ _ (by decide) (by decide)) (by omega) (invM_I hX.I k2 k1 (by decide) ⟨by omega, by omega, by omega, by omega, by omega, by omega, fun _ => ⟨0, by omega, rfl⟩, by omega, by omega, by omega⟩)
  refine pfin X4 hm (frM_I hX (by decide)) rfl hK (fun m1 K2 hc h2 => ?_)
  unfold w_forget
  have e : mAt m1 2 42 = (sM s o).2.1 2 42 := (mAt_n (k := 42) (by decide)).trans (congrFun (hc.2 2 (by decide)) 42)
  refine ⟨vpk (k := 42) (by decide) (by decide), fun r hr => ⟨vpk (k := 42) (by decide) (by decide), fun s' e' => ?_⟩⟩
  rw [hr, e', e]
  exact h2 _ (cE_I hc _ _ _)
theorem op_at (hX : RXo N s x o) (hK : ∀ s', RXo N s' x o → K s') (a b : Int32) : v_X0_at x a b s (pK o (w_at a b) K) := by
  obtain ⟨L, M, rfl, hX, hm⟩ := hX
  have hS := hX.S
  obtain ⟨n, n1, n2⟩ := hX.I.1.2.2.2.2.1
  have hmany := hX.many
  rw [n2] at hmany
  have b44 := hS.2.2.1.2.1 44 (Or.inr (Or.inr (Or.inr (Or.inl rfl))))
  have th : tR s (L 44) 1 = L 444 := b44.2
  have tu : tR s (L 44) 0 = L 244 := b44.1
  have o0 := hS.o (r := 0) rfl
  have o44 := hS.o (r := 44) rfl
  unfold v_X0_at
  refine ⟨o0, v_isNoteS hS hmany n1 (bI_c (fun hb => ?_) (fun hb => v_inS (bI_d (fun hc => ?_) (fun hc => ?_))))⟩
  · refine pfin hX hm (frM_r _ _) rfl hK (fun m1 K2 hc h2 => ?_)
    unfold w_at
    refine w_isNoteS ((congrFun (hc.2 2 (by decide)) 41).trans n2) n1 ?_
    rw [hb]
    exact ⟨fun _ => h2 m1 hc, fun z => absurd rfl z⟩
  · obtain ⟨k, hk, rfl⟩ := isNI_t (by omega) hb
    have xh : ∀ j, j < 12 → tX s 0 (L 444) (nI j) := fun j hj => ⟨12, hS.a (r := 444) rfl, vpk hj (by decide)⟩
    have xu : ∀ j, j < 12 → tX s 0 (L 244) (nI j) := fun j hj => ⟨12, hS.a (r := 244) rfl, vpk hj (by decide)⟩
    have hb01 : b = 0 ∨ b = 1 := by
      simp only [Bool.and_eq_true, decide_eq_true_eq, Int64.le_iff_toInt_le, Int32.toInt_toInt64, show (0 : Int64).toInt = 0 from by decide, show (1 : Int64).toInt = 1 from by decide] at hc
      have : b.toInt = 0 ∨ b.toInt = 1 := by omega
      rcases this with z | z
      · exact Or.inl (Int32.toInt_inj.mp z)
      · exact Or.inr (Int32.toInt_inj.mp z)
    have hlies : (decide ((0 : Int32) ≤ b) && decide (b ≤ 1)) = true := by
      rcases hb01 with rfl | rfl <;> decide
    have e0 : ∀ j : Nat, (0 : Int32) + nI j = nI j := fun j => by
      have := nI_add 0 j
      rw [Nat.zero_add] at this
      exact this
    have hw : ∀ m1 (K2 : Int32 → mS → Prop), cE (sM s o) m1 → (¬ b = 0 → w_leapOf (nI k) m1 K2) → (b = 0 → w_apartOf (nI k) m1 K2) → w_at (nI k) b m1 K2 := fun m1 K2 hc g1 g0 => by
      unfold w_at
      refine w_isNoteS ((congrFun (hc.2 2 (by decide)) 41).trans n2) n1 ?_
      rw [hb]
      refine ⟨fun z => absurd z (by decide), fun _ => w_liesS ?_⟩
      rw [hlies]
      exact ⟨fun _ => ⟨g1, g0⟩, fun z => absurd z (by decide)⟩
    refine ⟨fun nb => ⟨o0, ?_⟩, fun yb => ⟨o0, ?_⟩⟩
    · unfold v_X0_leap
      have z0 : nI k = 0 ↔ k = 0 := by
        rw [show (0 : Int32) = nI 0 from rfl, nI_eq (by omega) (by omega)]
      rw [z0]
      refine ⟨fun k0 => ⟨o0, v_booksS hS ⟨o44, ?_⟩⟩, fun k0 => ?_⟩
      · rw [th, nI_clamp (by omega), hX.h (n := k) (by omega)]
        refine ⟨xh k (by omega), o0, v_booksS hS ⟨o44, ?_⟩⟩
        have e1 : nI k - 1 = nI (k - 1) := pk_sub (b := 1) (by omega)
        rw [th, e1, nI_clamp (by omega), hX.h (n := k - 1) (by omega)]
        refine ⟨xh _ (by omega), pfin hX hm (frM_r _ _) rfl hK (fun m1 K2 hc h2 => hw m1 K2 hc (fun _ => ?_) (fun z => absurd z nb))⟩
        unfold w_leapOf
        rw [z0]
        refine ⟨fun _ => ?_, fun z => absurd z k0⟩
        rw [e0, e1, mAt_n (by omega), mAt_n (by omega), hc.2 2 (by decide)]
        exact ⟨vpk (by omega) (by decide), vpk (by omega) (by decide), h2 m1 hc⟩
      · refine pfin hX hm (frM_r _ _) rfl hK (fun m1 K2 hc h2 => hw m1 K2 hc (fun _ => ?_) (fun z => absurd z nb))
        unfold w_leapOf
        rw [z0]
        exact ⟨fun z => absurd k0 z, fun _ => h2 m1 hc⟩
    · unfold v_X0_apart
      refine ⟨o0, v_booksS hS ⟨o44, ?_⟩⟩
      rw [th, nI_clamp (by omega), hX.h (n := k) (by omega)]
      refine ⟨xh k (by omega), o0, v_booksS hS ⟨o44, ?_⟩⟩
      rw [tu, hX.u (n := k) (by omega)]
      refine ⟨xu k (by omega), pfin hX hm (frM_r _ _) rfl hK (fun m1 K2 hc h2 => hw m1 K2 hc (fun z => absurd yb z) (fun _ => ?_))⟩
      unfold w_apartOf
      have e12 : (12 : Int32) + nI k = nI (12 + k) := nI_add 12 k
      rw [e0, e12, mAt_n (by omega), mAt_n (by omega), hc.2 2 (by decide)]
      exact ⟨vpk (by omega) (by decide), vpk (by omega) (by decide), h2 m1 hc⟩
  · refine pfin hX hm (frM_r _ _) rfl hK (fun m1 K2 hc' h2 => ?_)
    unfold w_at
    refine w_isNoteS ((congrFun (hc'.2 2 (by decide)) 41).trans n2) n1 ?_
    rw [hb]
    refine ⟨fun z => absurd z (by decide), fun _ => w_liesS ?_⟩
    have hlies : (decide ((0 : Int32) ≤ b) && decide (b ≤ 1)) = false := by
      rw [← hc]
      have z0 : (0 : Int32).toInt = 0 := by decide
      have z1 : (1 : Int32).toInt = 1 := by decide
      have y0 : (0 : Int64).toInt = 0 := by decide
      have y1 : (1 : Int64).toInt = 1 := by decide
      simp only [i32_le, Int64.le_iff_toInt_le, Int32.toInt_toInt64, z0, z1, y0, y1]
    rw [hlies]
    exact ⟨fun z => absurd rfl z, fun _ => h2 m1 hc'⟩
end O1
