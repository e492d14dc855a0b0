set_option maxRecDepth 100000
/-! ===== a step kept, on the system's side ===== -/
theorem rd_e {m m' : mS} (hF : ∀ j, j ≠ 33 → m'.1 j = m.1 j) (hA : ∀ q, q ≠ 31 → m'.2.1 q = m.2.1 q) {q i : Nat} (h1 : ¬ (q = 60 ∧ i = 33)) (h2 : q ≠ 31) : rd m' q i = rd m q i := by
  unfold rd
  by_cases e : q = 60
  · rw [if_pos e, if_pos e]
    exact hF i fun z => h1 ⟨e, z⟩
  · rw [if_neg e, if_neg e, hA q h2]
section KE
variable {N : tP} {s s' : tM} {L : Nat → Nat} {M O : Nat → Prop} {m m' : mS}
theorem RX.mk (hX : RX N s L M O m) (h1 : s'.1 = s.1) (h2 : s'.2.2.2 = s.2.2.2) (hM : mFr M s s') (h41 : ∀ j, tI s' (L 41) j = tI s (L 41) j) (hR : Rel s' L m') (hU : undR s' L m') (hk : ∀ i, 45 ≤ i → m'.2.1 2 i = m.2.1 2 i) (hk2 : m'.2.1 2 43 = m.2.1 2 43) (h3 : m'.2.1 3 = m.2.1 3) (h4 : m'.2.1 4 = m.2.1 4) (hI : invM m') : RX N s' L M O m' := by
  obtain ⟨x1, x2, x3, x4, x5, ⟨x6, x7⟩, x8, x9⟩ := hX
  have R : ∀ a j, tR s' a j = tR s a j := fun a j => by
    show s'.2.2.2 a j = _
    rw [h2]
  have A : ∀ n t a, tA s t n a → tA s' t n a := fun n t a ha => ⟨by rw [h1]; exact ha.1, ha.2⟩
  refine ⟨x1.i h1 h2, ⟨by rw [h1]; exact x2.1, x2.2⟩, ?_, hR, hU, ⟨?_, ?_⟩, fun k hk' => ?_, hI⟩
  · rw [R]
    exact isText_fr hM (fun _ z => z) x3
  · rw [R]
    exact x6
  · obtain ⟨told, t1, t2, t3, t4, t5⟩ := lstR_fr hM (fun _ z => z) h41 (R _ _) A (fun t => R _ _) x7
    refine ⟨told, t1, hk2.trans t2, t3, t4, fun t ht => ?_⟩
    obtain ⟨cls, c1, c2⟩ := t5 t ht
    exact ⟨cls, txOK_e hk c1, c2⟩
  · have e3 : imK m' k = imK m k := by
      unfold imK
      rw [h3]
    rw [R, h4, e3]
    exact (x8 k hk').imp id fun z => ⟨z.1, z.2.1, deskM_fr hM (fun _ z => z) A (fun t => R _ _) z.2.2.1, z.2.2.2⟩
theorem invM_e {m m' : mS} (h : invM m) (hF : ∀ j, j ≠ 33 → m'.1 j = m.1 j) (hA : ∀ q, q ≠ 31 → m'.2.1 q = m.2.1 q) : invM m' := by
  obtain ⟨a, b, c, d, e⟩ := h
  unfold invM wdOK
  rw [hA 2 (by decide), hA 11 (by decide), hA 7 (by decide), hF 13 (by decide), hF 49 (by decide)]
  exact ⟨a, b, c, d, e⟩
theorem bk100 {k : Nat} (h : k < 16) : isBk (100 + k) := Or.inr (Or.inr (Or.inr (Or.inr (Or.inl (by omega)))))
theorem shp100 {k : Nat} (h : k < 16) : shp (100 + k) ≠ none ∧ shp (300 + k) ≠ none ∧ shp (500 + k) ≠ none := by
  obtain ⟨h1, h2, h3⟩ := shp_bk (bk100 h)
  rw [show 200 + (100 + k) = 300 + k by omega] at h2
  rw [show 400 + (100 + k) = 500 + k by omega] at h3
  exact ⟨shp_some h1, shp_some h2, shp_some h3⟩
/-- the count of steps -/
theorem RX.cnt (hX : RX N s L M O m) : ∃ n, n ≤ 16 ∧ m.1 33 = nI n ∧ tI s (L 2) 1 = nI n := by
  obtain ⟨n, n1, n2, -⟩ := hX.2.2.2.2.1
  exact ⟨n, n1, n2, (hX.R 2 1 60 33 rfl).trans n2⟩
/-- where there is room: a step is kept -/
theorem v_app49S (hX : RX N s L M O m) {n : Nat} (hn : n < 16) (hc : m.1 33 = nI n) {w : Int32} (hw : ∃ v, v < 4 ∧ w = nI v) {K : tM → Prop} (hK : ∀ s', RX N s' L M O (kAt m n w) → frM O s s' → K s') : v_X3_append_49 (L 2) (L 44) w K s := by
  have hS := hX.S
  have e1 : tI s (L 2) 1 = nI n := (hX.R 2 1 60 33 rfl).trans hc
  have t31 := hS.t (r := 2) (j := 0) (q := 31) (by decide)
  have r31 := (hS.2.2.1.2.2.1 n hn).1
  have b44 : isBk 44 := Or.inr (Or.inr (Or.inr (Or.inl rfl)))
  have sb := shp_bk (bk100 hn)
  obtain ⟨u1, u3, u5⟩ := shp100 hn
  unfold v_X3_append_49
  rw [e1, t31, nI_clamp (by omega), r31]
  refine ⟨hS.o (r := 2) rfl, ⟨16, hS.a (r := 31) rfl, vpk hn (by decide)⟩, hS.o sb.1, v_asS hS (bk100 hn) b44 (fun s4 hB => ?_)⟩
  obtain ⟨g1, g2, g3, g4, g5, g6, g7, g8⟩ := hB
  rw [show 200 + (100 + n) = 300 + n by omega, show 400 + (100 + n) = 500 + n by omega] at g4 g6
  have ne : ∀ r, shp r ≠ none → r ≠ 300 + n → r ≠ 500 + n → r ≠ 100 + n → ∀ j, tI s4 (L r) j = tI s (L r) j := fun r hr h3 h5 h1 j => congrFun (g4 _ (hS.ne hr u3 h3) (hS.ne hr u5 h5) (hS.ne hr u1 h1)) j
  refine ⟨⟨by rw [g1]; exact (hS.o sb.1).1, (hS.o sb.1).2⟩, fun s7 e7 => ⟨?_, fun s10 e10 => ?_⟩⟩
  · rw [e7]
    exact ⟨by show s4.1 (L 2) = _; rw [g1]; exact (hS.o (r := 2) rfl).1, (hS.o (r := 2) rfl).2⟩
  · have i7 : ∀ a j, ¬ (a = L (100 + n) ∧ j = 3) → tI s7 a j = tI s4 a j := fun a j h => by
      rw [e7]
      exact if_neg h
    have i10 : ∀ a j, ¬ (a = L 2 ∧ j = 1) → tI s10 a j = tI s7 a j := fun a j h => by
      rw [e10]
      exact if_neg h
    have n21 : L 2 ≠ L (100 + n) := hS.ne (by decide) u1 (by omega)
    have c7 : tI s7 (L 2) 1 = nI n := (i7 _ _ fun z => n21 z.1).trans ((ne 2 (by decide) (by omega) (by omega) (by omega) 1).trans e1)
    have c10 : tI s10 (L 2) 1 = nI (n + 1) := by
      rw [e10, c7]
      exact (if_pos ⟨rfl, rfl⟩ : tI (tsI s7 (L 2) 1 (nI n + 1)) (L 2) 1 = nI n + 1).trans (nI_1 n)
    have hsh : s10.1 = s.1 := by
      rw [e10, e7]
      exact g1
    have hrf : s10.2.2.2 = s.2.2.2 := by
      rw [e10, e7]
      exact g2
    have hjs : s10.2.2.1 = s.2.2.1 := by
      rw [e10, e7]
      exact g3
    -- off the step's cells
    have off : ∀ a, a ≠ L (300 + n) → a ≠ L (500 + n) → a ≠ L (100 + n) → a ≠ L 2 → s10.2.1 a = s.2.1 a := fun a h3 h5 h1 h2 => funext fun j => (i10 _ _ fun z => h2 z.1).trans ((i7 _ _ fun z => h1 z.1).trans (congrFun (g4 a h3 h5 h1) j))
    have offr : ∀ r, shp r ≠ none → r ≠ 300 + n → r ≠ 500 + n → r ≠ 100 + n → r ≠ 2 → ∀ j, tI s10 (L r) j = tI s (L r) j := fun r hr h3 h5 h1 h2 j => congrFun (off _ (hS.ne hr u3 h3) (hS.ne hr u5 h5) (hS.ne hr u1 h1) (hS.ne hr (by decide) h2)) j
    have hMO : ∀ a, uM M O a → s10.2.1 a = s.2.1 a := fun a ha => off a (fun z => hS.nM u3 (z ▸ ha)) (fun z => hS.nM u5 (z ▸ ha)) (fun z => hS.nM u1 (z ▸ ha)) (fun z => hS.nM (r := 2) (by decide) (z ▸ ha))
    have hF : ∀ j, j ≠ 33 → (kAt m n w).1 j = m.1 j := fun j hj => if_neg hj
    have hA : ∀ q, q ≠ 31 → (kAt m n w).2.1 q = m.2.1 q := fun q hq => sA_o _ _ hq
    refine hK s10 (hX.mk hsh hrf (fun a ha => ⟨by rw [hsh], hMO a (Or.inl ha), by rw [hrf]⟩) (offr 41 (by decide) (by omega) (by omega) (by omega) (by omega)) ?_ ?_ (fun i _ => congrFun (hA 2 (by decide)) i) (congrFun (hA 2 (by decide)) 43) (hA 3 (by decide)) (hA 4 (by decide)) (invM_e hX.I hF hA)) ⟨fun a ha => ⟨by rw [hsh], hMO a (Or.inr ha), by rw [hrf]⟩, fun a _ _ => by rw [hjs]⟩
    · intro r j q i hl
      have hr := loc_r hl
      by_cases c2 : q = 60 ∧ i = 33
      · have := loc_i hl
        rw [c2.1, c2.2] at this
        have er : r = 2 := (congrArg Prod.fst this).symm
        have ej : j = 1 := (congrArg Prod.snd this).symm
        rw [er, ej, c2.1, c2.2, c10]
        rfl
      · have h2 := loc_2 hl
        rw [rd_e hF hA c2 (by omega), ← hX.R r j q i hl]
        by_cases e2 : r = 2
        · subst e2
          unfold loc at hl
          simp at hl
          exact absurd ⟨hl.2.1.symm, hl.2.2.symm⟩ c2
        · exact offr r (loc_u hl) (by omega) (by omega) (by omega) e2 j
    · obtain ⟨n0, a1, a2, a3⟩ := hX.2.2.2.2.1
      have en : n0 = n := (nI_eq (by omega) (by omega)).mp (a2.symm.trans hc)
      subst en
      refine ⟨n0 + 1, by omega, rfl, fun k hk => ?_⟩
      have e31 : (kAt m n0 w).2.1 31 = fun q => if 26 * n0 ≤ q ∧ q < 26 * n0 + 25 then m.2.1 2 (q - 26 * n0) else if q = 26 * n0 + 25 then w else m.2.1 31 q := sA_at _ _ _
      rw [e31]
      by_cases ek : k = n0
      · subst ek
        have hb0 : ∀ j, j < 12 → tI s10 (L (300 + k)) j = m.2.1 2 (12 + j) ∧ tI s10 (L (500 + k)) j = m.2.1 2 j := fun j hj => by
          have := g6 j hj
          have n3 : L (300 + k) ≠ L 2 := hS.ne u3 (by decide) (by omega)
          have n31 : L (300 + k) ≠ L (100 + k) := hS.ne u3 u1 (by omega)
          have n5 : L (500 + k) ≠ L 2 := hS.ne u5 (by decide) (by omega)
          have n51 : L (500 + k) ≠ L (100 + k) := hS.ne u5 u1 (by omega)
          exact ⟨(i10 _ _ fun z => n3 z.1).trans ((i7 _ _ fun z => n31 z.1).trans (this.1.trans (hX.u hj))), (i10 _ _ fun z => n5 z.1).trans ((i7 _ _ fun z => n51 z.1).trans (this.2.trans (hX.h hj)))⟩
        have n12 : L (100 + k) ≠ L 2 := fun z => n21 z.symm
        refine ⟨fun j hj => ?_, ?_, ?_, ?_, ?_⟩
        · dsimp only
          rw [if_pos (show 26 * k ≤ 26 * k + 12 + j ∧ 26 * k + 12 + j < 26 * k + 25 by omega), if_pos (show 26 * k ≤ 26 * k + j ∧ 26 * k + j < 26 * k + 25 by omega), show 26 * k + 12 + j - 26 * k = 12 + j by omega, show 26 * k + j - 26 * k = j by omega]
          exact ⟨(hb0 j hj).1, (hb0 j hj).2, hX.kI.1.1 j (by omega), hX.kI.1.1 (12 + j) (by omega)⟩
        · dsimp only
          rw [if_pos (show 26 * k ≤ 26 * k + 24 ∧ 26 * k + 24 < 26 * k + 25 by omega), show 26 * k + 24 - 26 * k = 24 by omega]
          exact (i10 _ _ fun z => n12 z.1).trans ((i7 _ _ fun z => absurd z.2 (by decide)).trans (g7.trans hX.d))
        · dsimp only
          rw [if_pos (show 26 * k ≤ 26 * k + 24 ∧ 26 * k + 24 < 26 * k + 25 by omega), show 26 * k + 24 - 26 * k = 24 by omega]
          exact hX.kI.1.2.2
        · dsimp only
          rw [if_neg (by omega), if_pos rfl]
          refine (i10 _ _ fun z => n12 z.1).trans ?_
          rw [e7]
          exact if_pos ⟨rfl, rfl⟩
        · dsimp only
          rw [if_neg (by omega), if_pos rfl]
          exact hw
      · obtain ⟨v1, v3, v5⟩ := shp100 (k := k) (by omega)
        obtain ⟨k1, k2, k3, k4, k5⟩ := a3 k (by omega)
        have f : ∀ q, q < 26 * n0 → (if 26 * n0 ≤ q ∧ q < 26 * n0 + 25 then m.2.1 2 (q - 26 * n0) else if q = 26 * n0 + 25 then w else m.2.1 31 q) = m.2.1 31 q := fun q hq => by
          rw [if_neg (by omega), if_neg (by omega)]
        refine ⟨fun j hj => ?_, ?_, ?_, ?_, ?_⟩
        · dsimp only
          rw [f _ (by omega), f _ (by omega), offr (300 + k) v3 (by omega) (by omega) (by omega) (by omega), offr (500 + k) v5 (by omega) (by omega) (by omega) (by omega)]
          exact k1 j hj
        · dsimp only
          rw [f _ (by omega), offr (100 + k) v1 (by omega) (by omega) (by omega) (by omega)]
          exact k2
        · dsimp only
          rw [f _ (by omega)]
          exact k3
        · dsimp only
          rw [f _ (by omega), offr (100 + k) v1 (by omega) (by omega) (by omega) (by omega)]
          exact k4
        · dsimp only
          rw [f _ (by omega)]
          exact k5
end KE
