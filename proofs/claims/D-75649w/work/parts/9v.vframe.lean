set_option maxRecDepth 100000
/-! ===== orders: a wider frame; a step kept, with what stays ===== -/
/-- places of the roles' cells that the relation looks at -/
def lk (r j : Nat) : Prop := (∃ p, loc r j = some p) ∨ 100 ≤ r ∧ r < 116 ∨ 300 ≤ r ∧ r < 316 ∨ 500 ≤ r ∧ r < 516 ∨ r = 41
theorem RX.g2 {N : tP} {s s' : tM} {L : Nat → Nat} {M O : Nat → Prop} {m : mS} (hX : RX N s L M O m) (h1 : s'.1 = s.1) (h2 : s'.2.2.2 = s.2.2.2) (hI : ∀ r j, shp r ≠ none → lk r j → tI s' (L r) j = tI s (L r) j) (hM : mFr M s s') : RX N s' L M O m := by
  refine hX.mk h1 h2 hM (fun j => hI 41 j (by decide) (Or.inr (Or.inr (Or.inr (Or.inr rfl))))) ?_ ?_ (fun _ _ => rfl) rfl rfl rfl hX.I
  · exact hX.R.f fun r j p hr => hI r j (loc_u hr) (Or.inl ⟨p, hr⟩)
  · obtain ⟨n, n1, n2, n3⟩ := hX.2.2.2.2.1
    refine ⟨n, n1, n2, fun k hk => ?_⟩
    obtain ⟨k1, k2, k3, k4, k5⟩ := n3 k hk
    obtain ⟨u1, u3, u5⟩ := shp100 (k := k) (by omega)
    rw [hI _ _ u1 (Or.inr (Or.inl ⟨by omega, by omega⟩)), hI _ _ u1 (Or.inr (Or.inl ⟨by omega, by omega⟩))]
    refine ⟨fun j hj => ?_, k2, k3, k4, k5⟩
    rw [hI _ _ u3 (Or.inr (Or.inr (Or.inl ⟨by omega, by omega⟩))), hI _ _ u5 (Or.inr (Or.inr (Or.inr (Or.inl ⟨by omega, by omega⟩))))]
    exact k1 j hj
/-- the roles whose cells a step of the hands may write -/
def nwr (r : Nat) : Prop := shp r ≠ none ∧ (r = 2 ∨ r = 6 ∨ r = 44 ∨ r = 244 ∨ r = 444 ∨ 100 ≤ r ∧ r < 116 ∨ 300 ≤ r ∧ r < 316 ∨ 500 ≤ r ∧ r < 516)
/-- all others' ints stay -/
def nF (L : Nat → Nat) (s s' : tM) : Prop := ∀ a, (∀ r, nwr r → a ≠ L r) → s'.2.1 a = s.2.1 a
/-- the role map may have turned -/
def rol (L L' : Nat → Nat) : Prop := (∀ r, ¬ (100 ≤ r ∧ r < 116) → ¬ (300 ≤ r ∧ r < 316) → ¬ (500 ≤ r ∧ r < 516) → L' r = L r) ∧ ∀ r, nwr r → ∃ r', nwr r' ∧ L' r = L r'
theorem rol_r (L : Nat → Nat) : rol L L := ⟨fun _ _ _ _ => rfl, fun r h => ⟨r, h, rfl⟩⟩
theorem rol_t {L L' L2 : Nat → Nat} (h : rol L L') (h2 : rol L' L2) : rol L L2 := ⟨fun r a b c => (h2.1 r a b c).trans (h.1 r a b c), fun r hr => by
  obtain ⟨q, q1, q2⟩ := h2.2 r hr
  obtain ⟨p, p1, p2⟩ := h.2 q q1
  exact ⟨p, p1, q2.trans p2⟩⟩
theorem rol_ro (L : Nat → Nat) : rol L (fun r => L (ro r)) := ⟨fun r a b c => congrArg L (ro_id ⟨a, b, c⟩), fun r hr => ⟨ro r, ⟨by rw [shp_ro]; exact hr.1, by
  have := ro_cases r
  have := hr.2
  omega⟩, rfl⟩⟩
theorem rol.lt {L L' : Nat → Nat} (h : rol L L') {r : Nat} (hr : r < 100) : L' r = L r := h.1 r (by omega) (by omega) (by omega)
theorem nF_r (L : Nat → Nat) (s : tM) : nF L s s := fun _ _ => rfl
theorem nF_t {L L' : Nat → Nat} {s s' s2 : tM} (hr : rol L L') (h : nF L s s') (h2 : nF L' s' s2) : nF L s s2 := fun a ha => (h2 a fun r hn z => by
  obtain ⟨q, q1, q2⟩ := hr.2 r hn
  exact ha q q1 (z.trans q2)).trans (h a ha)
theorem ro_ne {L : Nat → Nat} {a : Nat} (ha : ∀ k, k < 16 → a ≠ L (100 + k) ∧ a ≠ L (300 + k) ∧ a ≠ L (500 + k)) {k : Nat} (hk : k < 16) : a ≠ L (ro (100 + k)) ∧ a ≠ L (ro (300 + k)) ∧ a ≠ L (ro (500 + k)) := by
  have h1 := ro_v1 (r := 100 + k) (by omega)
  have h3 := ro_v3 (r := 300 + k) (by omega)
  have h5 := ro_v5 (r := 500 + k) (by omega)
  by_cases c : k = 15
  · subst c
    rw [show ro (100 + 15) = 100 + 0 by omega, show ro (300 + 15) = 300 + 0 by omega, show ro (500 + 15) = 500 + 0 by omega]
    exact ha 0 (by omega)
  · rw [show ro (100 + k) = 100 + (k + 1) by omega, show ro (300 + k) = 300 + (k + 1) by omega, show ro (500 + k) = 500 + (k + 1) by omega]
    exact ha (k + 1) (by omega)
/-- what a step of the hands may vary in the model -/
def vrM (m m' : mS) : Prop := (∀ j, j ≠ 33 → m'.1 j = m.1 j) ∧ (∀ q, q ≠ 2 → q ≠ 31 → m'.2.1 q = m.2.1 q) ∧ ∀ i, 25 ≤ i → m'.2.1 2 i = m.2.1 2 i
theorem vrM_r (m : mS) : vrM m m := ⟨fun _ _ => rfl, fun _ _ _ => rfl, fun _ _ => rfl⟩
theorem vrM_t {m m' m2 : mS} (h : vrM m m') (h2 : vrM m' m2) : vrM m m2 := ⟨fun j hj => (h2.1 j hj).trans (h.1 j hj), fun q a b => (h2.2.1 q a b).trans (h.2.1 q a b), fun i hi => (h2.2.2 i hi).trans (h.2.2 i hi)⟩
theorem vrM_kM (n : Nat) (w : Int32) (m : mS) : vrM m (kM n w m) := ⟨kM_o.1, fun q _ h => kM_o.2 q h, fun i _ => congrFun (kM_o.2 2 (by decide)) i⟩
theorem vrM_I (m : mS) {i : Nat} (hi : i < 25) (v : Int32) : vrM m (mI m 2 (nI i) v) := ⟨fun _ _ => rfl, fun q h _ => mI_o _ _ _ h, fun j hj => by rw [mI_at _ _ _ (by omega), if_neg (by omega)]⟩
section KF
variable {N : tP} {s s' : tM} {L : Nat → Nat} {M O : Nat → Prop} {m : mS}
theorem nF_app (h : ∀ a, (∀ k, k < 16 → a ≠ L (100 + k) ∧ a ≠ L (300 + k) ∧ a ≠ L (500 + k)) → a ≠ L 2 → s'.2.1 a = s.2.1 a) : nF L s s' := fun a ha => h a (fun k hk => by
  obtain ⟨u1, u3, u5⟩ := shp100 hk
  exact ⟨ha _ ⟨u1, by omega⟩, ha _ ⟨u3, by omega⟩, ha _ ⟨u5, by omega⟩⟩) (ha 2 ⟨by decide, by omega⟩)
theorem nF_I {r j : Nat} {v : Int32} (hr : nwr r) : nF L s (tsI s (L r) j v) := fun a ha => funext fun i => if_neg fun z => ha r hr z.1
theorem nF_a (h : aS L s s') : nF L s s' := fun a ha => funext fun j => h.2.2.1 a j fun z => ha 6 ⟨by decide, by omega⟩ z.1
theorem v_app49F (hX : RX N s L M O m) {n : Nat} (hn : n < 16) (hc : m.1 33 = nI n) {w : Int32} (hw : ∃ v, v < 4 ∧ w = nI v) {K : tM → Prop} (hK : ∀ s', RX N s' L M O (kAt m n w) → frM O s s' → (∀ a, (∀ k, k < 16 → a ≠ L (100 + k) ∧ a ≠ L (300 + k) ∧ a ≠ L (500 + k)) → a ≠ L 2 → s'.2.1 a = s.2.1 a) → K s') : v_X3_append_49 (L 2) (L 44) w K s := by
  have hS := hX.S
  have e1 : tI s (L 2) 1 = nI n := (hX.R 2 1 60 33 rfl).trans hc
  have t31 := hS.t (r := 2) (j := 0) (q := 31) (by decide)
  have r31 := (hS.2.2.1.2.2.1 n hn).1
  have b44 : isBk 44 := Or.inr (Or.inr (Or.inr (Or.inl rfl)))
  have sb := shp_bk (bk100 hn)
  obtain ⟨u1, u3, u5⟩ := shp100 hn
  unfold v_X3_append_49
  rw [e1, t31, nI_clamp (by omega), r31]
  refine ⟨hS.o (r := 2) rfl, ⟨16, hS.a (r := 31) rfl, vpk hn (by decide)⟩, hS.o sb.1, v_asS hS (bk100 hn) b44 (fun s4 hB => ?_)⟩
  obtain ⟨g1, g2, g3, g4, g5, g6, g7, g8⟩ := hB
  rw [show 200 + (100 + n) = 300 + n by omega, show 400 + (100 + n) = 500 + n by omega] at g4 g6
  have ne : ∀ r, shp r ≠ none → r ≠ 300 + n → r ≠ 500 + n → r ≠ 100 + n → ∀ j, tI s4 (L r) j = tI s (L r) j := fun r hr h3 h5 h1 j => congrFun (g4 _ (hS.ne hr u3 h3) (hS.ne hr u5 h5) (hS.ne hr u1 h1)) j
  refine ⟨⟨by rw [g1]; exact (hS.o sb.1).1, (hS.o sb.1).2⟩, fun s7 e7 => ⟨?_, fun s10 e10 => ?_⟩⟩
  · rw [e7]
    exact ⟨by show s4.1 (L 2) = _; rw [g1]; exact (hS.o (r := 2) rfl).1, (hS.o (r := 2) rfl).2⟩
  · have i7 : ∀ a j, ¬ (a = L (100 + n) ∧ j = 3) → tI s7 a j = tI s4 a j := fun a j h => by
      rw [e7]
      exact if_neg h
    have i10 : ∀ a j, ¬ (a = L 2 ∧ j = 1) → tI s10 a j = tI s7 a j := fun a j h => by
      rw [e10]
      exact if_neg h
    have n21 : L 2 ≠ L (100 + n) := hS.ne (by decide) u1 (by omega)
    have c7 : tI s7 (L 2) 1 = nI n := (i7 _ _ fun z => n21 z.1).trans ((ne 2 (by decide) (by omega) (by omega) (by omega) 1).trans e1)
    have c10 : tI s10 (L 2) 1 = nI (n + 1) := by
      rw [e10, c7]
      exact (if_pos ⟨rfl, rfl⟩ : tI (tsI s7 (L 2) 1 (nI n + 1)) (L 2) 1 = nI n + 1).trans (nI_1 n)
    have hsh : s10.1 = s.1 := by
      rw [e10, e7]
      exact g1
    have hrf : s10.2.2.2 = s.2.2.2 := by
      rw [e10, e7]
      exact g2
    have hjs : s10.2.2.1 = s.2.2.1 := by
      rw [e10, e7]
      exact g3
    -- off the step's cells
    have off : ∀ a, a ≠ L (300 + n) → a ≠ L (500 + n) → a ≠ L (100 + n) → a ≠ L 2 → s10.2.1 a = s.2.1 a := fun a h3 h5 h1 h2 => funext fun j => (i10 _ _ fun z => h2 z.1).trans ((i7 _ _ fun z => h1 z.1).trans (congrFun (g4 a h3 h5 h1) j))
    have offr : ∀ r, shp r ≠ none → r ≠ 300 + n → r ≠ 500 + n → r ≠ 100 + n → r ≠ 2 → ∀ j, tI s10 (L r) j = tI s (L r) j := fun r hr h3 h5 h1 h2 j => congrFun (off _ (hS.ne hr u3 h3) (hS.ne hr u5 h5) (hS.ne hr u1 h1) (hS.ne hr (by decide) h2)) j
    have hMO : ∀ a, uM M O a → s10.2.1 a = s.2.1 a := fun a ha => off a (fun z => hS.nM u3 (z ▸ ha)) (fun z => hS.nM u5 (z ▸ ha)) (fun z => hS.nM u1 (z ▸ ha)) (fun z => hS.nM (r := 2) (by decide) (z ▸ ha))
    have hF : ∀ j, j ≠ 33 → (kAt m n w).1 j = m.1 j := fun j hj => if_neg hj
    have hA : ∀ q, q ≠ 31 → (kAt m n w).2.1 q = m.2.1 q := fun q hq => sA_o _ _ hq
    refine hK s10 (hX.mk hsh hrf (fun a ha => ⟨by rw [hsh], hMO a (Or.inl ha), by rw [hrf]⟩) (offr 41 (by decide) (by omega) (by omega) (by omega) (by omega)) ?_ ?_ (fun i _ => congrFun (hA 2 (by decide)) i) (congrFun (hA 2 (by decide)) 43) (hA 3 (by decide)) (hA 4 (by decide)) (invM_e hX.I hF hA)) ⟨fun a ha => ⟨by rw [hsh], hMO a (Or.inr ha), by rw [hrf]⟩, fun a _ _ => by rw [hjs]⟩ (fun a h h2 => off a (h n hn).2.1 (h n hn).2.2 (h n hn).1 h2)
    · intro r j q i hl
      have hr := loc_r hl
      by_cases c2 : q = 60 ∧ i = 33
      · have := loc_i hl
        rw [c2.1, c2.2] at this
        have er : r = 2 := (congrArg Prod.fst this).symm
        have ej : j = 1 := (congrArg Prod.snd this).symm
        rw [er, ej, c2.1, c2.2, c10]
        rfl
      · have h2 := loc_2 hl
        rw [rd_e hF hA c2 (by omega), ← hX.R r j q i hl]
        by_cases e2 : r = 2
        · subst e2
          unfold loc at hl
          simp at hl
          exact absurd ⟨hl.2.1.symm, hl.2.2.symm⟩ c2
        · exact offr r (loc_u hl) (by omega) (by omega) (by omega) e2 j
    · obtain ⟨n0, a1, a2, a3⟩ := hX.2.2.2.2.1
      have en : n0 = n := (nI_eq (by omega) (by omega)).mp (a2.symm.trans hc)
      subst en
      refine ⟨n0 + 1, by omega, rfl, fun k hk => ?_⟩
      have e31 : (kAt m n0 w).2.1 31 = fun q => if 26 * n0 ≤ q ∧ q < 26 * n0 + 25 then m.2.1 2 (q - 26 * n0) else if q = 26 * n0 + 25 then w else m.2.1 31 q := sA_at _ _ _
      rw [e31]
      by_cases ek : k = n0
      · subst ek
        have hb0 : ∀ j, j < 12 → tI s10 (L (300 + k)) j = m.2.1 2 (12 + j) ∧ tI s10 (L (500 + k)) j = m.2.1 2 j := fun j hj => by
          have := g6 j hj
          have n3 : L (300 + k) ≠ L 2 := hS.ne u3 (by decide) (by omega)
          have n31 : L (300 + k) ≠ L (100 + k) := hS.ne u3 u1 (by omega)
          have n5 : L (500 + k) ≠ L 2 := hS.ne u5 (by decide) (by omega)
          have n51 : L (500 + k) ≠ L (100 + k) := hS.ne u5 u1 (by omega)
          exact ⟨(i10 _ _ fun z => n3 z.1).trans ((i7 _ _ fun z => n31 z.1).trans (this.1.trans (hX.u hj))), (i10 _ _ fun z => n5 z.1).trans ((i7 _ _ fun z => n51 z.1).trans (this.2.trans (hX.h hj)))⟩
        have n12 : L (100 + k) ≠ L 2 := fun z => n21 z.symm
        refine ⟨fun j hj => ?_, ?_, ?_, ?_, ?_⟩
        · dsimp only
          rw [if_pos (show 26 * k ≤ 26 * k + 12 + j ∧ 26 * k + 12 + j < 26 * k + 25 by omega), if_pos (show 26 * k ≤ 26 * k + j ∧ 26 * k + j < 26 * k + 25 by omega), show 26 * k + 12 + j - 26 * k = 12 + j by omega, show 26 * k + j - 26 * k = j by omega]
          exact ⟨(hb0 j hj).1, (hb0 j hj).2, hX.kI.1.1 j (by omega), hX.kI.1.1 (12 + j) (by omega)⟩
        · dsimp only
          rw [if_pos (show 26 * k ≤ 26 * k + 24 ∧ 26 * k + 24 < 26 * k + 25 by omega), show 26 * k + 24 - 26 * k = 24 by omega]
          exact (i10 _ _ fun z => n12 z.1).trans ((i7 _ _ fun z => absurd z.2 (by decide)).trans (g7.trans hX.d))
        · dsimp only
          rw [if_pos (show 26 * k ≤ 26 * k + 24 ∧ 26 * k + 24 < 26 * k + 25 by omega), show 26 * k + 24 - 26 * k = 24 by omega]
          exact hX.kI.1.2.2
        · dsimp only
          rw [if_neg (by omega), if_pos rfl]
          refine (i10 _ _ fun z => n12 z.1).trans ?_
          rw [e7]
          exact if_pos ⟨rfl, rfl⟩
        · dsimp only
          rw [if_neg (by omega), if_pos rfl]
          exact hw
      · obtain ⟨v1, v3, v5⟩ := shp100 (k := k) (by omega)
        obtain ⟨k1, k2, k3, k4, k5⟩ := a3 k (by omega)
        have f : ∀ q, q < 26 * n0 → (if 26 * n0 ≤ q ∧ q < 26 * n0 + 25 then m.2.1 2 (q - 26 * n0) else if q = 26 * n0 + 25 then w else m.2.1 31 q) = m.2.1 31 q := fun q hq => by
          rw [if_neg (by omega), if_neg (by omega)]
        refine ⟨fun j hj => ?_, ?_, ?_, ?_, ?_⟩
        · dsimp only
          rw [f _ (by omega), f _ (by omega), offr (300 + k) v3 (by omega) (by omega) (by omega) (by omega), offr (500 + k) v5 (by omega) (by omega) (by omega) (by omega)]
          exact k1 j hj
        · dsimp only
          rw [f _ (by omega), offr (100 + k) v1 (by omega) (by omega) (by omega) (by omega)]
          exact k2
        · dsimp only
          rw [f _ (by omega)]
          exact k3
        · dsimp only
          rw [f _ (by omega), offr (100 + k) v1 (by omega) (by omega) (by omega) (by omega)]
          exact k4
        · dsimp only
          rw [f _ (by omega)]
          exact k5
theorem v_appF (hX : RX N s L M O m) {n : Nat} (hn : n ≤ 16) (hc : m.1 33 = nI n) {w : Int32} (hw : ∃ v, v < 4 ∧ w = nI v) {K : tM → Prop} (hK : ∀ s' L', rol L L' → RX N s' L' M O (kM n w m) → frM O s s' → (∀ a, (∀ k, k < 16 → a ≠ L (100 + k) ∧ a ≠ L (300 + k) ∧ a ≠ L (500 + k)) → a ≠ L 2 → s'.2.1 a = s.2.1 a) → K s') : v_X3_append (L 2) (L 44) w s K := by
  have hS := hX.S
  have e1 : tI s (L 2) 1 = nI n := (hX.R 2 1 60 33 rfl).trans hc
  have t31 := hS.t (r := 2) (j := 0) (q := 31) (by decide)
  have h16 : nI n = 16 ↔ n = 16 := by
    rw [show (16 : Int32) = nI 16 from rfl, nI_eq (by omega) (by omega)]
  unfold v_X3_append
  rw [e1, h16, t31]
  refine ⟨hS.o (r := 2) rfl, fun nn => ?_, fun yn => ⟨⟨16, hS.a (r := 31) rfl, vpk (k := 0) (by decide) (by decide)⟩, fun x104 h104 => ⟨⟨16, 16, hS.a (r := 31) rfl, hS.a (r := 31) rfl, by decide, by decide, by decide, by decide, by decide⟩, fun i hi => Or.inr ⟨2, st_5_2, ?_⟩, fun s107 e107 => ?_⟩⟩⟩
  · refine v_app49F hX (by omega) hc hw (fun s' X' f' o' => hK s' L (rol_r L) ?_ f' o')
    unfold kM
    rw [if_neg nn]
    exact X'
  · have r31 := (hS.2.2.1.2.2.1 (1 + i) (by omega)).1
    rw [r31]
    exact hS.o (shp_bk (bk100 (by omega))).1
  · have r0 := (hS.2.2.1.2.2.1 0 (by omega)).1
    have c107 : s107.1 = s.1 ∧ s107.2.1 = s.2.1 ∧ s107.2.2.1 = s.2.2.1 := by
      rw [e107]
      exact ⟨rfl, rfl, rfl⟩
    have R107 : ∀ a j, a ≠ L 31 → tR s107 a j = tR s a j := fun a j ha => by
      rw [e107]
      exact if_neg ha
    have R31 : ∀ j, j < 15 → tR s107 (L 31) j = L (100 + (j + 1)) := fun j hj => by
      rw [e107]
      refine (if_pos rfl : (if L 31 = L 31 then va_cpy (s.2.2.2 (L 31)) (s.2.2.2 (L 31)) 1 0 15 j else s.2.2.2 (L 31) j) = va_cpy (s.2.2.2 (L 31)) (s.2.2.2 (L 31)) 1 0 15 j).trans ?_
      unfold va_cpy
      rw [if_pos (by omega)]
      have := (hS.2.2.1.2.2.1 (j + 1) (by omega)).1
      rw [show 1 + (j - 0) = j + 1 by omega]
      exact this
    have t31' : tR s107 (L 2) 0 = L 31 := (R107 _ _ (hS.ne (by decide) (by decide) (by decide))).trans t31
    have ea : ∀ t n a, tA s t n a → tA s107 t n a := fun t n a ha => ⟨by rw [c107.1]; exact ha.1, ha.2⟩
    rw [t31']
    have hx : x104 = L 100 := h104.trans r0
    refine ⟨⟨16, ea _ _ _ (hS.a (r := 31) rfl), vpk (k := 15) (by decide) (by decide)⟩, ?_, fun s111 e111 s113 e113 => ?_⟩
    · rw [hx]
      have := hS.o (shp_bk (bk100 (k := 0) (by omega))).1
      exact ⟨by rw [c107.1]; exact this.1, this.2⟩
    · have R111 : ∀ a j, a ≠ L 31 → tR s111 a j = tR s a j := fun a j ha => by
        rw [e111]
        exact (if_neg (fun z => ha z.1)).trans (R107 a j ha)
      have hs : s113.1 = s.1 := by
        rw [e113, e111]
        exact c107.1
      have hj : s113.2.2.1 = s.2.2.1 := by
        rw [e113, e111]
        exact c107.2.2
      have i111 : ∀ a j, tI s111 a j = tI s a j := fun a j => by
        rw [e111]
        show s107.2.1 a j = _
        rw [c107.2.1]
      have I113 : ∀ a j, ¬ (a = L 2 ∧ j = 1) → tI s113 a j = tI s a j := fun a j h => by
        rw [e113]
        exact (if_neg h).trans (i111 a j)
      have I2 : tI s113 (L 2) 1 = nI 15 := by
        rw [e113, i111, e1, yn]
        exact (if_pos ⟨rfl, rfl⟩ : tI (tsI s111 (L 2) 1 (nI 16 - 1)) (L 2) 1 = nI 16 - 1)
      have R113 : ∀ a j, a ≠ L 31 → tR s113 a j = tR s a j := fun a j ha => by
        rw [e113]
        exact R111 a j ha
      have R113b : ∀ k, k < 16 → tR s113 (L 31) k = L (ro (100 + k)) := fun k hk => by
        rw [e113]
        show tR s111 (L 31) k = _
        rw [e111]
        by_cases c : k = 15
        · subst c
          exact (if_pos ⟨rfl, rfl⟩ : tR (tsR s107 (L 31) 15 x104) (L 31) 15 = x104).trans hx
        · rw [(ro_1 (k := k) (by omega)).1]
          exact (if_neg (fun z => c z.2)).trans (R31 k (by omega))
      obtain ⟨XR, fR⟩ := hX.rot (hc.trans (by rw [yn])) hs hj I113 I2 R113 R113b
      have := v_app49F XR (n := 15) (by omega) rfl hw (K := K) (fun s' X' f' o' => hK s' (fun r => L (ro r)) (rol_ro L) (by unfold kM; rw [if_pos yn]; exact X') (frM_t fR f') (fun a ha h2 => (o' a (fun k hk => ro_ne ha hk) (by rw [show ro 2 = 2 from rfl]; exact h2)).trans (funext fun j => I113 a j fun z => h2 z.1)))
      exact this
end KF
