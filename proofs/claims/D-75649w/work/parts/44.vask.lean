set_option maxRecDepth 100000
/-! ===== the system asked of a note ===== -/
theorem tO_J (s : tM) (a j c b : Nat) (v : Int64) : tO (tsJ s a j v) c b = tO s c b := rfl
theorem tX_J (s : tM) (a j t b : Nat) (v : Int64) (i : Int32) : tX (tsJ s a j v) t b i = tX s t b i := rfl
theorem tR_J (s : tM) (a j b i : Nat) (v : Int64) : tR (tsJ s a j v) b i = tR s b i := rfl
theorem tI_J (s : tM) (a j b i : Nat) (v : Int64) : tI (tsJ s a j v) b i = tI s b i := rfl
theorem tO_I (s : tM) (a j c b : Nat) (v : Int32) : tO (tsI s a j v) c b = tO s c b := rfl
theorem tX_I (s : tM) (a j t b : Nat) (v i : Int32) : tX (tsI s a j v) t b i = tX s t b i := rfl
theorem tR_I (s : tM) (a j b i : Nat) (v : Int32) : tR (tsI s a j v) b i = tR s b i := rfl
theorem tJ_I (s : tM) (a j b i : Nat) (v : Int32) : tJ (tsI s a j v) b i = tJ s b i := rfl
section AB
variable {N : tP} {s : tM} {L : Nat → Nat} {M O : Nat → Prop} {m : mS}
theorem RX.S (h : RX N s L M O m) : RS s L (uM M O) := h.1
theorem RX.R (h : RX N s L M O m) : Rel s L m := h.2.2.2.1
theorem RX.I (h : RX N s L M O m) : invM m := h.2.2.2.2.2.2.2
theorem RX.u (h : RX N s L M O m) {n : Nat} (hn : n < 12) : tI s (L 244) n = m.2.1 2 (12 + n) := h.R 244 n 2 (12 + n) (by unfold loc; rw [if_neg (by decide), if_pos rfl, if_pos hn])
theorem RX.h (h : RX N s L M O m) {n : Nat} (hn : n < 12) : tI s (L 444) n = m.2.1 2 n := h.R 444 n 2 n (by unfold loc; rw [if_pos rfl, if_pos hn])
theorem RX.d (h : RX N s L M O m) : tI s (L 44) 2 = m.2.1 2 24 := h.R 44 2 2 24 rfl
theorem RX.mood (h : RX N s L M O m) : tI s (L 42) 2 = m.2.1 2 38 := h.R 42 2 2 38 rfl
theorem RX.many (h : RX N s L M O m) : tI s (L 40) 4 = m.2.1 2 41 := h.R 40 4 2 41 rfl
theorem RX.force (h : RX N s L M O m) : tI s (L 40) 6 = m.2.1 2 44 := h.R 40 6 2 44 rfl
/-- what is asked is written into the numbers -/
theorem v_aboutS (hX : RX N s L M O m) {n : Nat} {here bf : Int32} {pa : Option Int32} (hn : n < 12) (hn1 : pa ≠ none → 1 ≤ n) (hpa : (pa = none ∧ bf = -1) ∨ (pa = some bf ∧ ¬ bf = -1)) {K : tM → Prop} (hK : ∀ s', aS L s s' → envL s' (L 6) (nE (m.2.1 2) n here pa) → K s') : v_X0_about (L 0) (nI n) here bf s K := by
  have hS := hX.S
  have o0 := hS.o (r := 0) rfl
  have o6 := hS.o (r := 6) rfl
  have o40 := hS.o (r := 40) rfl
  have o44 := hS.o (r := 44) rfl
  have t06 := hS.t (r := 0) (j := 6) (q := 6) (by decide)
  have t60 := hS.t (r := 6) (j := 0) (q := 33) (by decide)
  have t00 := hS.t (r := 0) (j := 0) (q := 40) (by decide)
  have t43 := hS.t (r := 40) (j := 3) (q := 44) (by decide)
  have t41 := hS.t (r := 40) (j := 1) (q := 42) (by decide)
  have b44 := hS.2.2.1.2.1 44 (Or.inr (Or.inr (Or.inr (Or.inl rfl))))
  have tu : tR s (L 44) 0 = L 244 := b44.1
  have a33 : tA s 1 10 (L 33) := hS.a (r := 33) rfl
  have au : tA s 0 12 (L 244) := hS.a (r := 244) rfl
  have at' : tA s 0 5 (L 42) := hS.a (r := 42) rfl
  have x33 : ∀ i, i < 10 → tX s 1 (L 33) (nI i) := fun i hi => ⟨10, a33, vp_in_nI hi (by decide)⟩
  have xu : tX s 0 (L 244) (nI n) := ⟨12, au, vp_in_nI hn (by decide)⟩
  have xt : tX s 0 (L 42) 2 := ⟨5, at', vp_in_nI (n := 2) (by decide) (by decide)⟩
  have eu : tI s (L 244) n = m.2.1 2 (12 + n) := hX.u hn
  have cn : (nI n).toNatClampNeg = n := nI_clamp (by omega)
  have c2 : (2 : Int32).toNatClampNeg = 2 := by decide
  -- the row, written one after another
  have fin : ∀ f : Nat → Int64, (∀ w, w < 10 → f w = nE (m.2.1 2) n here pa (mpc false w)) → K (tsJ (tsJ (tsJ (tsJ (tsJ (tsJ (tsJ (tsJ (tsJ (tsJ s (L 33) 0 (f 0)) (L 33) 1 (f 1)) (L 33) 2 (f 2)) (L 33) 3 (f 3)) (L 33) 4 (f 4)) (L 33) 5 (f 5)) (L 33) 6 (f 6)) (L 33) 7 (f 7)) (L 33) 8 (f 8)) (L 33) 9 (f 9)) := fun f hf => by
    refine hK _ ⟨rfl, rfl, fun _ _ _ => rfl, fun a _ hne => funext fun j => ?_⟩ ⟨o6, ?_, fun w hw => ?_⟩
    · have e : ∀ k, ¬ (a = L 33 ∧ j = k) := fun k z => hne z.1
      show (if a = L 33 ∧ j = 9 then f 9 else if a = L 33 ∧ j = 8 then f 8 else if a = L 33 ∧ j = 7 then f 7 else if a = L 33 ∧ j = 6 then f 6 else if a = L 33 ∧ j = 5 then f 5 else if a = L 33 ∧ j = 4 then f 4 else if a = L 33 ∧ j = 3 then f 3 else if a = L 33 ∧ j = 2 then f 2 else if a = L 33 ∧ j = 1 then f 1 else if a = L 33 ∧ j = 0 then f 0 else s.2.2.1 a j) = s.2.2.1 a j
      rw [if_neg (e 9), if_neg (e 8), if_neg (e 7), if_neg (e 6), if_neg (e 5), if_neg (e 4), if_neg (e 3), if_neg (e 2), if_neg (e 1), if_neg (e 0)]
    · show tA s 1 10 (tR s (L 6) 0)
      rw [t60]
      exact a33
    · rw [← hf w hw]
      show f w = tJ _ (tR s (L 6) 0) w
      rw [t60]
      have h10 : w = 0 ∨ w = 1 ∨ w = 2 ∨ w = 3 ∨ w = 4 ∨ w = 5 ∨ w = 6 ∨ w = 7 ∨ w = 8 ∨ w = 9 := by omega
      rcases h10 with rfl | rfl | rfl | rfl | rfl | rfl | rfl | rfl | rfl | rfl <;> simp [tsJ, tJ]
  have hx0 : tX s 1 (L 33) 0 := x33 0 (by decide)
  have hx1 : tX s 1 (L 33) 1 := x33 1 (by decide)
  have hx2 : tX s 1 (L 33) 2 := x33 2 (by decide)
  have hx3 : tX s 1 (L 33) 3 := x33 3 (by decide)
  have hx4 : tX s 1 (L 33) 4 := x33 4 (by decide)
  have hx5 : tX s 1 (L 33) 5 := x33 5 (by decide)
  have hx6 : tX s 1 (L 33) 6 := x33 6 (by decide)
  have hx7 : tX s 1 (L 33) 7 := x33 7 (by decide)
  have hx8 : tX s 1 (L 33) 8 := x33 8 (by decide)
  have hx9 : tX s 1 (L 33) 9 := x33 9 (by decide)
  have c0' : (0 : Int32).toNatClampNeg = 0 := by decide
  have c1' : (1 : Int32).toNatClampNeg = 1 := by decide
  have c2' : (2 : Int32).toNatClampNeg = 2 := by decide
  have c3' : (3 : Int32).toNatClampNeg = 3 := by decide
  have c4' : (4 : Int32).toNatClampNeg = 4 := by decide
  have c5' : (5 : Int32).toNatClampNeg = 5 := by decide
  have c6' : (6 : Int32).toNatClampNeg = 6 := by decide
  have c7' : (7 : Int32).toNatClampNeg = 7 := by decide
  have c8' : (8 : Int32).toNatClampNeg = 8 := by decide
  have c9' : (9 : Int32).toNatClampNeg = 9 := by decide
  have last : ∀ v : Int64, (nI n = m.2.1 2 41 - 1 → v = 1) → (¬ nI n = m.2.1 2 41 - 1 → v = 0) → ∀ w, w < 10 → (if w = 7 then v else nE (m.2.1 2) n here pa (mpc false w)) = nE (m.2.1 2) n here pa (mpc false w) := fun v h1 h2 w hw => by
    by_cases e : w = 7
    · rw [if_pos e, e]
      show v = (if nI n = m.2.1 2 41 - 1 then (1 : Int32) else 0).toInt64
      by_cases c : nI n = m.2.1 2 41 - 1
      · rw [if_pos c, h1 c]
        decide
      · rw [if_neg c, h2 c]
        decide
    · rw [if_neg e]
  have f0 := fun h => fin _ (last 0 (fun z => absurd z h) (fun _ => rfl))
  have f1 := fun h => fin _ (last 1 (fun _ => rfl) (fun z => absurd h z))
  rcases hpa with ⟨rfl, rfl⟩ | ⟨rfl, hbf⟩
  · unfold v_X0_about
    refine ⟨fun z => absurd rfl z, fun _ => ?_⟩
    simp only [v_X0_about_10, v_X0_about_105, v_X0_about_127, v_X0_about_168, v_X0_about_193, v_X0_books, v_X0_nNotes, forall_eq, tO_J, tX_J, tR_J, tI_J, t06, t60, t00, t43, t41, tu, o0, o6, o40, o44, xu, xt, true_and, cn, eu, hx0, hx1, hx2, hx3, hx4, hx5, hx6, hx7, hx8, hx9, c0', c1', c2', c3', c4', c5', c6', c7', c8', c9', hX.d, hX.mood, hX.many]
    refine ⟨fun z => absurd z (by decide), fun _ => ?_⟩
    refine ⟨fun z => absurd z (by decide), fun _ => ?_⟩
    refine ⟨fun z => absurd z (by decide), fun _ => ?_⟩
    exact ⟨fun z => f0 z, fun z => f1 z⟩
  · have hn1' := hn1 (fun z => by cases z)
    have xu1 : tX s 0 (L 244) (nI n - 1) := by
      have : nI n - nI 1 = nI (n - 1) := pk_sub hn1'
      show tX s 0 (L 244) (nI n - nI 1)
      rw [this]
      exact ⟨12, au, vp_in_nI (by omega) (by decide)⟩
    have cn1 : (nI n - 1).toNatClampNeg = n - 1 := by
      have : nI n - nI 1 = nI (n - 1) := pk_sub hn1'
      show (nI n - nI 1).toNatClampNeg = n - 1
      rw [this]
      exact nI_clamp (by omega)
    have eu1 : tI s (L 244) (n - 1) = m.2.1 2 (12 + n - 1) := by
      rw [hX.u (by omega), show 12 + (n - 1) = 12 + n - 1 by omega]
    unfold v_X0_about
    refine ⟨fun _ => ?_, fun z => absurd z hbf⟩
    simp only [v_X0_about_10, v_X0_about_105, v_X0_about_127, v_X0_about_168, v_X0_about_193, v_X0_books, v_X0_nNotes, forall_eq, tO_J, tX_J, tR_J, tI_J, t06, t60, t00, t43, t41, tu, o0, o6, o40, o44, xu, xt, true_and, cn, eu, hx0, hx1, hx2, hx3, hx4, hx5, hx6, hx7, hx8, hx9, c0', c1', c2', c3', c4', c5', c6', c7', c8', c9', hX.d, hX.mood, hX.many, xu1, cn1, eu1]
    refine ⟨fun _ => ?_, fun z => absurd trivial z⟩
    refine ⟨fun _ => ?_, fun z => absurd trivial z⟩
    refine ⟨fun _ => ?_, fun z => absurd trivial z⟩
    exact ⟨fun z => f0 z, fun z => f1 z⟩
end AB
