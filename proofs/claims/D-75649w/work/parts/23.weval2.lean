set_option maxRecDepth 100000
/-! ===== the reference's sums: loops and recursion ===== -/
section EV3
variable {N : Nat × Nat} {rc : Nat → Int32 → mS → (Int64 → mS → Prop) → Prop} {s : mS} {base T : Nat} {cd vl : Nat → Int32} {io : Bool} {e : Nat → Int64} {live : Int32}
/-- from i on to j the reference's member of the recursion tells D -/
def eIt (rc : Nat → Int32 → mS → (Int64 → mS → Prop) → Prop) (mem : Nat) (live : Int32) (s : mS) (base : Nat) (e : Nat → Int64) (i j : Nat) (D : dS) : Prop := ∀ (b0 : Int32) (K : Int64 → mS → Prop), xB b0 → (∀ x b, eR live b0 (D e) x b → xB b → K x (ev s (nI (base + j)) b)) → rc mem live (ev s (nI (base + i)) b0) K
theorem e_121 {x y : Int64} {c g b : Int32} {Kr K R : Int64 → mS → Prop} (hb : xB b) (hy : ¬ c = 142 → ¬ y = 0) (h : ∀ z b3, eR live b (wiO (if c = 142 then x * y else if c = 147 then x / y else x - x / y * y)) z b3 → xB b3 → R z (ev s g b3)) : w_termOf_121 N rc live x c y Kr K R (ev s g b) := by
  unfold w_termOf_121
  simp only [w_sign, qq142, qq147]
  refine ⟨fun n => ⟨fun n2 => ⟨hy n, e_bound hb ?_⟩, fun n2 => ⟨hy n, e_bound hb ?_⟩⟩, fun n => e_bound hb ?_⟩
  · rw [if_neg n, if_neg n2] at h
    exact h
  · rw [if_neg n, if_pos n2] at h
    exact h
  · rw [if_pos n] at h
    exact h
theorem e_termLoop {item : Nat → Nat → pR (Nat × Nat × dS)} (hC : tkC s base T cd vl) (hT : T ≤ 400) (he : ∀ c, inB (e c)) (hm : pM T item) (hit : ∀ i l j l' D, i ≤ T → item i l = .inr (j, l', D) → dOK D ∧ eIt rc 2 live s base e i j D) : ∀ f t i l a j l' D, i ≤ T → T + 1 ≤ i + f → f ≤ t → pLoop cd sepT item jD f i l a = .inr (j, l', D) → dOK a → dOK D ∧ ∀ (b0 : Int32) (x : Int64) (b : Int32) (Kr K : Int64 → mS → Prop), eR live b0 (a e) x b → xB b → (∀ x b, eR live b0 (D e) x b → xB b → K x (ev s (nI (base + j)) b)) → w_termOf_6 N rc live Kr K t x (ev s (nI (base + i)) b) := by
  have hz := hC.2.2.2.1
  intro f
  induction f with
  | zero =>
    intro t i l a j l' D hi hf
    omega
  | succ f ih =>
    intro t i l a j l' D hi hf ht h ha
    obtain ⟨t, rfl⟩ : ∃ u, t = u + 1 := ⟨t - 1, by omega⟩
    rw [pLoop_s] at h
    by_cases hs : sepT (cd i) = true
    · rw [if_pos hs] at h
      obtain ⟨⟨j1, l1, d⟩, h1, h2⟩ := pb_r h
      dsimp only at h2
      have hlt : i < T := Nat.lt_of_not_le fun z => by
        rw [hz i z] at hs
        exact absurd hs (by decide)
      have hm1 := (hm (i + 1) l hlt).2 _ h1
      dsimp only at hm1
      have hi1 := hit _ _ _ _ _ hlt h1
      have hn := ih t j1 l1 (jD (cd i) a d) j l' D hm1.2.1 (by omega) (by omega) h2 (dOK_jD ha)
      refine ⟨hn.1, fun b0 x b Kr K hx hb hK => ?_⟩
      have step : w_termOf_54 N rc live x Kr K (fun x2 s => w_termOf_6 N rc live Kr K t x2 s) (ev s (nI (base + i)) b) := by
        unfold w_termOf_54
        refine e_code hC (by omega) (fun s' e' => ?_)
        rw [e_go] at e'
        subst e'
        refine hi1.2 b _ hb (fun y b2 hy hb2 => ?_)
        simp only [w_sign, qq142, lgc_z]
        refine ⟨fun c42 => e_121 hb2 (fun z => absurd c42 z) (fun z b3 h3 hb3 => hn.2 b0 z b3 Kr K (eR_join hx hy h3 (fun _ => rfl) (fun _ => rfl) fun s1 s2 _ _ => Or.inr ⟨by assumption, ?_⟩) hb3 hK), fun c42 => ⟨fun y0 => e_121 hb2 (fun _ => y0) (fun z b3 h3 hb3 => hn.2 b0 z b3 Kr K (eR_join hx hy h3 (fun _ => rfl) (fun _ => rfl) fun s1 s2 _ _ => Or.inr ⟨by assumption, ?_⟩) hb3 hK), fun y0 => ?_⟩⟩
        · rw [if_pos c42]
          unfold jD
          rw [s1]
          dsimp only
          rw [s2]
          dsimp only
          rw [c42, if_neg (by decide), if_neg (by decide), if_neg (by decide)]
        · have hq : cd i = 147 ∨ cd i = 137 := by
            have := hs
            simp only [sepT, Bool.or_eq_true, beq_iff_eq] at this
            rcases this with (z | z) | z
            · exact absurd z c42
            · exact Or.inl z
            · exact Or.inr z
          have hin := i64_div (q := y) (ha e he x s1)
          rw [if_neg c42]
          unfold jD
          rw [s1]
          dsimp only
          rw [s2]
          dsimp only
          rw [if_pos hq, if_neg y0]
          by_cases c47 : cd i = 147
          · rw [if_pos c47, wiO_in hin.1]
          · rw [if_neg c47, wiO_in hin.2]
        · have hq : cd i = 147 ∨ cd i = 137 := by
            have := hs
            simp only [sepT, Bool.or_eq_true, beq_iff_eq] at this
            rcases this with (z | z) | z
            · exact absurd z c42
            · exact Or.inl z
            · exact Or.inr z
          have fin : ∀ b2', xB b2' → (¬ b2 = 0 → b2' = b2) → (live = 0 → b2' = b2) → (b2 = 0 → ¬ live = 0 → b2' = 1) → w_termOf_115 N rc live x (cd i) b2' Kr K (fun x2 s => w_termOf_6 N rc live Kr K t x2 s) (ev s (nI (base + j1)) b2) := fun b2' hb2' hA hA2 hB => by
            unfold w_termOf_115
            refine ⟨hb2', fun s' e' => ?_⟩
            rw [ev_w24] at e'
            subst e'
            refine e_121 hb2' (fun _ => by decide) (fun z b3 h3 hb3 => hn.2 b0 z b3 Kr K (eR_join hx hy h3 hA hA2 fun s1 s2 hb hl => Or.inl ⟨?_, hB hb hl⟩) hb3 hK)
            unfold jD
            rw [s1]
            dsimp only
            rw [s2]
            dsimp only
            rw [if_pos hq, if_pos y0]
          rw [ev_24]
          refine ⟨fun nb => ?_, fun zb => ⟨fun l0 => fin 0 xB0 (fun z => absurd zb z) (fun _ => zb.symm) (fun _ z => absurd l0 z), fun l0 => fin 1 xB1 (fun z => absurd zb z) (fun z => absurd z l0) (fun _ _ => rfl)⟩⟩
          have e1 : b2 = 1 := hb2.resolve_left nb
          exact fin 1 xB1 (fun _ => e1.symm) (fun _ => e1.symm) (fun z => absurd z nb)
      simp only [w_termOf_6, w_sign, qq142, qq147, qq137]
      refine e_code hC (by omega) ⟨fun _ => step, fun n1 => e_code hC (by omega) ⟨fun _ => step, fun n2 => e_code hC (by omega) ⟨fun n3 => ?_, fun _ => step⟩⟩⟩
      exfalso
      simp only [sepT, Bool.or_eq_true, beq_iff_eq] at hs
      rcases hs with (z | z) | z
      · exact n1 z
      · exact n2 z
      · exact n3 z
    · rw [if_neg hs] at h
      cases h
      refine ⟨ha, fun b0 x b Kr K hx hb hK => ?_⟩
      have hs' : ¬ cd i = 142 ∧ ¬ cd i = 147 ∧ ¬ cd i = 137 := by
        simp only [sepT, Bool.or_eq_true, beq_iff_eq] at hs
        exact ⟨fun z => hs (Or.inl (Or.inl z)), fun z => hs (Or.inl (Or.inr z)), fun z => hs (Or.inr z)⟩
      simp only [w_termOf_6, w_sign, qq142, qq147, qq137]
      exact e_code hC (by omega) ⟨fun z => absurd z hs'.1, fun _ => e_code hC (by omega) ⟨fun z => absurd z hs'.2.1, fun _ => e_code hC (by omega) ⟨fun _ => hK x b hx hb, fun z => absurd z hs'.2.2⟩⟩⟩
theorem e_sumLoop {item : Nat → Nat → pR (Nat × Nat × dS)} (hC : tkC s base T cd vl) (hT : T ≤ 400) (hm : pM T item) (hit : ∀ i l j l' D, i ≤ T → item i l = .inr (j, l', D) → dOK D ∧ eIt rc 1 live s base e i j D) : ∀ f t i l a j l' D, i ≤ T → T + 1 ≤ i + f → f ≤ t → pLoop cd sepS item jD f i l a = .inr (j, l', D) → dOK a → dOK D ∧ ∀ (b0 : Int32) (x : Int64) (b : Int32) (Kr K : Int64 → mS → Prop), eR live b0 (a e) x b → xB b → (∀ x b, eR live b0 (D e) x b → xB b → K x (ev s (nI (base + j)) b)) → w_sumOf_6 N rc live Kr K t x (ev s (nI (base + i)) b) := by
  have hz := hC.2.2.2.1
  intro f
  induction f with
  | zero =>
    intro t i l a j l' D hi hf
    omega
  | succ f ih =>
    intro t i l a j l' D hi hf ht h ha
    obtain ⟨t, rfl⟩ : ∃ u, t = u + 1 := ⟨t - 1, by omega⟩
    rw [pLoop_s] at h
    by_cases hs : sepS (cd i) = true
    · rw [if_pos hs] at h
      obtain ⟨⟨j1, l1, d⟩, h1, h2⟩ := pb_r h
      dsimp only at h2
      have hlt : i < T := Nat.lt_of_not_le fun z => by
        rw [hz i z] at hs
        exact absurd hs (by decide)
      have hm1 := (hm (i + 1) l hlt).2 _ h1
      dsimp only at hm1
      have hi1 := hit _ _ _ _ _ hlt h1
      have hn := ih t j1 l1 (jD (cd i) a d) j l' D hm1.2.1 (by omega) (by omega) h2 (dOK_jD ha)
      have hs' : cd i = 143 ∨ cd i = 145 := by
        simpa only [sepS, Bool.or_eq_true, beq_iff_eq] using hs
      refine ⟨hn.1, fun b0 x b Kr K hx hb hK => ?_⟩
      have fin : ∀ y0 : Int32, (y0 = 0 ∧ cd i = 145 ∨ y0 = 1 ∧ cd i = 143) → w_sumOf_59 N rc live x y0 Kr K (fun x2 s => w_sumOf_6 N rc live Kr K t x2 s) (ev s (nI (base + i)) b) := fun y0 hy0 => by
        unfold w_sumOf_59
        intro s' e'
        rw [e_go] at e'
        subst e'
        refine hi1.2 b _ hb (fun y b2 hy hb2 => ?_)
        refine ⟨fun zz => e_bound hb2 (fun z b3 h3 hb3 => hn.2 b0 z b3 Kr K (eR_join hx hy h3 (fun _ => rfl) (fun _ => rfl) fun s1 s2 _ _ => Or.inr ⟨by assumption, ?_⟩) hb3 hK), fun zz => e_bound hb2 (fun z b3 h3 hb3 => hn.2 b0 z b3 Kr K (eR_join hx hy h3 (fun _ => rfl) (fun _ => rfl) fun s1 s2 _ _ => Or.inr ⟨by assumption, ?_⟩) hb3 hK)⟩
        · have c45 : cd i = 145 := by
            rcases hy0 with hy0 | hy0
            · exact hy0.2
            · exact absurd (hy0.1.symm.trans zz) (by decide)
          unfold jD
          rw [s1]
          dsimp only
          rw [s2]
          dsimp only
          rw [c45, if_neg (by decide), if_neg (by decide), if_pos rfl]
        · have c43 : cd i = 143 := by
            rcases hy0 with hy0 | hy0
            · exact absurd hy0.1 zz
            · exact hy0.2
          unfold jD
          rw [s1]
          dsimp only
          rw [s2]
          dsimp only
          rw [c43, if_neg (by decide), if_pos rfl]
      have step : w_sumOf_38 N rc live x Kr K (fun x2 s => w_sumOf_6 N rc live Kr K t x2 s) (ev s (nI (base + i)) b) := by
        unfold w_sumOf_38
        simp only [w_sign, qq143]
        exact e_code hC (by omega) ⟨fun z => fin 0 (Or.inl ⟨rfl, hs'.resolve_left z⟩), fun z => fin 1 (Or.inr ⟨rfl, z⟩)⟩
      simp only [w_sumOf_6, w_sign, qq143, qq145]
      exact e_code hC (by omega) ⟨fun _ => step, fun n1 => e_code hC (by omega) ⟨fun n2 => absurd hs' (fun z => z.elim n1 n2), fun _ => step⟩⟩
    · rw [if_neg hs] at h
      cases h
      refine ⟨ha, fun b0 x b Kr K hx hb hK => ?_⟩
      have hs' : ¬ cd i = 143 ∧ ¬ cd i = 145 := by
        simp only [sepS, Bool.or_eq_true, beq_iff_eq] at hs
        exact ⟨fun z => hs (Or.inl z), fun z => hs (Or.inr z)⟩
      simp only [w_sumOf_6, w_sign, qq143, qq145]
      exact e_code hC (by omega) ⟨fun z => absurd z hs'.1, fun _ => e_code hC (by omega) ⟨fun _ => hK x b hx hb, fun z => absurd z hs'.2⟩⟩
end EV3
section EV4
variable {N : Nat × Nat} {s : mS} {base T : Nat} {cd vl : Nat → Int32} {io : Bool} {e : Nat → Int64} {live : Int32}
theorem e_term (hN : 401 ≤ N.1) (hC : tkC s base T cd vl) (hT : T ≤ 400) (he : ∀ c, inB (e c)) {t dp : Nat} (hp : ∀ i l j l' D, i ≤ T → pPart cd vl io dp i l = .inr (j, l', D) → dOK D ∧ eIt (g_sumOf N t) 2 live s base e i j D) {i l j l' : Nat} {D : dS} (hi : i ≤ T) (h : pTerm cd vl io dp i l = .inr (j, l', D)) : dOK D ∧ eIt (g_sumOf N (t + 1)) 1 live s base e i j D := by
  obtain ⟨⟨j1, l1, d⟩, h1, h2⟩ := pb_r h
  have hi1 := hp _ _ _ _ _ hi h1
  have hm1 := (pM_part hC.2.2.2.1 dp i l hi).2 _ h1
  have hl := e_termLoop (N := N) (rc := g_sumOf N t) (live := live) hC hT he (pM_part hC.2.2.2.1 dp) hp 401 N.1 j1 l1 d j l' D hm1.2.1 (by omega) hN h2 hi1.1
  refine ⟨hl.1, fun b0 K hb hK => ?_⟩
  show w_termOf N (g_sumOf N t) live (ev s (nI (base + i)) b0) K
  unfold w_termOf
  exact hi1.2 b0 _ hb (fun x b hx hb => hl.2 b0 x b K _ hx hb hK)
theorem e_sum (hN : 401 ≤ N.1) (hC : tkC s base T cd vl) (hT : T ≤ 400) (he : ∀ c, inB (e c)) {t dp : Nat} (hp : ∀ i l j l' D, i ≤ T → pPart cd vl io dp i l = .inr (j, l', D) → dOK D ∧ eIt (g_sumOf N t) 2 live s base e i j D) {i l j l' : Nat} {D : dS} (hi : i ≤ T) (h : pSum cd vl io dp i l = .inr (j, l', D)) : dOK D ∧ eIt (g_sumOf N (t + 2)) 0 live s base e i j D := by
  obtain ⟨⟨j1, l1, d⟩, h1, h2⟩ := pb_r h
  have hi1 := e_term hN hC hT he hp hi h1
  have hm1 := (pM_term (vl := vl) (io := io) hC.2.2.2.1 dp i l hi).2 _ h1
  have hl := e_sumLoop (N := N) (rc := g_sumOf N (t + 1)) (live := live) (e := e) hC hT (pM_term (vl := vl) (io := io) hC.2.2.2.1 dp) (fun i l j l' D hi h => e_term hN hC hT he hp hi h) 401 N.1 j1 l1 d j l' D hm1.2.1 (by omega) hN h2 hi1.1
  refine ⟨hl.1, fun b0 K hb hK => ?_⟩
  show w_sumOf N (g_sumOf N (t + 1)) live (ev s (nI (base + i)) b0) K
  unfold w_sumOf
  exact hi1.2 b0 _ hb (fun x b hx hb => hl.2 b0 x b K _ hx hb hK)
theorem e_part (hN : 401 ≤ N.1) (hC : tkC s base T cd vl) (hT : T ≤ 400) (hE : enR s io e) : ∀ dp t, 3 * dp + 1 ≤ t → ∀ i l j l' D, i ≤ T → pPart cd vl io dp i l = .inr (j, l', D) → dOK D ∧ eIt (g_sumOf N t) 2 live s base e i j D := by
  have hleaf : ∀ t i l j l' D, 1 ≤ t → i ≤ T → ¬ cd i = 191 → pLeaf cd vl io i l = .inr (j, l', D) → dOK D ∧ eIt (g_sumOf N t) 2 live s base e i j D := fun t i l j l' D ht hi hn h => by
    refine ⟨dOK_leaf hC.2.2.2.2 h, fun b0 K hb hK => ?_⟩
    obtain ⟨t, rfl⟩ : ∃ u, t = u + 1 := ⟨t - 1, by omega⟩
    exact e_leaf hC hT hE h hi hn hb hK
  intro dp
  induction dp with
  | zero =>
    intro t ht i l j l' D hi h
    rw [pPart_0] at h
    by_cases hc : cd i = 191
    · rw [if_pos hc] at h
      cases h
    · rw [if_neg hc] at h
      exact hleaf t i l j l' D (by omega) hi hc h
  | succ dp ih =>
    intro t ht i l j l' D hi h
    rw [pPart_s] at h
    by_cases hc : cd i = 191
    · rw [if_pos hc] at h
      obtain ⟨⟨j1, l1, d⟩, h1, h2⟩ := pb_r h
      dsimp only at h2
      by_cases h6 : cd j1 = 193
      · rw [if_pos h6] at h2
        cases h2
        have hlt := cd_lt hC.2.2.2.1 hc (by decide)
        have hlt2 := cd_lt hC.2.2.2.1 h6 (by decide)
        obtain ⟨t, rfl⟩ : ∃ u, t = u + 3 := ⟨t - 3, by omega⟩
        have hs := e_sum hN hC hT hE.1 (ih t (by omega)) hlt h1
        refine ⟨hs.1, fun b0 K hb hK => ?_⟩
        show w_partOf N (g_sumOf N (t + 2)) live (ev s (nI (base + i)) b0) K
        unfold w_partOf
        simp only [w_sign, qq191]
        refine e_pass hC (by omega) (fun _ => ⟨fun z => absurd z (by decide), fun _ => ?_⟩) (fun z => absurd hc z)
        refine hs.2 b0 _ hb (fun x b hx hb s' e' => ?_)
        rw [e_go] at e'
        subst e'
        exact hK x b hx hb
      · rw [if_neg h6] at h2
        cases h2
    · rw [if_neg hc] at h
      exact hleaf t i l j l' D (by omega) hi hc h
/-- a sum of the parser told by the reference -/
theorem e_sumT (hN : 401 ≤ N.1) (hN2 : 40 ≤ N.2) (hC : tkC s base T cd vl) (hT : T ≤ 400) (hE : enR s io e) {dp i l j l' : Nat} {D : dS} (hdp : dp ≤ 8) (hi : i ≤ T) (h : pSum cd vl io dp i l = .inr (j, l', D)) : dOK D ∧ eIt (g_sumOf N N.2) 0 live s base e i j D := by
  have := e_sum hN hC hT hE.1 (t := N.2 - 2) (dp := dp) (fun i l j l' D hi h => e_part (live := live) hN hC hT hE dp (N.2 - 2) (by omega) i l j l' D hi h) hi h
  have e2 : N.2 - 2 + 2 = N.2 := by omega
  rw [e2] at this
  exact this
end EV4
