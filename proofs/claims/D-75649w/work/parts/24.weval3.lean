set_option maxRecDepth 100000
/-! ===== the reference's tests, and what a law tells ===== -/
def bI (b : Bool) : Int32 := if b = true then 1 else 0
theorem bI_x (b : Bool) : xB (bI b) := by cases b <;> first | exact xB0 | exact xB1
def eT (live b0 : Int32) (r : Option Bool) (x b : Int32) : Prop := (live ≠ 0 ∧ b0 = 0 → (r = none ∧ b = 1) ∨ (b = 0 ∧ ∃ v, r = some v ∧ x = bI v)) ∧ (¬ (live ≠ 0 ∧ b0 = 0) → b = b0)
/-- from i on to j the reference's member tells the test D, live or not -/
def eIT (rc : Nat → Int32 → mS → (Int32 → mS → Prop) → Prop) (mem : Nat) (s : mS) (base : Nat) (e : Nat → Int64) (i j : Nat) (D : dT) : Prop := ∀ (live b0 : Int32) (K : Int32 → mS → Prop), xB b0 → (∀ x b, eT live b0 (D e) x b → xB x → xB b → K x (ev s (nI (base + j)) b)) → rc mem live (ev s (nI (base + i)) b0) K
theorem eT_and {live b0 y1 x b y b2 : Int32} {D1 D2 : dT} {e : Nat → Int64} (h1 : eT live b0 (D1 e) x b) (h2 : eT y1 b (D2 e) y b2) (hy : y1 = if live = 0 then 0 else if x = 0 then 0 else 1) : eT live b0 (aD D1 D2 e) (if x = 0 then 0 else if y = 0 then 0 else 1) b2 := by
  refine ⟨fun hl => ?_, fun hl => ?_⟩
  · rcases h1.1 hl with ⟨n1, rfl⟩ | ⟨rfl, v, s1, rfl⟩
    · exact Or.inl ⟨by unfold aD; rw [n1], h2.2 (fun z => absurd z.2 (by decide))⟩
    · rw [if_neg hl.1] at hy
      cases v with
      | false =>
        have e1 : y1 = 0 := hy
        refine Or.inr ⟨h2.2 (fun z => z.1 e1), false, by unfold aD; rw [s1], rfl⟩
      | true =>
        have e1 : y1 = 1 := hy
        rcases h2.1 ⟨by rw [e1]; decide, rfl⟩ with ⟨n2, e2⟩ | ⟨e2, v, s2, rfl⟩
        · exact Or.inl ⟨by unfold aD; rw [s1]; exact n2, e2⟩
        · refine Or.inr ⟨e2, v, by unfold aD; rw [s1]; exact s2, ?_⟩
          cases v <;> rfl
  · have e1 := h1.2 hl
    refine (h2.2 (fun z => hl ⟨fun l0 => z.1 ?_, e1.symm.trans z.2⟩)).trans e1
    rw [hy, if_pos l0]
theorem eT_or {live b0 y1 x b y b2 : Int32} {D1 D2 : dT} {e : Nat → Int64} (h1 : eT live b0 (D1 e) x b) (h2 : eT y1 b (D2 e) y b2) (hy : y1 = if live = 0 then 0 else if x = 0 then 1 else 0) : eT live b0 (oD D1 D2 e) (if x = 0 then (if y = 0 then 0 else 1) else 1) b2 := by
  refine ⟨fun hl => ?_, fun hl => ?_⟩
  · rcases h1.1 hl with ⟨n1, rfl⟩ | ⟨rfl, v, s1, rfl⟩
    · exact Or.inl ⟨by unfold oD; rw [n1], h2.2 (fun z => absurd z.2 (by decide))⟩
    · rw [if_neg hl.1] at hy
      cases v with
      | true =>
        have e1 : y1 = 0 := hy
        refine Or.inr ⟨h2.2 (fun z => z.1 e1), true, by unfold oD; rw [s1], rfl⟩
      | false =>
        have e1 : y1 = 1 := hy
        rcases h2.1 ⟨by rw [e1]; decide, rfl⟩ with ⟨n2, e2⟩ | ⟨e2, v, s2, rfl⟩
        · exact Or.inl ⟨by unfold oD; rw [s1]; exact n2, e2⟩
        · refine Or.inr ⟨e2, v, by unfold oD; rw [s1]; exact s2, ?_⟩
          cases v <;> rfl
  · have e1 := h1.2 hl
    refine (h2.2 (fun z => hl ⟨fun l0 => z.1 ?_, e1.symm.trans z.2⟩)).trans e1
    rw [hy, if_pos l0]
section ET
variable {N : Nat × Nat} {rc : Nat → Int32 → mS → (Int32 → mS → Prop) → Prop} {s : mS} {base T : Nat} {cd vl : Nat → Int32} {io : Bool} {e : Nat → Int64}
theorem e_bothLoop {item : Nat → Nat → pR (Nat × Nat × dT)} (hC : tkC s base T cd vl) (hT : T ≤ 400) (hm : pM T item) (hit : ∀ i l j l' D, i ≤ T → item i l = .inr (j, l', D) → eIT rc 2 s base e i j D) : ∀ f t i l a j l' D, i ≤ T → T + 1 ≤ i + f → f ≤ t → pLoop cd (fun c => c == 6) item (fun _ => aD) f i l a = .inr (j, l', D) → ∀ (live b0 x b : Int32) (Kr K : Int32 → mS → Prop), eT live b0 (a e) x b → xB x → xB b → (∀ x b, eT live b0 (D e) x b → xB x → xB b → K x (ev s (nI (base + j)) b)) → w_bothOf_6 N rc live Kr K t x (ev s (nI (base + i)) b) := by
  have hz := hC.2.2.2.1
  intro f
  induction f with
  | zero =>
    intro t i l a j l' D hi hf
    omega
  | succ f ih =>
    intro t i l a j l' D hi hf ht h live b0 x b Kr K hx hxx hb hK
    obtain ⟨t, rfl⟩ : ∃ u, t = u + 1 := ⟨t - 1, by omega⟩
    rw [pLoop_s] at h
    simp only [w_bothOf_6]
    by_cases hs : cd i = 6
    · rw [if_pos (by rw [hs]; rfl)] at h
      obtain ⟨⟨j1, l1, d⟩, h1, h2⟩ := pb_r h
      dsimp only at h2
      have hlt : i < T := cd_lt hz hs (by decide)
      have hm1 := (hm (i + 1) l hlt).2 _ h1
      dsimp only at hm1
      have hi1 := hit _ _ _ _ _ hlt h1
      have step : ∀ y1 : Int32, (y1 = if live = 0 then 0 else if x = 0 then 0 else 1) → w_bothOf_29 N rc live x y1 Kr K (fun x2 s => w_bothOf_6 N rc live Kr K t x2 s) (ev s (nI (base + (i + 1))) b) := fun y1 hy1 => by
        unfold w_bothOf_29
        refine hi1 y1 b _ hb (fun y b2 hy hyy hb2 => ?_)
        have hn := ih t j1 l1 (aD a d) j l' D hm1.2.1 (by omega) (by omega) h2 live b0 _ b2 Kr K (eT_and hx hy hy1)
        refine ⟨fun z => ?_, fun z => ⟨fun z2 => ?_, fun z2 => ?_⟩⟩
        · rw [if_pos z] at hn
          exact hn xB0 hb2 hK
        · rw [if_neg z, if_pos z2] at hn
          exact hn xB0 hb2 hK
        · rw [if_neg z, if_neg z2] at hn
          exact hn xB1 hb2 hK
      refine e_pass hC (by omega) (fun _ => ⟨fun z => absurd z (by decide), fun _ => ?_⟩) (fun z => absurd hs z)
      refine ⟨fun l0 => ?_, fun l0 => ⟨fun x0 => ?_, fun x0 => step 1 ?_⟩⟩
      · unfold w_bothOf_28
        exact step 0 (by rw [if_pos l0])
      · unfold w_bothOf_28
        exact step 0 (by rw [if_neg l0, if_pos x0])
      · rw [if_neg l0, if_neg x0]
    · rw [if_neg (by simpa using hs)] at h
      cases h
      exact e_pass hC (by omega) (fun z => absurd z hs) (fun _ => ⟨fun _ => hK x b hx hxx hb, fun z => absurd rfl z⟩)
theorem e_testLoop {item : Nat → Nat → pR (Nat × Nat × dT)} (hC : tkC s base T cd vl) (hT : T ≤ 400) (hm : pM T item) (hit : ∀ i l j l' D, i ≤ T → item i l = .inr (j, l', D) → eIT rc 1 s base e i j D) : ∀ f t i l a j l' D, i ≤ T → T + 1 ≤ i + f → f ≤ t → pLoop cd (fun c => c == 5) item (fun _ => oD) f i l a = .inr (j, l', D) → ∀ (live b0 x b : Int32) (Kr K : Int32 → mS → Prop), eT live b0 (a e) x b → xB x → xB b → (∀ x b, eT live b0 (D e) x b → xB x → xB b → K x (ev s (nI (base + j)) b)) → w_testOf_6 N rc live Kr K t x (ev s (nI (base + i)) b) := by
  have hz := hC.2.2.2.1
  intro f
  induction f with
  | zero =>
    intro t i l a j l' D hi hf
    omega
  | succ f ih =>
    intro t i l a j l' D hi hf ht h live b0 x b Kr K hx hxx hb hK
    obtain ⟨t, rfl⟩ : ∃ u, t = u + 1 := ⟨t - 1, by omega⟩
    rw [pLoop_s] at h
    simp only [w_testOf_6]
    by_cases hs : cd i = 5
    · rw [if_pos (by rw [hs]; rfl)] at h
      obtain ⟨⟨j1, l1, d⟩, h1, h2⟩ := pb_r h
      dsimp only at h2
      have hlt : i < T := cd_lt hz hs (by decide)
      have hm1 := (hm (i + 1) l hlt).2 _ h1
      dsimp only at hm1
      have hi1 := hit _ _ _ _ _ hlt h1
      have step : ∀ y1 : Int32, (y1 = if live = 0 then 0 else if x = 0 then 1 else 0) → w_testOf_28 N rc live x y1 Kr K (fun x2 s => w_testOf_6 N rc live Kr K t x2 s) (ev s (nI (base + (i + 1))) b) := fun y1 hy1 => by
        unfold w_testOf_28
        refine hi1 y1 b _ hb (fun y b2 hy hyy hb2 => ?_)
        have hn := ih t j1 l1 (oD a d) j l' D hm1.2.1 (by omega) (by omega) h2 live b0 _ b2 Kr K (eT_or hx hy hy1)
        refine ⟨fun z => ?_, fun z => ⟨fun z2 => ?_, fun z2 => ?_⟩⟩
        · rw [if_neg z] at hn
          exact hn xB1 hb2 hK
        · rw [if_pos z, if_pos z2] at hn
          exact hn xB0 hb2 hK
        · rw [if_pos z, if_neg z2] at hn
          exact hn xB1 hb2 hK
      refine e_pass hC (by omega) (fun _ => ⟨fun z => absurd z (by decide), fun _ => ?_⟩) (fun z => absurd hs z)
      refine ⟨fun l0 => ?_, fun l0 => ⟨fun x0 => ?_, fun x0 => step 1 ?_⟩⟩
      · unfold w_testOf_27
        exact step 0 (by rw [if_pos l0])
      · unfold w_testOf_27
        exact step 0 (by rw [if_neg l0, if_neg x0])
      · rw [if_neg l0, if_pos x0]
    · rw [if_neg (by simpa using hs)] at h
      cases h
      exact e_pass hC (by omega) (fun z => absurd z hs) (fun _ => ⟨fun _ => hK x b hx hxx hb, fun z => absurd rfl z⟩)
theorem e_nots (hC : tkC s base T cd vl) (hT : T ≤ 400) : ∀ f t i (nb : Bool), i ≤ T → T + 1 ≤ i + f → f ≤ t → ∀ (live b : Int32) (Kr K : Int32 → mS → Prop), K (bI (pNots cd f i nb).2) (ev s (nI (base + (pNots cd f i nb).1)) b) → w_plainOf_2 N rc live Kr K t (bI nb) (ev s (nI (base + i)) b) := by
  have hz := hC.2.2.2.1
  intro f
  induction f with
  | zero =>
    intro t i nb hi hf
    omega
  | succ f ih =>
    intro t i nb hi hf ht live b Kr K hK
    obtain ⟨t, rfl⟩ : ∃ u, t = u + 1 := ⟨t - 1, by omega⟩
    have e1 : pNots cd (f + 1) i nb = if cd i = 7 then pNots cd f (i + 1) (!nb) else (i, nb) := rfl
    rw [e1] at hK
    simp only [w_plainOf_2]
    by_cases hs : cd i = 7
    · rw [if_pos hs] at hK
      have hlt : i < T := cd_lt hz hs (by decide)
      have hn := ih t (i + 1) (!nb) hlt (by omega) (by omega) live b Kr K hK
      refine e_pass hC (by omega) (fun _ => ⟨fun z => absurd z (by decide), fun _ => ?_⟩) (fun z => absurd hs z)
      cases nb with
      | false => exact ⟨fun z => absurd rfl z, fun _ => hn⟩
      | true => exact ⟨fun _ => hn, fun z => absurd z (by decide)⟩
    · rw [if_neg hs] at hK
      exact e_pass hC (by omega) (fun z => absurd z hs) (fun _ => ⟨fun _ => hK, fun z => absurd rfl z⟩)
/-- two sums compared -/
theorem e_comp (hN : 401 ≤ N.1) (hN2 : 40 ≤ N.2) (hC : tkC s base T cd vl) (hT : T ≤ 400) (hE : enR s io e) {dp i l j l' : Nat} {D : dT} {live b0 : Int32} {K : Int32 → mS → Prop} {nb : Bool} (hdp : dp ≤ 8) (hi : i ≤ T) (hn : ¬ cd i = 140) (h : pComp cd vl io dp i l nb = .inr (j, l', D)) (hb : xB b0) (hK : ∀ x b, eT live b0 (D e) (bI (x != bI nb)) b → xB x → xB b → K x (ev s (nI (base + j)) b)) : w_positiveOf N rc live (ev s (nI (base + i)) b0) K := by
  obtain ⟨⟨j1, l1, d1⟩, h1, h2⟩ := pb_r h
  dsimp only at h2
  by_cases h6 : cd j1 = 160 ∨ cd j1 = 162 ∨ cd j1 = 161
  · rw [if_pos h6] at h2
    obtain ⟨⟨j2, l2, d2⟩, h3, h4⟩ := pb_r h2
    cases h4
    have hz := hC.2.2.2.1
    have hlt : j1 < T := h6.elim (fun z => cd_lt hz z (by decide)) fun z => z.elim (fun z => cd_lt hz z (by decide)) fun z => cd_lt hz z (by decide)
    have s1 := (e_sumT (live := live) hN hN2 hC hT hE hdp hi h1).2
    have s2 := (e_sumT (live := live) hN hN2 hC hT hE hdp hlt h3).2
    unfold w_positiveOf
    simp only [w_sign, qq140, qq160, qq162, lgc_z, lgc_npos, lgc_nneg]
    refine e_pass hC (by omega) (fun z => absurd z hn) (fun _ => ⟨fun _ => ?_, fun z => absurd rfl z⟩)
    refine s1 b0 _ hb (fun x1 b1 r1 hb1 => e_code hC (by omega) (fun s' e' => ?_))
    rw [e_go] at e'
    subst e'
    refine s2 b1 _ hb1 (fun x2 b2 r2 hb2 => ?_)
    have hdead : ∀ x, (live = 0 ∨ ¬ b2 = 0) → xB x → eT live b0 (nD nb (cD (cd j1) d1 d2) e) (bI (x != bI nb)) b2 := fun x hd hx => by
      refine ⟨fun hl => ?_, fun hl => ?_⟩
      · have nb2 := hd.resolve_left hl.1
        have e2 : b2 = 1 := hb2.resolve_left nb2
        refine Or.inl ⟨?_, e2⟩
        rcases r1.1 hl with ⟨n1, -⟩ | ⟨rfl, q1⟩
        · unfold nD cD
          rw [n1]
          rfl
        · rcases r2.1 ⟨hl.1, rfl⟩ with ⟨n2, -⟩ | ⟨z, -⟩
          · unfold nD cD
            rw [q1]
            dsimp only
            rw [n2]
            rfl
          · exact absurd z nb2
      · exact (r2.2 (fun z => hl ⟨z.1, (r1.2 hl).symm.trans z.2⟩)).trans (r1.2 hl)
    have hlive : ∀ v : Bool, ¬ live = 0 → b2 = 0 → v = (if cd j1 = 160 then decide (x1 < x2) else if cd j1 = 162 then decide (x2 < x1) else decide (x1 = x2)) → eT live b0 (nD nb (cD (cd j1) d1 d2) e) (bI (bI v != bI nb)) b2 := fun v hl hb2 hv => by
      refine ⟨fun hl => ?_, fun hl => ?_⟩
      · rcases r1.1 hl with ⟨n1, e1⟩ | ⟨rfl, q1⟩
        · have := r2.2 (fun z => absurd (e1.symm.trans z.2) (by decide))
          exact absurd (this.symm.trans hb2) (by rw [e1]; decide)
        · rcases r2.1 ⟨hl.1, rfl⟩ with ⟨n2, e2⟩ | ⟨-, q2⟩
          · exact absurd (e2.symm.trans hb2) (by decide)
          · refine Or.inr ⟨hb2, nb != v, ?_, ?_⟩
            · unfold nD cD
              rw [q1]
              dsimp only
              rw [q2, hv]
              rfl
            · cases v <;> cases nb <;> rfl
      · exact (r2.2 (fun z => hl ⟨z.1, (r1.2 hl).symm.trans z.2⟩)).trans (r1.2 hl)
    rw [ev_24]
    have fin : ∀ v : Bool, ¬ live = 0 → b2 = 0 → v = (if cd j1 = 160 then decide (x1 < x2) else if cd j1 = 162 then decide (x2 < x1) else decide (x1 = x2)) → K (bI v) (ev s (nI (base + j2)) b2) := fun v hl hb hv => hK _ b2 (hlive v hl hb hv) (bI_x v) hb2
    refine ⟨fun l0 => hK 0 b2 (hdead 0 (Or.inl l0) xB0) xB0 hb2, fun l0 => ⟨fun nb2 => hK 0 b2 (hdead 0 (Or.inr nb2) xB0) xB0 hb2, fun zb => ⟨fun n60 => ⟨fun n62 => ⟨fun ne => ?_, fun eq => ?_⟩, fun c62 => ⟨fun le => ?_, fun gt => ?_⟩⟩, fun c60 => ⟨fun ge => ?_, fun lt => ?_⟩⟩⟩⟩
    · exact fin false l0 zb (by rw [if_neg n60, if_neg n62, decide_eq_false ne])
    · exact fin true l0 zb (by rw [if_neg n60, if_neg n62, decide_eq_true eq])
    · exact fin false l0 zb (by rw [if_neg n60, if_pos c62, decide_eq_false (by simp only [Int64.lt_iff_toInt_lt, Int64.le_iff_toInt_le] at le ⊢; omega)])
    · exact fin true l0 zb (by rw [if_neg n60, if_pos c62, decide_eq_true (by simp only [Int64.lt_iff_toInt_lt, Int64.le_iff_toInt_le] at gt ⊢; omega)])
    · exact fin false l0 zb (by rw [if_pos c60, decide_eq_false (by simp only [Int64.lt_iff_toInt_lt, Int64.le_iff_toInt_le] at ge ⊢; omega)])
    · exact fin true l0 zb (by rw [if_pos c60, decide_eq_true (by simp only [Int64.lt_iff_toInt_lt, Int64.le_iff_toInt_le] at lt ⊢; omega)])
  · rw [if_neg h6] at h2
    cases h2
end ET
section ET2
variable {N : Nat × Nat} {s : mS} {base T : Nat} {cd vl : Nat → Int32} {io : Bool} {e : Nat → Int64}
theorem e_both (hN : 401 ≤ N.1) (hC : tkC s base T cd vl) (hT : T ≤ 400) {t dp : Nat} (hp : ∀ i l j l' D, i ≤ T → pPlain cd vl io dp i l = .inr (j, l', D) → eIT (g_testOf N t) 2 s base e i j D) {i l j l' : Nat} {D : dT} (hi : i ≤ T) (h : pBothOf cd (pPlain cd vl io dp) i l = .inr (j, l', D)) : eIT (g_testOf N (t + 1)) 1 s base e i j D := by
  obtain ⟨⟨j1, l1, d⟩, h1, h2⟩ := pb_r h
  have hi1 := hp _ _ _ _ _ hi h1
  have hm1 := (pM_plain (vl := vl) (io := io) hC.2.2.2.1 dp i l hi).2 _ h1
  intro live b0 K hb hK
  show w_bothOf N (g_testOf N t) live (ev s (nI (base + i)) b0) K
  unfold w_bothOf
  refine hi1 live b0 _ hb (fun x b hx hxx hb => ?_)
  exact e_bothLoop hC hT (pM_plain (vl := vl) (io := io) hC.2.2.2.1 dp) hp 401 N.1 j1 l1 d j l' D hm1.2.1 (by omega) hN h2 live b0 x b K _ hx hxx hb (fun x b hx hxx hb => ⟨hxx, hK x b hx hxx hb⟩)
theorem e_test (hN : 401 ≤ N.1) (hC : tkC s base T cd vl) (hT : T ≤ 400) {t dp : Nat} (hp : ∀ i l j l' D, i ≤ T → pPlain cd vl io dp i l = .inr (j, l', D) → eIT (g_testOf N t) 2 s base e i j D) {i l j l' : Nat} {D : dT} (hi : i ≤ T) (h : pTest cd vl io dp i l = .inr (j, l', D)) : eIT (g_testOf N (t + 2)) 0 s base e i j D := by
  obtain ⟨⟨j1, l1, d⟩, h1, h2⟩ := pb_r h
  have hi1 := e_both hN hC hT hp hi h1
  have hm1 := (pM_both (vl := vl) (io := io) hC.2.2.2.1 dp i l hi).2 _ h1
  intro live b0 K hb hK
  show w_testOf N (g_testOf N (t + 1)) live (ev s (nI (base + i)) b0) K
  unfold w_testOf
  refine hi1 live b0 _ hb (fun x b hx hxx hb => ?_)
  exact e_testLoop hC hT (pM_both (vl := vl) (io := io) hC.2.2.2.1 dp) (fun i l j l' D hi h => e_both hN hC hT hp hi h) 401 N.1 j1 l1 d j l' D hm1.2.1 (by omega) hN h2 live b0 x b K _ hx hxx hb (fun x b hx hxx hb => ⟨hxx, hK x b hx hxx hb⟩)
theorem eT_nots {live b0 : Int32} {D : dT} {nb : Bool} {x b : Int32} (h : eT live b0 (D e) x b) (hx : xB x) : eT live b0 (nD nb D e) (bI (x != bI nb)) b := by
  refine ⟨fun hl => ?_, h.2⟩
  rcases h.1 hl with ⟨n, e1⟩ | ⟨e1, v, q, rfl⟩
  · exact Or.inl ⟨by unfold nD; rw [n]; rfl, e1⟩
  · refine Or.inr ⟨e1, nb != v, by unfold nD; rw [q]; rfl, ?_⟩
    cases v <;> cases nb <;> rfl
theorem e_plain (hN : 401 ≤ N.1) (hN2 : 40 ≤ N.2) (hC : tkC s base T cd vl) (hT : T ≤ 400) (hE : enR s io e) : ∀ dp t, dp ≤ 8 → 4 * dp + 2 ≤ t → ∀ i l j l' D, i ≤ T → pPlain cd vl io dp i l = .inr (j, l', D) → eIT (g_testOf N t) 2 s base e i j D := by
  have hnot : ∀ t i j D, 1 ≤ t → i ≤ T → (∀ (live b0 : Int32) (K : Int32 → mS → Prop), xB b0 → (∀ x b, eT live b0 (D e) (bI (x != bI (pNots cd 401 i false).2)) b → xB x → xB b → K x (ev s (nI (base + j)) b)) → g_testOf N t 3 live (ev s (nI (base + (pNots cd 401 i false).1)) b0) K) → eIT (g_testOf N (t + 1)) 2 s base e i j D := fun t i j D ht hi h live b0 K hb hK => by
    show w_plainOf N (g_testOf N t) live (ev s (nI (base + i)) b0) K
    unfold w_plainOf
    refine e_nots hC hT 401 N.1 i false hi (by omega) hN live b0 K _ ?_
    refine h live b0 _ hb (fun x b hx hxx hb => ⟨fun z => ?_, fun z => ?_⟩)
    · rw [show (x != bI (pNots cd 401 i false).2) = false from by rw [z]; simp] at hx
      exact hK 0 b hx xB0 hb
    · rw [show (x != bI (pNots cd 401 i false).2) = true from by simpa using z] at hx
      exact hK 1 b hx xB1 hb
  have hcomp : ∀ t dp i l j l' D, dp ≤ 8 → 2 ≤ t → i ≤ T → ¬ cd (pNots cd 401 i false).1 = 140 → pComp cd vl io dp (pNots cd 401 i false).1 l (pNots cd 401 i false).2 = .inr (j, l', D) → eIT (g_testOf N t) 2 s base e i j D := fun t dp i l j l' D hdp ht hi hn h => by
    obtain ⟨t, rfl⟩ : ∃ u, t = u + 1 + 1 := ⟨t - 2, by omega⟩
    refine hnot (t + 1) i j D (by omega) hi (fun live b0 K hb hK => ?_)
    exact e_comp (rc := g_testOf N t) hN hN2 hC hT hE hdp (pNots_le hC.2.2.2.1 401 i false hi).2 hn h hb hK
  intro dp
  induction dp with
  | zero =>
    intro t hdp ht i l j l' D hi h
    rw [pPlain_0] at h
    by_cases hc : cd (pNots cd 401 i false).1 = 140
    · rw [if_pos hc] at h
      cases h
    · rw [if_neg hc] at h
      exact hcomp t 0 i l j l' D hdp (by omega) hi hc h
  | succ dp ih =>
    intro t hdp ht i l j l' D hi h
    rw [pPlain_s] at h
    by_cases hc : cd (pNots cd 401 i false).1 = 140
    · rw [if_pos hc] at h
      obtain ⟨⟨j1, l1, d⟩, h1, h2⟩ := pb_r h
      dsimp only at h2
      by_cases h6 : cd j1 = 141
      · rw [if_pos h6] at h2
        cases h2
        have hz := hC.2.2.2.1
        have hlt := cd_lt hz hc (by decide)
        have hlt2 := cd_lt hz h6 (by decide)
        obtain ⟨t, rfl⟩ : ∃ u, t = u + 2 + 1 + 1 := ⟨t - 4, by omega⟩
        have hs := e_test hN hC hT (ih t (by omega) (by omega)) hlt h1
        refine hnot (t + 2 + 1) i (j1 + 1) _ (by omega) hi (fun live b0 K hb hK => ?_)
        show w_positiveOf N (g_testOf N (t + 2)) live (ev s (nI (base + (pNots cd 401 i false).1)) b0) K
        unfold w_positiveOf
        simp only [w_sign, qq140]
        refine e_pass hC (by omega) (fun _ => ⟨fun z => absurd z (by decide), fun _ => ?_⟩) (fun z => absurd hc z)
        refine hs live b0 _ hb (fun x b hx hxx hb s' e' => ?_)
        rw [e_go] at e'
        subst e'
        exact ⟨hxx, hK x b (eT_nots hx hxx) hxx hb⟩
      · rw [if_neg h6] at h2
        cases h2
    · rw [if_neg hc] at h
      exact hcomp t (dp + 1) i l j l' D hdp (by omega) hi hc h
/-- a test of the parser told by the reference -/
theorem e_testT (hN : 401 ≤ N.1) (hN2 : 40 ≤ N.2) (hC : tkC s base T cd vl) (hT : T ≤ 400) (hE : enR s io e) {dp i l j l' : Nat} {D : dT} (hdp : dp ≤ 8) (hi : i ≤ T) (h : pTest cd vl io dp i l = .inr (j, l', D)) : eIT (g_testOf N N.2) 0 s base e i j D := by
  have := e_test hN hC hT (t := N.2 - 2) (dp := dp) (fun i l j l' D hi h => e_plain hN hN2 hC hT hE dp (N.2 - 2) hdp (by omega) i l j l' D hi h) hi h
  have e2 : N.2 - 2 + 2 = N.2 := by omega
  rw [e2] at this
  exact this
end ET2
