set_option maxRecDepth 100000
/-! ===== the reference: what a law tells of a note ===== -/
/-- text t of the kept row is a law's, and means cls -/
def txOK (kp : Nat → Int32) (t : Nat) (cls : List cL) : Prop := kp (45 + t) = nI (txT kp t) ∧ txT kp t ≤ 400 ∧ (∀ k, 0 ≤ txV kp t k) ∧ pLaw (txC kp t) (txV kp t) (txT kp t) = .inr cls
/-- the law in force -/
def inF (kp : Nat → Int32) (lw : Option (List cL)) : Prop := (kp 44 = -1 ∧ lw = none) ∨ ∃ t cls, t < 6 ∧ kp 44 = nI t ∧ txOK kp t cls ∧ lw = some cls
def tellsO (e : Nat → Int64) (h top wo : Int32) (lw : Option (List cL)) : Int32 := match lw with
  | none => wo
  | some cls => (tellsL e h top.toInt64 wo.toInt64 cls).toInt32
/-- what is asked of note n at a pitch, that ahead of it at another one (none), by the words' codes -/
def nE32 (kp : Nat → Int32) (n : Nat) (here : Int32) (pa : Option Int32) (c : Nat) : Int32 :=
  if c = 8 then nI n else if c = 9 then here - kp (12 + n) else if c = 10 then (match pa with
    | none => 0
    | some a => a - kp (12 + n - 1)) else if c = 11 then (match pa with
    | none => 0
    | some a => here - a) else if c = 12 then (match pa with
    | none => 0
    | some _ => kp (12 + n) - kp (12 + n - 1)) else if c = 13 then (if nI n = kp 41 - 1 then 1 else 0) else if c = 14 then kp 38 else if c = 15 then here else if c = 16 then kp (12 + n) else if c = 17 then kp 24 else 0
def nE (kp : Nat → Int32) (n : Nat) (here : Int32) (pa : Option Int32) (c : Nat) : Int64 := (nE32 kp n here pa c).toInt64
def absI (x : Int32) : Int32 := if 0 ≤ x then x else -x
def woC (here : Int32) : Option Int32 → Int32
  | none => 0
  | some a => absI (here - a)
def mCost (kp : Nat → Int32) (lw : Option (List cL)) (n : Nat) (here : Int32) (pa : Option Int32) : Int32 := tellsO (nE kp n here pa) 1 999 (woC here pa) lw
def mEarn (kp : Nat → Int32) (lw : Option (List cL)) (n : Nat) (here : Int32) (pa : Option Int32) : Int32 := tellsO (nE kp n here pa) 2 99 1 lw
def mBar (kp : Nat → Int32) (lw : Option (List cL)) (n : Nat) (here : Int32) (pa : Option Int32) : Bool := match lw with
  | none => false
  | some cls => hasL (nE kp n here pa) cls
section TE
variable {N : Nat × Nat} {s : mS} {base T : Nat} {cd vl : Nat → Int32} {e : Nat → Int64}
theorem t_146 {h top is : Int32} {a x7 : Int64} {x9 y0 g b : Int32} {S : Option Int64} {tk : Bool} {Kr : Int32 → mS → Prop} {K R : Int64 → mS → Prop} (hsum : (S = none ∧ x9 = 1) ∨ (x9 = 0 ∧ S = some x7)) (htst : (tk = false ∧ (b = 1 ∨ (b = 0 ∧ y0 = 0))) ∨ (tk = true ∧ b = 0 ∧ y0 = 1)) (hR : R (match (if is = h ∧ tk = true then S else none) with
  | none => a
  | some v => clamp top.toInt64 v) (ev s (g + 1) b)) : w_tells_146 N h top a is x7 x9 y0 Kr K R (ev s g b) := by
  have h199 : ∀ v, R v (ev s (g + 1) b) → w_tells_199 N h top v Kr K R (ev s g b) := fun v hv => by
    unfold w_tells_199
    intro s' e'
    rw [ev_22, ev_w22] at e'
    subst e'
    exact hv
  have hno : ¬ (is = h ∧ tk = true ∧ S = some x7) → (S = none ∨ S = some x7) → w_tells_199 N h top a Kr K R (ev s g b) := fun hn hS => by
    refine h199 a ?_
    by_cases c : is = h ∧ tk = true
    · rw [if_pos c] at hR
      rcases hS with hS | hS
      · rw [hS] at hR
        exact hR
      · exact absurd ⟨c.1, c.2, hS⟩ hn
    · rw [if_neg c] at hR
      exact hR
  have hS : S = none ∨ S = some x7 := hsum.elim (fun z => Or.inl z.1) fun z => Or.inr z.2
  have e01 : ¬ (1 : Int32) = 0 := by decide
  have e10 : ¬ (0 : Int32) = 1 := by decide
  unfold w_tells_146
  rw [ev_24]
  refine ⟨fun z => hno (fun q => z q.1) hS, fun ce => ⟨fun z => hno (fun q => ?_) hS, fun ny => ⟨fun z => hno (fun q => ?_) hS, fun cb => ⟨fun z => hno (fun q => ?_) hS, fun c9 => ?_⟩⟩⟩⟩
  · rcases htst with ⟨t1, -⟩ | ⟨-, -, t2⟩
    · rw [t1] at q
      exact absurd q.2.1 (by decide)
    · exact e01 (t2.symm.trans z)
  · rcases htst with ⟨t1, -⟩ | ⟨-, t2, -⟩
    · rw [t1] at q
      exact absurd q.2.1 (by decide)
    · exact z t2
  · rcases hsum with ⟨t1, -⟩ | ⟨t1, -⟩
    · rw [t1] at q
      exact absurd q.2.2 (by simp)
    · exact z t1
  · have hS2 : S = some x7 := by
      rcases hsum with ⟨-, t1⟩ | ⟨-, t2⟩
      · exact absurd (t1.symm.trans c9) e01
      · exact t2
    have htk : tk = true := by
      rcases htst with ⟨-, t1 | ⟨-, t2⟩⟩ | ⟨t1, -⟩
      · exact absurd (t1.symm.trans cb) e01
      · exact absurd t2 ny
      · exact t1
    rw [if_pos ⟨ce, htk⟩, hS2] at hR
    have hR' : R (clamp top.toInt64 x7) (ev s (g + 1) b) := hR
    unfold clamp at hR'
    rw [lgc_nneg, lgc_npos]
    have z0 : (0 : Int64).toInt = 0 := by decide
    refine ⟨fun z => ?_, fun z => ?_⟩
    · rw [if_neg (by rw [Int64.le_iff_toInt_le] at z; rw [Int64.lt_iff_toInt_lt]; omega)] at hR'
      refine ⟨fun z2 => ?_, fun z2 => ?_⟩
      · rw [if_neg (by rw [Int64.le_iff_toInt_le] at z2; rw [Int64.lt_iff_toInt_lt]; omega)] at hR'
        exact h199 _ hR'
      · rw [if_pos (by rw [Int64.le_iff_toInt_le] at z2; rw [Int64.lt_iff_toInt_lt]; omega)] at hR'
        exact h199 _ hR'
    · rw [if_pos (by rw [Int64.le_iff_toInt_le] at z; rw [Int64.lt_iff_toInt_lt]; omega)] at hR'
      exact h199 _ hR'
theorem t_112 (hN : 402 ≤ N.1) (hN2 : 40 ≤ N.2) (hC : tkC s base T cd vl) (hT : T ≤ 400) (hE : enR s false e) {h top is : Int32} {a x7 : Int64} {b : Int32} {so : Option dS} {S : Option Int64} {Kr : Int32 → mS → Prop} {K R : Int64 → mS → Prop} {i j l l' : Nat} {t : Option dT} (hi : i ≤ T) (hop : pOpt cd vl false i l = .inr (j, l', t)) (hsum : (S = none ∧ b = 1) ∨ (b = 0 ∧ S = some x7)) (hS : S = match so with
  | none => some 1
  | some D => D e) (hR : ∀ b', R (match clOk e h (is, so, t) with
  | none => a
  | some v => clamp top.toInt64 v) (ev s (nI (base + (j + 1))) b')) : w_tells_112 N h top a is x7 Kr K R (ev s (nI (base + i)) b) := by
  unfold w_tells_112
  intro x hx s' e'
  rw [ev_24] at hx
  rw [ev_w24] at e'
  subst hx e'
  have fin : ∀ (y0 b' : Int32), (tstOk e t = false ∧ (b' = 1 ∨ (b' = 0 ∧ y0 = 0))) ∨ (tstOk e t = true ∧ b' = 0 ∧ y0 = 1) → w_tells_146 N h top a is x7 x y0 Kr K R (ev s (nI (base + j)) b') := fun y0 b' htst => by
    refine t_146 hsum htst ?_
    have e1 : nI (base + j) + 1 = nI (base + (j + 1)) := by
      rw [nI_1]
      rfl
    rw [e1, hS]
    exact hR b'
  unfold pOpt at hop
  by_cases c4 : cd i = 4
  · rw [if_pos c4] at hop
    obtain ⟨⟨j1, l1, D⟩, h1, h2⟩ := pb_r hop
    cases h2
    have hlt := cd_lt hC.2.2.2.1 c4 (by decide)
    refine e_pass hC (by omega) (fun _ => ⟨fun z => absurd z (by decide), fun _ => ?_⟩) (fun z => absurd c4 z)
    refine e_testT (by omega) hN2 hC hT hE (by omega) hlt h1 1 0 _ xB0 (fun y b2 hy hyx hb2 => ?_)
    have htst : (tstOk e (some D) = false ∧ (b2 = 1 ∨ (b2 = 0 ∧ y = 0))) ∨ (tstOk e (some D) = true ∧ b2 = 0 ∧ y = 1) := by
      rcases hy.1 ⟨by decide, rfl⟩ with ⟨n1, e1⟩ | ⟨e1, v, q, e2⟩
      · exact Or.inl ⟨by show (D e == some true) = false; rw [n1]; rfl, Or.inl e1⟩
      · cases v with
        | true => exact Or.inr ⟨by show (D e == some true) = true; rw [q]; rfl, e1, e2⟩
        | false => exact Or.inl ⟨by show (D e == some true) = false; rw [q]; rfl, Or.inr ⟨e1, e2⟩⟩
    refine ⟨fun z => fin 0 b2 ?_, fun z => ?_⟩
    · rw [z] at htst
      exact htst
    · unfold w_tells_141
      refine fin 1 b2 ?_
      rw [hyx.resolve_left z] at htst
      exact htst
  · rw [if_neg c4] at hop
    cases hop
    refine e_pass hC (by omega) (fun z => absurd z c4) (fun _ => ⟨fun _ => ?_, fun z => absurd rfl z⟩)
    unfold w_tells_141
    exact fin 1 0 (Or.inr ⟨rfl, rfl, rfl⟩)
theorem t_loop (hN : 402 ≤ N.1) (hN2 : 40 ≤ N.2) (hC : tkC s base T cd vl) (hT : T ≤ 400) (hE : enR s false e) (h top : Int32) {Kr : Int32 → mS → Prop} {K : Int64 → mS → Prop} : ∀ f n i l acc cls t, pAll cd T (pClause cd vl false) f n i l acc = .inr cls → i ≤ T → f + 1 ≤ t → ∃ rest, cls = acc ++ rest ∧ ∀ (a : Int64) (b : Int32), (∀ b', K (tellsL e h top.toInt64 a rest) (ev s (nI (base + (T + 1))) b')) → w_tells_61 N h top Kr K t a (ev s (nI (base + i)) b) := by
  have hz := hC.2.2.2.1
  intro f
  induction f with
  | zero =>
    intro n i l acc cls t hp
    cases hp
  | succ f ih =>
    intro n i l acc cls t hp hi ht
    obtain ⟨t, rfl⟩ : ∃ u, t = u + 1 := ⟨t - 1, by omega⟩
    have e1 : pAll cd T (pClause cd vl false) (f + 1) n i l acc = pb (pClause cd vl false i l) (fun z => if cd z.1 = 159 then (if n + 1 = 12 then .inl (z.1 + 1) else pAll cd T (pClause cd vl false) f (n + 1) (z.1 + 1) z.2.1 (acc ++ [z.2.2])) else if z.1 < T then .inl z.1 else .inr (acc ++ [z.2.2])) := rfl
    rw [e1] at hp
    obtain ⟨⟨j, l1, c⟩, h1, h2⟩ := pb_r hp
    dsimp only at h2
    have hm1 := (pM_clause (vl := vl) (io := false) hz i l hi).2 _ h1
    dsimp only at hm1
    -- the clause itself
    have clause : ∀ (a : Int64) (b : Int32) (R : Int64 → mS → Prop), (∀ b', R (match clOk e h c with
      | none => a
      | some v => clamp top.toInt64 v) (ev s (nI (base + (j + 1))) b')) → i < T ∧ w_codeAt (mFd (ev s (nI (base + i)) b) 22) (ev s (nI (base + i)) b) (fun x102 s103 => ∀ s104 : mS, s104 = mF s103 24 0 → ∀ s105 : mS, s105 = mF s104 22 (mFd s104 22 + 1) → (¬ x102 = 3 → g_sumOf N N.2 0 1 s105 (fun x107 s108 => w_tells_112 N h top a x102 x107 Kr K R s108)) ∧ (x102 = 3 → w_tells_112 N h top a x102 1 Kr K R s105)) := fun a b R hR => by
      unfold pClause at h1
      by_cases hc : cd i = 1 ∨ cd i = 2
      · rw [if_pos hc] at h1
        obtain ⟨⟨j1, l2, D⟩, h3, h4⟩ := pb_r h1
        obtain ⟨⟨j2, l3, t2⟩, h5, h6⟩ := pb_r h4
        cases h6
        have hlt : i < T := hc.elim (fun z => cd_lt hz z (by decide)) fun z => cd_lt hz z (by decide)
        have hms := (pM_sum (vl := vl) (io := false) hz 8 (i + 1) l hlt).2 _ h3
        have hn3 : ¬ cd i = 3 := fun z => by
          rcases hc with hc | hc
          · exact absurd (hc.symm.trans z) (by decide)
          · exact absurd (hc.symm.trans z) (by decide)
        refine ⟨hlt, e_code hC (by omega) (fun s4 e4 s5 e5 => ⟨fun _ => ?_, fun z => absurd z hn3⟩)⟩
        rw [ev_w24] at e4
        subst e4
        rw [e_go] at e5
        subst e5
        refine (e_sumT (by omega) hN2 hC hT hE (by omega) hlt h3).2 0 _ xB0 (fun x b2 hx hb2 => ?_)
        refine t_112 hN hN2 hC hT hE (so := some D) hms.2.1 h5 ?_ rfl hR
        rcases hx.1 ⟨by decide, rfl⟩ with z | z
        · exact Or.inl z
        · exact Or.inr z
      · rw [if_neg hc] at h1
        by_cases h3 : cd i = 3
        · rw [if_pos h3] at h1
          obtain ⟨⟨j2, l3, t2⟩, h5, h6⟩ := pb_r h1
          cases h6
          have hlt := cd_lt hz h3 (by decide)
          refine ⟨hlt, e_code hC (by omega) (fun s4 e4 s5 e5 => ⟨fun z => absurd h3 z, fun _ => ?_⟩)⟩
          rw [ev_w24] at e4
          subst e4
          rw [e_go] at e5
          subst e5
          rw [h3]
          exact t_112 hN hN2 hC hT hE (so := none) hlt h5 (Or.inr ⟨rfl, rfl⟩) rfl hR
        · rw [if_neg h3] at h1
          cases h1
    have body : ∀ (a : Int64) (b : Int32), (∀ b', w_tells_61 N h top Kr K t (match clOk e h c with
      | none => a
      | some v => clamp top.toInt64 v) (ev s (nI (base + (j + 1))) b')) → w_tells_61 N h top Kr K (t + 1) a (ev s (nI (base + i)) b) := fun a b hb => by
      obtain ⟨hlt, hw⟩ := clause a b (fun x4 s => w_tells_61 N h top Kr K t x4 s) hb
      simp only [w_tells_61]
      have e23 : mFd (ev s (nI (base + i)) b) 23 = nI (base + T) := (ev_o _ _ _ (by decide) (by decide)).trans hC.1
      refine ⟨fun z => ?_, fun _ => hw⟩
      rw [e23, ev_22] at z
      have hbT := hC.2.1
      rw [nI_leI (by omega) (by omega)] at z
      omega
    by_cases h6 : cd j = 159
    · rw [if_pos h6] at h2
      by_cases h7 : n + 1 = 12
      · rw [if_pos h7] at h2
        cases h2
      · rw [if_neg h7] at h2
        obtain ⟨rest, hr, hk⟩ := ih (n + 1) (j + 1) l1 (acc ++ [c]) cls t h2 (cd_lt hz h6 (by decide)) (by omega)
        refine ⟨c :: rest, by rw [hr, List.append_assoc]; rfl, fun a b hK => body a b (fun b' => hk _ b' hK)⟩
    · rw [if_neg h6] at h2
      by_cases h8 : j < T
      · rw [if_pos h8] at h2
        cases h2
      · rw [if_neg h8] at h2
        cases h2
        have hj : j = T := by omega
        subst hj
        refine ⟨[c], rfl, fun a b hK => body a b (fun b' => ?_)⟩
        obtain ⟨t, rfl⟩ : ∃ u, t = u + 1 := ⟨t - 1, by omega⟩
        simp only [w_tells_61]
        have e23 : mFd (ev s (nI (base + (j + 1))) b') 23 = nI (base + j) := (ev_o _ _ _ (by decide) (by decide)).trans hC.1
        have hbT := hC.2.1
        refine ⟨fun _ => hK b', fun z => ?_⟩
        rw [e23, ev_22] at z
        exact absurd (nI_le (by omega) (by omega)) z
def teF : List Nat := [22, 23, 24, 25]
/-- what is asked, as it lies in the row -/
def askE (s : mS) (c : Nat) : Int64 := if 8 ≤ c ∧ c ≤ 17 then (s.2.1 26 (c - 8)).toInt64 else 0
theorem askE_R {s : mS} (hb : ∀ k, k < 10 → inB (s.2.1 26 k).toInt64) (h25 : mFd s 25 = 0) : enR s false (askE s) := by
  refine ⟨fun c => ?_, fun _ => ⟨h25, fun c h1 h2 => ?_⟩, fun z => by cases z⟩
  · unfold askE
    by_cases hc : 8 ≤ c ∧ c ≤ 17
    · rw [if_pos hc]
      exact hb (c - 8) (by omega)
    · rw [if_neg hc]
      exact ⟨by decide, by decide⟩
  · have g1 := Int32.le_iff_toInt_le.mp h1
    have g2 := Int32.le_iff_toInt_le.mp h2
    have g3 : (8 : Int32).toInt = 8 := by decide
    have g4 : (17 : Int32).toInt = 17 := by decide
    rw [g3] at g1
    rw [g4] at g2
    obtain ⟨q, hq, hq2⟩ := i32N (c := c) (by omega)
    have e1 : c - 8 = nI (q - 8) := by
      rw [hq]
      exact pk_sub (b := 8) (by omega)
    show askE s c.toNatClampNeg = (s.2.1 26 (c - 8).toNatClampNeg).toInt64
    rw [e1, nI_clamp (by omega), hq, nI_clamp (by omega)]
    unfold askE
    rw [if_pos (by omega)]
theorem w_tellsS (hN : 402 ≤ N.1) (hN2 : 40 ≤ N.2) {s : mS} {lw : Option (List cL)} (hF : inF (s.2.1 2) lw) (hb : ∀ k, k < 10 → inB (s.2.1 26 k).toInt64) (h top wo : Int32) {K : Int32 → mS → Prop} (hK : ∀ s', mD teF [] [] s s' → K (tellsO (askE s) h top wo lw) s') : w_tells N h top wo s K := by
  have h44 : mAt s 2 44 = s.2.1 2 44 := mAt_n (k := 44) (by decide)
  have hv44 : vp_in 44 5652 := vp_in_nI (n := 44) (by decide) (by decide)
  unfold w_tells
  rw [h44]
  rcases hF with ⟨h1, rfl⟩ | ⟨t, cls, ht, h1, hx, rfl⟩
  · exact ⟨hv44, fun z => absurd h1 z, fun _ => hK s (mD_r s)⟩
  · rw [h1]
    refine ⟨hv44, fun _ s3 e3 x4 hx4 => ⟨hv44, fun s6 e6 => ⟨hv44, ?_⟩⟩, fun z => ?_⟩
    · subst hx4
      obtain ⟨x1, x2, x3, x5⟩ := hx
      have a3 : mAt s3 2 44 = nI t := by
        rw [e3]
        exact h44.trans h1
      have a6 : mAt s6 2 44 = nI t := by
        rw [e6]
        exact a3
      have m1 : (400 : Int32) * nI t = nI (400 * t) := pk_mul 400 t
      have m2 : (45 : Int32) + nI t = nI (45 + t) := nI_add 45 t
      rw [a3, m1] at e6
      rw [a6, m2]
      refine ⟨vp_in_nI (by omega) (by decide), fun s9 e9 => ?_⟩
      have a45 : mAt s6 2 (nI (45 + t)) = nI (txT (s.2.1 2) t) := by
        rw [mAt_n (by omega), e6, e3]
        exact x1
      have f22 : mFd s6 22 = nI (400 * t) := by
        rw [e6]
        rfl
      rw [a45, f22, nI_add] at e9
      have hD9 : mD teF [] [] s s9 := by
        rw [e9, e6, e3]
        exact mD_t (mD_t (mD_F s _ (by decide)) (mD_F _ _ (by decide))) (mD_F _ _ (by decide))
      have hC : tkC s9 (400 * t) (txT (s.2.1 2) t) (txC (s.2.1 2) t) (txV (s.2.1 2) t) := by
        refine ⟨by rw [e9]; rfl, by omega, fun k hk => ?_, fun k hk => ?_, x3⟩
        · rw [hD9.2.1 2 (by decide)]
          unfold txC txV
          rw [if_pos hk, if_pos hk]
          exact ⟨by rw [show 52 + (400 * t + k) = 52 + 400 * t + k by omega], by rw [show 2852 + (400 * t + k) = 2852 + 400 * t + k by omega]⟩
        · unfold txC
          rw [if_neg (by omega)]
      have hb9 : ∀ k, k < 10 → inB (s9.2.1 26 k).toInt64 := fun k hk => by
        rw [hD9.2.1 26 (by decide)]
        exact hb k hk
      have hask : askE s9 = askE s := by
        funext c
        unfold askE
        rw [hD9.2.1 26 (by decide)]
      have h25 : mFd s9 25 = 0 := by
        rw [e9, e6, e3]
        rfl
      have hE := askE_R hb9 h25
      rw [hask] at hE
      obtain ⟨rest, hr, hk⟩ := t_loop (Kr := K) (K := fun x110 s111 => K x110.toInt32 s111) hN hN2 hC x2 hE h top 12 0 0 0 [] cls N.1 x5 (Nat.zero_le _) (by omega)
      have hr' : cls = rest := hr
      subst hr'
      have := hk wo.toInt64 (mFd s9 24) (fun b' => hK _ (mD_t hD9 (mD_t (mD_F s9 _ (by decide)) (mD_F _ _ (by decide)))))
      have e0 : ev s9 (nI (400 * t + 0)) (mFd s9 24) = s9 := by
        have f : mFd s9 22 = nI (400 * t) := by
          rw [e9]
          exact f22
        rw [Nat.add_zero, ← f]
        exact ev_self s9
      rw [e0] at this
      exact this
    · have := congrArg Int32.toInt z
      rw [nI_toInt (by omega)] at this
      have e1 : (-1 : Int32).toInt = -1 := by decide
      rw [e1] at this
      omega
end TE
