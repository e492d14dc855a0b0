set_option maxRecDepth 100000
/-! ===== the reference's sums and tests: what they tell of tokens that the parser takes ===== -/
theorem xB0 : xB 0 := Or.inl rfl
theorem xB1 : xB 1 := Or.inr rfl
/-- go and broken written -/
def ev (s : mS) (g b : Int32) : mS := mF (mF s 22 g) 24 b
theorem ev_22 (s : mS) (g b : Int32) : mFd (ev s g b) 22 = g := rfl
theorem ev_24 (s : mS) (g b : Int32) : mFd (ev s g b) 24 = b := rfl
theorem ev_o (s : mS) (g b : Int32) {j : Nat} (h : j ≠ 22) (h2 : j ≠ 24) : mFd (ev s g b) j = mFd s j := by
  show (if j = 24 then b else if j = 22 then g else s.1 j) = s.1 j
  rw [if_neg h2, if_neg h]
theorem ev_w22 (s : mS) (g b x : Int32) : mF (ev s g b) 22 x = ev s x b := by
  refine Prod.ext (funext fun j => ?_) rfl
  show (if j = 22 then x else if j = 24 then b else if j = 22 then g else s.1 j) = (if j = 24 then b else if j = 22 then x else s.1 j)
  by_cases h : j = 22
  · subst h
    rfl
  · rw [if_neg h, if_neg h, if_neg h]
theorem ev_w24 (s : mS) (g b x : Int32) : mF (ev s g b) 24 x = ev s g x := by
  refine Prod.ext (funext fun j => ?_) rfl
  show (if j = 24 then x else if j = 24 then b else if j = 22 then g else s.1 j) = (if j = 24 then x else if j = 22 then g else s.1 j)
  by_cases h : j = 24
  · rw [if_pos h, if_pos h]
  · rw [if_neg h, if_neg h, if_neg h]
theorem ev_self (s : mS) : ev s (mFd s 22) (mFd s 24) = s := by
  refine Prod.ext (funext fun j => ?_) rfl
  show (if j = 24 then s.1 24 else if j = 22 then s.1 22 else s.1 j) = s.1 j
  by_cases h : j = 24
  · rw [if_pos h, h]
  · rw [if_neg h]
    by_cases h2 : j = 22
    · rw [if_pos h2, h2]
    · rw [if_neg h2]
theorem ev_ev (s : mS) (g b g2 b2 : Int32) : ev (ev s g b) g2 b2 = ev s g2 b2 := by
  show mF (mF (ev s g b) 22 g2) 24 b2 = _
  rw [ev_w22, ev_w24]
/-- the tokens of a text that lies in the kept row from base on -/
def tkC (s : mS) (base T : Nat) (cd vl : Nat → Int32) : Prop := mFd s 23 = nI (base + T) ∧ base + T ≤ 2800 ∧ (∀ k, k < T → s.2.1 2 (52 + (base + k)) = cd k ∧ s.2.1 2 (2852 + (base + k)) = vl k) ∧ (∀ k, T ≤ k → cd k = 0) ∧ ∀ k, 0 ≤ vl k
/-- what is had behind a sum or test: live and fine ahead of it: broken is told; else nothing is -/
def eR {α : Type} (live b0 : Int32) (r : Option α) (x : α) (b : Int32) : Prop := (live ≠ 0 ∧ b0 = 0 → (r = none ∧ b = 1) ∨ (b = 0 ∧ r = some x)) ∧ (¬ (live ≠ 0 ∧ b0 = 0) → b = b0)
section EV
variable {s : mS} {base T : Nat} {cd vl : Nat → Int32} {live b b0 : Int32} {i : Nat}
theorem e_code {K : Int32 → mS → Prop} (hC : tkC s base T cd vl) (hi : i ≤ 500) (h : K (cd i) (ev s (nI (base + i)) b)) : w_codeAt (mFd (ev s (nI (base + i)) b) 22) (ev s (nI (base + i)) b) K := by
  obtain ⟨h1, h2, h3, h4, -⟩ := hC
  rw [ev_22]
  unfold w_codeAt
  rw [ev_o _ _ _ (by decide) (by decide), h1]
  refine ⟨fun c => ?_, fun c => ?_⟩
  · rw [nI_leI (by omega) (by omega)] at c
    rw [← h4 i (by omega)]
    exact h
  · rw [nI_leI (by omega) (by omega)] at c
    have e : (52 : Int32) + nI (base + i) = nI (52 + (base + i)) := nI_add 52 _
    rw [e]
    refine ⟨vp_in_nI (by omega) (by decide), ?_⟩
    have e2 : mAt (ev s (nI (base + i)) b) 2 (nI (52 + (base + i))) = cd i := by
      show s.2.1 2 (nI (52 + (base + i))).toNatClampNeg = cd i
      rw [nI_clamp (by omega)]
      exact (h3 i (by omega)).1
    rw [e2]
    exact h
theorem e_go : mF (ev s (nI (base + i)) b) 22 (mFd (ev s (nI (base + i)) b) 22 + 1) = ev s (nI (base + (i + 1))) b := by
  rw [ev_22, ev_w22, ← Nat.add_assoc, nI_succ]
theorem e_pass {c : Int32} {K : Int32 → mS → Prop} (hC : tkC s base T cd vl) (hi : i ≤ 500) (h1 : cd i = c → K 1 (ev s (nI (base + (i + 1))) b)) (h2 : ¬ cd i = c → K 0 (ev s (nI (base + i)) b)) : w_passes0 c (ev s (nI (base + i)) b) K := by
  unfold w_passes0
  refine e_code hC hi ⟨fun e => ?_, fun e => ?_⟩
  · exact ⟨fun _ => ⟨xB0, h2 e⟩, fun z => absurd rfl z⟩
  · refine ⟨fun z => absurd z (by decide), fun _ s' e' => ?_⟩
    rw [e_go] at e'
    subst e'
    exact ⟨xB1, h1 e⟩
theorem e_bound {v : Int64} {K : Int64 → mS → Prop} {g : Int32} (hb : xB b) (h : ∀ x b', eR live b (wiO v) x b' → xB b' → K x (ev s g b')) : w_bounded v live (ev s g b) K := by
  have hd : ∀ (v : Int64) (b : Int32), (b = 0 → K v (ev s g b)) → (¬ b = 0 → K 0 (ev s g b)) → w_bounded_25 v K (ev s g b) := fun v b h1 h2 => by
    unfold w_bounded_25
    rw [ev_24]
    exact ⟨h1, h2⟩
  have he : ∀ (v : Int64) (b : Int32), K 0 (ev s g 1) → w_bounded_20 v K (ev s g b) := fun v b h1 => by
    unfold w_bounded_20
    intro s' e
    rw [ev_w24] at e
    subst e
    exact hd v 1 (fun z => absurd z (by decide)) fun _ => h1
  unfold w_bounded
  refine ⟨fun e => ?_, fun e => ?_⟩
  · exact hd v b (fun _ => h v b ⟨fun z => absurd e z.1, fun _ => rfl⟩ hb) fun _ => h 0 b ⟨fun z => absurd e z.1, fun _ => rfl⟩ hb
  · have hbr : 1000000000 < v ∨ v < -1000000000 → K 0 (ev s g 1) := fun z => h 0 1 ⟨fun _ => Or.inl ⟨if_pos z, rfl⟩, fun z => by
      rcases hb with rfl | rfl
      · exact absurd ⟨e, rfl⟩ z
      · rfl⟩ xB1
    rw [lgc_pos, lgc_nneg]
    refine ⟨fun z => he v b (hbr (Or.inl z)), fun z => ⟨fun z2 => ?_, fun z2 => he v b (hbr (Or.inr ?_))⟩⟩
    · refine hd v b (fun e0 => ?_) fun e0 => ?_
      · refine h v b ⟨fun _ => Or.inr ⟨e0, if_neg ?_⟩, fun _ => rfl⟩ hb
        rintro (z3 | z3)
        · exact z z3
        · simp only [Int64.lt_iff_toInt_lt, Int64.le_iff_toInt_le] at z3 z2
          omega
      · exact h 0 b ⟨fun z => absurd z.2 e0, fun _ => rfl⟩ hb
    · simp only [Int64.lt_iff_toInt_lt, Int64.le_iff_toInt_le] at z2 ⊢
      omega
/-- a joined value out of its parts; b2' is b2 unless a part of naught was divided by -/
theorem eR_join {c : Int32} {D1 D2 : dS} {e : Nat → Int64} {x y z : Int64} {b1 b2 b2' b3 : Int32} {w : Option Int64} (h1 : eR live b0 (D1 e) x b1) (h2 : eR live b1 (D2 e) y b2) (h3 : eR live b2' w z b3) (hA : ¬ b2 = 0 → b2' = b2) (hA2 : live = 0 → b2' = b2) (hB : D1 e = some x → D2 e = some y → b2 = 0 → ¬ live = 0 → (jD c D1 D2 e = none ∧ b2' = 1) ∨ (b2' = 0 ∧ jD c D1 D2 e = w)) : eR live b0 (jD c D1 D2 e) z b3 := by
  refine ⟨fun hl => ?_, fun hl => ?_⟩
  · rcases h1.1 hl with ⟨n1, rfl⟩ | ⟨rfl, s1⟩
    · have e2 : b2 = 1 := h2.2 (fun z => absurd z.2 (by decide))
      have e3 : b2' = 1 := by rw [hA (by rw [e2]; decide), e2]
      refine Or.inl ⟨by unfold jD; rw [n1], ?_⟩
      rw [h3.2 (fun z => absurd z.2 (by rw [e3]; decide)), e3]
    · rcases h2.1 ⟨hl.1, rfl⟩ with ⟨n2, e2⟩ | ⟨e2, s2⟩
      · have e3 : b2' = 1 := by rw [hA (by rw [e2]; decide), e2]
        refine Or.inl ⟨by unfold jD; rw [s1]; dsimp only; rw [n2], ?_⟩
        rw [h3.2 (fun z => absurd z.2 (by rw [e3]; decide)), e3]
      · rcases hB s1 s2 e2 hl.1 with ⟨n3, e3⟩ | ⟨e3, e4⟩
        · refine Or.inl ⟨n3, ?_⟩
          rw [h3.2 (fun z => absurd z.2 (by rw [e3]; decide)), e3]
        · rw [e4]
          exact h3.1 ⟨hl.1, e3⟩
  · have e1 : b1 = b0 := h1.2 hl
    have e2 : b2 = b1 := h2.2 (fun z => hl ⟨z.1, by rw [← e1]; exact z.2⟩)
    have e3 : b2' = b2 := by
      by_cases hlv : live = 0
      · exact hA2 hlv
      · exact hA (fun z => hl ⟨hlv, by rw [← e1, ← e2]; exact z⟩)
    rw [h3.2 (fun z => hl ⟨z.1, by rw [← e1, ← e2, ← e3]; exact z.2⟩), e3, e2, e1]
end EV
/-! bounds -/
def dOK (D : dS) : Prop := ∀ e : Nat → Int64, (∀ c, inB (e c)) → ∀ v, D e = some v → inB v
theorem i64_div {p q : Int64} (hp : inB p) : inB (p / q) ∧ inB (p - p / q * q) := by
  obtain ⟨h1, h2⟩ := hp
  have hd : (p / q).toInt = p.toInt.tdiv q.toInt := by
    have := Int64.toInt_div p q
    have h3 := Int.natAbs_tdiv_le_natAbs p.toInt q.toInt
    rw [this]
    rw [Int.bmod_def]
    split <;> omega
  have h3 := Int.natAbs_tdiv_le_natAbs p.toInt q.toInt
  have h4 : (p.toInt.tmod q.toInt).natAbs = p.toInt.natAbs % q.toInt.natAbs := Int.natAbs_tmod _ _
  have h5 : p.toInt.natAbs % q.toInt.natAbs ≤ p.toInt.natAbs := Nat.mod_le _ _
  have h6 := Int.mul_tdiv_add_tmod p.toInt q.toInt
  refine ⟨⟨by omega, by omega⟩, ?_⟩
  have hm : (p / q * q).toInt = q.toInt * p.toInt.tdiv q.toInt := by
    rw [Int64.toInt_mul, hd, Int.mul_comm]
    rw [Int.bmod_def]
    split <;> omega
  have hs : (p - p / q * q).toInt = p.toInt.tmod q.toInt := by
    rw [Int64.toInt_sub, hm, Int.bmod_def]
    split <;> omega
  unfold inB
  rw [hs]
  omega
theorem dOK_jD {c : Int32} {D1 D2 : dS} (h1 : dOK D1) : dOK (jD c D1 D2) := by
  intro e he v hv
  unfold jD at hv
  cases hp : D1 e with
  | none => rw [hp] at hv; cases hv
  | some p =>
    rw [hp] at hv
    dsimp only at hv
    cases hq : D2 e with
    | none => rw [hq] at hv; cases hv
    | some q =>
      rw [hq] at hv
      dsimp only at hv
      have hb := h1 e he p hp
      split at hv
      · split at hv
        · cases hv
        · split at hv
          · cases hv
            exact (i64_div hb).1
          · cases hv
            exact (i64_div hb).2
      · obtain ⟨rfl, h⟩ := wiO_some hv
        exact h
theorem i32N {c : Int32} (h : 0 ≤ c.toInt) : ∃ j : Nat, c = nI j ∧ (j : Int) = c.toInt := by
  have h2 := Int32.toInt_lt c
  refine ⟨c.toInt.toNat, Int32.toInt_inj.mp ?_, by omega⟩
  rw [nI_toInt (by omega)]
  omega
theorem i32_in {c : Int32} (h : inB c.toInt64 → True) : inB c.toInt64 ∨ True := Or.inr trivial
/-! the environment: what words tell -/
def wIx (c k : Int32) : Nat := if c = 15 ∨ c = 16 then ntI c k else c.toNatClampNeg
def enR (s : mS) (io : Bool) (e : Nat → Int64) : Prop := (∀ c, inB (e c)) ∧ (io = false → mFd s 25 = 0 ∧ ∀ c : Int32, 8 ≤ c → c ≤ 17 → e c.toNatClampNeg = (mAt s 26 (c - 8) : Int32).toInt64) ∧ (io = true → ¬ mFd s 25 = 0 ∧ ∀ (g b c k : Int32) (K : Int32 → mS → Prop), 15 ≤ c → c ≤ 21 → (c = 15 ∨ c = 16 → 0 ≤ k ∧ k ≤ 11) → (∀ x : Int32, x.toInt64 = e (wIx c k) → K x (ev s g b)) → w_orderValue c k (ev s g b) K)
section EV2
variable {N : Nat × Nat} {rc : Nat → Int32 → mS → (Int64 → mS → Prop) → Prop} {s : mS} {base T : Nat} {cd vl : Nat → Int32} {io : Bool} {e : Nat → Int64} {live b b0 : Int32}
theorem e_94 {g c k : Int32} {r : Int64} {K : Int64 → mS → Prop} (hb0 : xB b0) (hK : ∀ x b, eR live b0 (some r) x b → xB b → K x (ev s g b)) (h50 : c = 50 → vp_in ((2852 + g) - 1) 5652 ∧ (mAt s 2 ((2852 + g) - 1) : Int32).toInt64 = r) (hw : ¬ c = 50 → (mFd s 25 = 0 → vp_in (c - 8) 10 ∧ (mAt s 26 (c - 8) : Int32).toInt64 = r) ∧ (¬ mFd s 25 = 0 → (∀ x : Int32, x.toInt64 = r → K x.toInt64 (ev s g 0)) → w_orderValue c k (ev s g 0) (fun x s' => K x.toInt64 s'))) : w_partOf_94 N rc live c k K (ev s g b0) := by
  unfold w_partOf_94
  rw [ev_24, ev_22, ev_o _ _ _ (by decide) (by decide)]
  refine ⟨fun z => hK 0 b0 ⟨fun q => absurd z q.1, fun _ => rfl⟩ hb0, fun z => ⟨fun z2 => ?_, fun z2 => hK 0 b0 ⟨fun q => absurd q.2 z2, fun _ => rfl⟩ hb0⟩⟩
  subst z2
  have hk : K r (ev s g 0) := hK r 0 ⟨fun _ => Or.inr ⟨rfl, rfl⟩, fun _ => rfl⟩ xB0
  refine ⟨fun z3 => ⟨fun z4 => ?_, fun z4 => ?_⟩, fun z3 => ?_⟩
  · have := (hw z3).1 z4
    refine ⟨this.1, ?_⟩
    show K (mAt s 26 (c - 8) : Int32).toInt64 (ev s g 0)
    rw [this.2]
    exact hk
  · refine (hw z3).2 z4 (fun x hx => ?_)
    rw [hx]
    exact hk
  · have := h50 z3
    refine ⟨this.1, ?_⟩
    show K (mAt s 2 ((2852 + g) - 1) : Int32).toInt64 (ev s g 0)
    rw [this.2]
    exact hk
theorem qq191 : (100 : Int32) + 91 = 191 := by decide
theorem qq142 : (100 : Int32) + 42 = 142 := by decide
theorem qq147 : (100 : Int32) + 47 = 147 := by decide
theorem qq137 : (100 : Int32) + 37 = 137 := by decide
theorem qq143 : (100 : Int32) + 43 = 143 := by decide
theorem qq145 : (100 : Int32) + 45 = 145 := by decide
theorem qq140 : (100 : Int32) + 40 = 140 := by decide
theorem qq141 : (100 : Int32) + 41 = 141 := by decide
theorem qq160 : (100 : Int32) + 60 = 160 := by decide
theorem qq161 : (100 : Int32) + 61 = 161 := by decide
theorem qq162 : (100 : Int32) + 62 = 162 := by decide
theorem qq193 : (100 : Int32) + 93 = 193 := by decide
theorem qq159 : (100 : Int32) + 59 = 159 := by decide
theorem nI_28 (n : Nat) : (2852 : Int32) + nI n = nI (2852 + n) := nI_add 2852 n
/-- a leaf -/
theorem e_leaf {i l j l' : Nat} {D : dS} {K : Int64 → mS → Prop} (hC : tkC s base T cd vl) (hT : T ≤ 400) (hE : enR s io e) (h : pLeaf cd vl io i l = .inr (j, l', D)) (hi : i ≤ T) (hn : ¬ cd i = 191) (hb : xB b0) (hK : ∀ x b, eR live b0 (D e) x b → xB b → K x (ev s (nI (base + j)) b)) : w_partOf N rc live (ev s (nI (base + i)) b0) K := by
  have hC2 := hC
  obtain ⟨-, hbT, h3, hz, hv⟩ := hC2
  unfold w_partOf
  simp only [w_sign, qq191]
  refine e_pass hC (by omega) (fun z => absurd z hn) (fun _ => ⟨fun _ => ?_, fun z => absurd rfl z⟩)
  refine e_code hC (by omega) (fun s' e' => ?_)
  rw [e_go] at e'
  subst e'
  rw [ev_o _ _ _ (by decide) (by decide)]
  unfold pLeaf at h
  by_cases hc : (cd i = 50 ∧ vl i ≤ 1000) ∨ isW io (cd i) = true
  · rw [if_pos hc] at h
    by_cases hl : l = 50
    · rw [if_pos hl] at h
      cases h
    · rw [if_neg hl] at h
      by_cases h5 : cd i = 50
      · rw [if_pos h5] at h
        cases h
        have hlt := cd_lt hz h5 (by decide)
        have h94 : w_partOf_94 N rc live (cd i) 0 K (ev s (nI (base + (i + 1))) b0) := by
          refine e_94 hb hK (fun _ => ?_) (fun z => absurd h5 z)
          have e1 : (2852 + nI (base + (i + 1))) - 1 = nI (2852 + (base + i)) := by
            rw [nI_28]
            exact nI_pred (2852 + (base + i))
          rw [e1]
          refine ⟨vp_in_nI (by omega) (by decide), ?_⟩
          show (s.2.1 2 (nI (2852 + (base + i))).toNatClampNeg).toInt64 = _
          rw [nI_clamp (by omega), (h3 i hlt).2]
        exact ⟨fun _ => h94, fun _ => ⟨fun z => absurd (h5.symm.trans z) (by decide), fun _ => ⟨fun _ => h94, fun z => absurd (h5.symm.trans z) (by decide)⟩⟩⟩
      · rw [if_neg h5] at h
        have hw : isW io (cd i) = true := hc.resolve_left (fun z => h5 z.1)
        have hlt := isW_lt hz hw
        by_cases h6 : io = true ∧ (cd i = 15 ∨ cd i = 16)
        · rw [if_pos h6] at h
          by_cases h7 : cd (i + 1) = 50 ∧ 0 ≤ vl (i + 1) ∧ vl (i + 1) ≤ 11
          · rw [if_pos h7] at h
            cases h
            have hlt2 := cd_lt hz h7.1 (by decide)
            obtain ⟨h25, ho⟩ := hE.2.2 h6.1
            have h70 : w_partOf_70 N rc live (cd i) K (ev s (nI (base + (i + 1))) b0) := by
              unfold w_partOf_70
              rw [ev_22, nI_28]
              refine ⟨vp_in_nI (by omega) (by decide), fun x hx s2 e2 => ?_⟩
              have e3 : x = vl (i + 1) := by
                rw [hx]
                show s.2.1 2 (nI (2852 + (base + (i + 1)))).toNatClampNeg = _
                rw [nI_clamp (by omega), (h3 (i + 1) hlt2).2]
              subst e3
              rw [ev_w22, ← nI_succ] at e2
              subst e2
              refine e_94 (r := e (ntI (cd i) (vl (i + 1)))) hb hK (fun z => absurd z h5) (fun _ => ⟨fun z => absurd z h25, fun _ hk => ?_⟩)
              refine ho _ _ _ _ _ (h6.2.elim (fun z => by rw [z]; decide) fun z => by rw [z]; decide) (h6.2.elim (fun z => by rw [z]; decide) fun z => by rw [z]; decide) (fun _ => h7.2) (fun x hx => hk x ?_)
              rw [hx]
              unfold wIx
              rw [if_pos h6.2]
            exact ⟨fun z => absurd z h25, fun _ => ⟨fun _ => h70, fun n15 => ⟨fun n16 => absurd h6.2 (fun z => z.elim n15 n16), fun _ => h70⟩⟩⟩
          · rw [if_neg h7] at h
            cases h
        · rw [if_neg h6] at h
          cases h
          have h94 : w_partOf_94 N rc live (cd i) 0 K (ev s (nI (base + (i + 1))) b0) := by
            refine e_94 (r := e (cd i).toNatClampNeg) hb hK (fun z => absurd z h5) (fun _ => ?_)
            cases io with
            | false =>
              obtain ⟨h25, ho⟩ := hE.2.1 rfl
              have hw2 : 8 ≤ cd i ∧ cd i ≤ 17 := by simpa [isW] using hw
              refine ⟨fun _ => ⟨?_, (ho _ hw2.1 hw2.2).symm⟩, fun z => absurd h25 z⟩
              have g1 := Int32.le_iff_toInt_le.mp hw2.1
              have g2 := Int32.le_iff_toInt_le.mp hw2.2
              have g3 : (8 : Int32).toInt = 8 := by decide
              have g4 : (17 : Int32).toInt = 17 := by decide
              rw [g3] at g1
              rw [g4] at g2
              obtain ⟨q, hq, hq2⟩ := i32N (c := cd i) (by omega)
              rw [hq]
              have : nI q - nI 8 = nI (q - 8) := pk_sub (by omega)
              show vp_in (nI q - nI 8) 10
              rw [this]
              exact vp_in_nI (by omega) (by decide)
            | true =>
              obtain ⟨h25, ho⟩ := hE.2.2 rfl
              have hw2 : 15 ≤ cd i ∧ cd i ≤ 21 := by simpa [isW] using hw
              have hno : ¬ (cd i = 15 ∨ cd i = 16) := fun z => h6 ⟨rfl, z⟩
              refine ⟨fun z => absurd z h25, fun _ hk => ho _ _ _ _ _ hw2.1 hw2.2 (fun z => absurd z hno) (fun x hx => hk x ?_)⟩
              rw [hx]
              unfold wIx
              rw [if_neg hno]
          refine ⟨fun _ => h94, fun h25 => ⟨fun z => ?_, fun _ => ⟨fun _ => h94, fun z => ?_⟩⟩⟩
          · cases io with
            | false => exact absurd (hE.2.1 rfl).1 h25
            | true => exact absurd ⟨rfl, Or.inl z⟩ h6
          · cases io with
            | false => exact absurd (hE.2.1 rfl).1 h25
            | true => exact absurd ⟨rfl, Or.inr z⟩ h6
  · rw [if_neg hc] at h
    cases h
theorem dOK_leaf {i l j l' : Nat} {D : dS} (hv : ∀ k, 0 ≤ vl k) (h : pLeaf cd vl io i l = .inr (j, l', D)) : dOK D := by
  unfold pLeaf at h
  by_cases hc : (cd i = 50 ∧ vl i ≤ 1000) ∨ isW io (cd i) = true
  · rw [if_pos hc] at h
    by_cases hl : l = 50
    · rw [if_pos hl] at h
      cases h
    · rw [if_neg hl] at h
      by_cases h5 : cd i = 50
      · rw [if_pos h5] at h
        cases h
        intro e he v hv2
        cases hv2
        have h1 : vl i ≤ 1000 := by
          rcases hc with hc | hc
          · exact hc.2
          · rw [h5] at hc
            cases io <;> exact absurd hc (by decide)
        have g1 := Int32.le_iff_toInt_le.mp h1
        have g2 := Int32.le_iff_toInt_le.mp (hv i)
        have g3 : (1000 : Int32).toInt = 1000 := by decide
        have g4 : (0 : Int32).toInt = 0 := by decide
        rw [g3] at g1
        rw [g4] at g2
        unfold inB
        rw [Int32.toInt_toInt64]
        omega
      · rw [if_neg h5] at h
        by_cases h6 : io = true ∧ (cd i = 15 ∨ cd i = 16)
        · rw [if_pos h6] at h
          by_cases h7 : cd (i + 1) = 50 ∧ 0 ≤ vl (i + 1) ∧ vl (i + 1) ≤ 11
          · rw [if_pos h7] at h
            cases h
            intro e he v hv2
            cases hv2
            exact he _
          · rw [if_neg h7] at h
            cases h
        · rw [if_neg h6] at h
          cases h
          intro e he v hv2
          cases hv2
          exact he _
  · rw [if_neg hc] at h
    cases h
end EV2
