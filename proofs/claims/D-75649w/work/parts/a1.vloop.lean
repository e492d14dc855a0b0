set_option maxRecDepth 100000
/-! ===== orders: all acts, each as often as told, both sides ===== -/
/-- the clauses of a text, one behind another, from token i on -/
def chn (cd vl : Nat → Int32) (T : Nat) : Nat → Nat → List cO → Prop
  | _, _, [] => False
  | i, l, c :: rest => i ≤ T ∧ ∃ j l', pOrder cd vl true i l = .inr (j, l', c) ∧ i < j ∧ j ≤ T ∧ ((rest = [] ∧ j = T) ∨ (rest ≠ [] ∧ j < T ∧ chn cd vl T (j + 1) l' rest))
theorem chn_of {cd vl : Nat → Int32} {T : Nat} (hz : ∀ k, T ≤ k → cd k = 0) : ∀ f n i l acc cls, pAll cd T (pOrder cd vl true) f n i l acc = .inr cls → i ≤ T → ∃ rest, cls = acc ++ rest ∧ chn cd vl T i l rest
  | 0, _, _, _, _, _, h, _ => by cases h
  | f + 1, n, i, l, acc, cls, h, hi => by
    have e1 : pAll cd T (pOrder cd vl true) (f + 1) n i l acc = pb (pOrder cd vl true i l) (fun z => if cd z.1 = 159 then (if n + 1 = 12 then .inl (z.1 + 1) else pAll cd T (pOrder cd vl true) f (n + 1) (z.1 + 1) z.2.1 (acc ++ [z.2.2])) else if z.1 < T then .inl z.1 else .inr (acc ++ [z.2.2])) := rfl
    rw [e1] at h
    obtain ⟨⟨j, l1, c⟩, h1, h2⟩ := pb_r h
    dsimp only at h2
    have hm1 := (pM_order (vl := vl) (io := true) hz i l hi).2 _ h1
    dsimp only at hm1
    by_cases h6 : cd j = 159
    · rw [if_pos h6] at h2
      by_cases h7 : n + 1 = 12
      · rw [if_pos h7] at h2
        cases h2
      · rw [if_neg h7] at h2
        have jT := cd_lt (cd := cd) hz h6 (by decide)
        obtain ⟨rest, r1, r2⟩ := chn_of hz f (n + 1) (j + 1) l1 _ cls h2 jT
        refine ⟨c :: rest, by rw [r1, List.append_assoc]; rfl, hi, j, l1, h1, hm1.1, hm1.2.1, Or.inr ⟨fun z => ?_, jT, r2⟩⟩
        rw [z] at r2
        exact r2
    · rw [if_neg h6] at h2
      by_cases h8 : j < T
      · rw [if_pos h8] at h2
        cases h2
      · rw [if_neg h8] at h2
        cases h2
        exact ⟨[c], rfl, hi, j, l1, h1, hm1.1, hm1.2.1, Or.inl ⟨rfl, by omega⟩⟩
section LO
variable {N : tP} {s0 : tM} {L0 : Nat → Nat} {P W M : Nat → Prop} {m0 : mS} {q T nq : Nat} {cs : List cO} {cd vl sv5 sv32 : Nat → Int32} {lw : Option (List cL)} {Y : Type} {Tt : Y → Prop}
/-- an act as often as told -/
theorem v_runsI (hN : nOK N) (hF : inF (m0.2.1 2) lw) (hq : m0.2.1 2 41 = nI nq) (hq2 : nq ≤ 12) (ht : ordT (m0.2.1 2) T cd vl) {i l j l' : Nat} (hi : i ≤ T) {k : Nat} (hk : k < cs.length) (hk12 : k < 12) (hp : pOrder cd vl true i l = .inr (j, l', cs[k])) {tm : Nat} (htm : cs[k].2.2.1 = nI tm) (htm2 : tm ≤ 20) {KrS : Int32 → tM → Prop} {KS : tM → Prop} {KrR : Y → Int32 → mS → Prop} {KKR : Y → mS → Prop} {x3 : Int32} (hDone : ∀ s L m D lt, IV N s0 L0 m0 P W M q cs s L m D lt → D ≤ 20 * k + 20 → (∀ y, (∀ m1, GM m D lt sv5 sv32 (nI (2400 + i)) m1 → KKR y m1) → Tt y) → KS s) (hFail : ∀ s L m D lt, IV N s0 L0 m0 P W M q cs s L m D lt → (∀ y, (∀ m1, GM m D lt sv5 sv32 (nI (2400 + i)) m1 → KrR y 0 m1) → Tt y) → ∀ s' : tM, s' = tsI s (L0 0) 13 (nI k) → KrS (-3) s') : ∀ (f t u h : Nat) (s : tM) (L : Nat → Nat) (m : mS) (D : Nat) (lt : Int32), h + f = tm → f < t → f < u → IV N s0 L0 m0 P W M q cs s L m D lt → D ≤ 20 * k + h → (∀ y, (∀ m1, GM m D lt sv5 sv32 (nI (2400 + i)) m1 → w_runs_19 (nP N) (nI (2400 + T)) (nI tm) x3 (KrR y) (KKR y) u (nI h) m1) → Tt y) → v_X0_runAll_10 N (L0 0) q (nI k) KrS KS t (nI h) s
  | _, 0, _, _, _, _, _, _, _, _, h, _, _, _, _ => absurd h (Nat.not_lt_zero _)
  | _, _ + 1, 0, _, _, _, _, _, _, _, _, h, _, _, _ => absurd h (Nat.not_lt_zero _)
  | f, t + 1, u + 1, h, s, L, m, D, lt, hf, hft, hfu, hIV, hD, hAcc => by
    have hIV0 := hIV
    obtain ⟨hX, -, hAs, -, hv, hrol, -, -, -⟩ := hIV0
    have c0 : L0 0 = L 0 := (hrol.lt (by decide)).symm
    obtain ⟨-, tq, hl, hac⟩ := hAs
    obtain ⟨-, b2, -, -, -, -, -, -, b9, -⟩ := hac k hk
    unfold v_X0_runAll_10
    rw [nI_clamp (by omega), b9, htm]
    refine ⟨⟨_, tq, vpk hk (by omega)⟩, b2, fun z => ?_, fun z => ⟨⟨_, tq, vpk hk (by omega)⟩, ?_⟩⟩
    · rw [nI_lle (by omega) (by omega)] at z
      refine hDone s L m D lt hIV (by omega) (fun y hy => hAcc y (fun m1 hG => ?_))
      unfold w_runs_19
      refine ⟨fun _ => hy m1 hG, fun z2 => absurd ?_ z2⟩
      rw [nI_lle (by omega) (by omega)]
      exact z
    · rw [nI_lle (by omega) (by omega)] at z
      obtain ⟨f, rfl⟩ : ∃ g, f = g + 1 := ⟨f - 1, by omega⟩
      have hFm : inF (m.2.1 2) lw := inF_o (fun i hi => hv.2.2 i hi) hF
      have hqm : m.2.1 2 41 = nI nq := (hv.2.2 41 (by decide)).trans hq
      have o0 : ∀ s' L' m' D' lt', IV N s0 L0 m0 P W M q cs s' L' m' D' lt' → tO s' 0 (L0 0) := fun s' L' m' D' lt' h' => by
        rw [(h'.2.2.2.2.2.1.lt (by decide) : L' 0 = L0 0).symm]
        exact h'.1.S.o (r := 0) rfl
      refine v_runS (k := k) (D := D) (sv5 := sv5) (sv32 := sv32) hN hIV hFm hqm hq2 (by omega) (ordT_v hv ht) hi hk hp rfl (fun s' L' m' D' lt' h' hD' pr => ⟨fun z => absurd rfl z, fun _ x hx => ?_⟩) (fun s' L' m' h' pr => ⟨fun _ => ⟨o0 _ _ _ _ _ h', ?_⟩, fun z => absurd z (by decide)⟩)
      · rw [nI_1] at hx
        rw [hx]
        refine v_runsI (x3 := x3) hN hF hq hq2 ht hi hk hk12 hp htm htm2 hDone hFail f t u (h + 1) s' L' m' D' lt' (by omega) (by omega) (by omega) h' (by omega) (fun y hy => hAcc y (fun m1 hG => ?_))
        unfold w_runs_19
        refine ⟨fun z2 => absurd ((nI_lle (by omega) (by omega)).mp z2) z, fun _ => ?_⟩
        refine pr m1 (fun g => ∀ x110 : Int32, x110 = nI h + 1 → w_runs_19 (nP N) (nI (2400 + T)) (nI tm) x3 (KrR y) (KKR y) u x110 g) (fun g => KrR y 0 g) hG (fun g hg x110 hx110 => ?_)
        rw [nI_1] at hx110
        rw [hx110]
        exact hy g hg
      · refine hFail s' L' m' D lt h' (fun y hy => hAcc y (fun m1 hG => ?_))
        unfold w_runs_19
        refine ⟨fun z2 => absurd ((nI_lle (by omega) (by omega)).mp z2) z, fun _ => ?_⟩
        exact pr m1 (fun g => ∀ x110 : Int32, x110 = nI h + 1 → w_runs_19 (nP N) (nI (2400 + T)) (nI tm) x3 (KrR y) (KKR y) u x110 g) (fun g => KrR y 0 g) hG (fun g hg => hy g hg)
/-- what the model does where an act can't be run -/
def failW (N : Nat × Nat) (x1 : Int32) (Kr : Int32 → mS → Prop) (k : Nat) (s103 : mS) : Prop := w_takesBack N 1 s103 (fun s106 => w_orders_122 N x1 (nI k) Kr (fun s107 => ∀ s108 : mS, s108 = mF s107 33 x1 → ∀ s109 : mS, s109 = mF s108 41 (nI k) → w_refuses (-3) s109 (fun x110 s111 => Kr x110 s111)) N.1 0 s106)
/-- all acts -/
theorem v_runsL (hN : nOK N) (hF : inF (m0.2.1 2) lw) (hI0 : invM m0) (hq : m0.2.1 2 41 = nI nq) (hq2 : nq ≤ 12) (ht : ordT (m0.2.1 2) T cd vl) {x1 : Int32} {KrS : Int32 → tM → Prop} {KS : tM → Prop} {KrR : Y → Int32 → mS → Prop} {KR : Y → mS → Prop} (hDone : ∀ s L m D lt at42, IV N s0 L0 m0 P W M q cs s L m D lt → D ≤ 240 → (∀ y, (∀ m1, GM m D lt sv5 sv32 at42 m1 → KR y m1) → Tt y) → KS s) (hFail : ∀ s L m D lt k at42, IV N s0 L0 m0 P W M q cs s L m D lt → k < 12 → (∀ y, (∀ m1, GM m D lt sv5 sv32 at42 m1 → failW (nP N) x1 (KrR y) k m1) → Tt y) → ∀ s' : tM, s' = tsI s (L0 0) 13 (nI k) → KrS (-3) s') : ∀ (rest pre : List cO) (k t u i l : Nat) (s : tM) (L : Nat → Nat) (m : mS) (D : Nat) (lt : Int32), cs = pre ++ rest → pre.length = k → rest.length < t → rest.length < u → cs.length ≤ 12 → chn cd vl T i l rest → IV N s0 L0 m0 P W M q cs s L m D lt → D ≤ 20 * k → (∀ y, (∀ m1, GM m D lt sv5 sv32 (nI (2400 + i)) m1 → w_orders_95 (nP N) x1 (nI (2400 + T)) (KrR y) (KR y) u (nI k) m1) → Tt y) → v_X0_runAll_2 N (L0 0) q KrS KS t (nI k) s
  | [], _, _, _, _, _, _, _, _, _, _, _, _, _, _, _, _, h, _, _, _ => h.elim
  | _ :: _, _, _, 0, _, _, _, _, _, _, _, _, _, _, h, _, _, _, _, _, _ => absurd h (Nat.not_lt_zero _)
  | _ :: _, _, _, _ + 1, 0, _, _, _, _, _, _, _, _, _, _, h, _, _, _, _, _ => absurd h (Nat.not_lt_zero _)
  | c :: rest, pre, k, t + 1, u + 1, i, l, s, L, m, D, lt, hcs, hpre, htt, htu, hl12, hch, hIV, hD, hAcc => by
    have hIV0 := hIV
    obtain ⟨hX, -, hAs, -, hv, hrol, -, hlt, -⟩ := hIV0
    obtain ⟨-, tq, hl, hac⟩ := hAs
    obtain ⟨hi, j, l', hp, hij, hjT, hrest⟩ := hch
    have hlen : cs.length = k + (rest.length + 1) := by
      rw [hcs, List.length_append, hpre]
      rfl
    have hk : k < cs.length := by omega
    have hck : cs[k] = c := by
      have : ∀ (ds : List cO) (h : k < ds.length), ds = pre ++ c :: rest → ds[k] = c := fun ds h e => by
        subst e
        subst hpre
        simp
      exact this cs hk hcs
    obtain ⟨-, b2, -, -, -, -, -, -, b9, b10, -⟩ := hac k hk
    obtain ⟨tm, tm1, tm2⟩ := i32N (c := cs[k].2.2.1) (by have := b10.1; rw [i32_le, show (1 : Int32).toInt = 1 by decide] at this; omega)
    have tm3 : tm ≤ 20 := by
      have := b10.2
      rw [i32_le, show (20 : Int32).toInt = 20 by decide] at this
      omega
    have hT := ht.1
    have hlenq : tLen s q = cs.length := by
      unfold tLen
      rw [tq.1]
    have htm := ordT_v hv ht
    have hqm : m.2.1 2 41 = nI nq := (hv.2.2 41 (by decide)).trans hq
    have hM1 : 402 ≤ (nP N).1 := by have := hN.1; show 402 ≤ N.1; omega
    have hM2 : 40 ≤ (nP N).2 := by have := hN.2; show 40 ≤ N.2.1; omega
    have hN6 : 6000 ≤ N.1 := hN.1
    unfold v_X0_runAll_2
    rw [hlenq, show Int32.ofNat cs.length = nI cs.length from rfl, nI_lle (by omega) (by omega)]
    refine ⟨⟨_, tq⟩, fun z => absurd z (by omega), fun _ => ?_⟩
    -- the model's turn up to the loop over the act
    let KrN : Y → Int32 → mS → Prop := fun y x102 s103 => (x102 = 0 → failW (nP N) x1 (KrR y) k s103) ∧ (¬ x102 = 0 → ∀ x112 : Int32, x112 = nI k + 1 → w_orders_95 (nP N) x1 (nI (2400 + T)) (KrR y) (KR y) u x112 s103)
    let KKN : Y → mS → Prop := fun y s105 => ∀ s106 : mS, s106 = mF s105 42 (nI (2400 + (j + 1))) → KrN y 1 s106
    have hp' : pOrder cd vl true i l = .inr (j, l', cs[k]) := by
      rw [hck]
      exact hp
    have acc1 : ∀ y, (∀ m1, GM m D lt sv5 sv32 (nI (2400 + i)) m1 → w_runs_19 (nP N) (nI (2400 + T)) (nI tm) (nI (2400 + (j + 1))) (KrN y) (KKN y) (nP N).1 (nI 0) m1) → Tt y := fun y hy => hAcc y (fun m1 hG => by
      unfold w_orders_95
      rw [hG.2.2.2.1, nI_lle (by omega) (by omega)]
      refine ⟨fun z => absurd z (by omega), fun _ => ?_⟩
      unfold w_runs
      refine w_go0 hM1 hM2 hX.I hqm hq2 (by omega) hlt htm hi hp' hG (fun s' hG' h22 h43 x3 hx3 x4 hx4 => ?_)
      rw [hx3, hx4, h43, h22, tm1]
      exact hy s' hG')
    refine v_runsI (Y := Y) (Tt := Tt) (KrR := KrN) (KKR := KKN) (x3 := nI (2400 + (j + 1))) (KrS := KrS) hN hF hq hq2 ht hi hk (by omega) hp' tm1 tm3 (fun s1 L1 m1 D1 lt1 h1 hD1 acc2 x4 hx4 => ?_) (fun s1 L1 m1 D1 lt1 h1 acc2 s' hs' => ?_) tm N.1 (nP N).1 0 s L m D lt (by omega) (by omega) (by show tm < N.1; omega) hIV (by omega) acc1
    · rw [nI_1] at hx4
      have nxt : ∀ y, (∀ g, GM m1 D1 lt1 sv5 sv32 (nI (2400 + (j + 1))) g → w_orders_95 (nP N) x1 (nI (2400 + T)) (KrR y) (KR y) u (nI (k + 1)) g) → Tt y := fun y hy => acc2 y (fun g hG s106 e106 => by
        refine ⟨fun z => absurd z (by decide), fun _ x112 hx => ?_⟩
        rw [nI_1] at hx
        rw [hx]
        refine hy s106 ⟨?_, ?_, ?_, ?_, ?_, ?_⟩
        · rw [e106]
          exact cE_t hG.1 (cE_D (mD_F (F := [42]) (A := []) (L := []) g (j := 42) _ (by decide)) (by decide) (by decide))
        · rw [e106]
          exact (mF_o _ _ (by decide)).trans hG.2.1
        · rw [e106]
          exact (mF_o _ _ (by decide)).trans hG.2.2.1
        · rw [e106]
          rfl
        · rw [e106]
          exact hG.2.2.2.2.1
        · rw [e106]
          exact hG.2.2.2.2.2)
      rw [hx4]
      rcases hrest with ⟨hr, hj⟩ | ⟨hr, hj, hch'⟩
      · subst hr
        obtain ⟨t, rfl⟩ : ∃ v, t = v + 1 := ⟨t - 1, by have : ([c] : List cO).length = 1 := rfl; omega⟩
        have hAs1 := h1.2.2.1
        have hlen1 : tLen s1 q = cs.length := by
          unfold tLen
          rw [hAs1.2.1.1]
        show v_X0_runAll_2 N (L0 0) q KrS KS (t + 1) (nI (k + 1)) s1
        unfold v_X0_runAll_2
        have hl1 : cs.length = k + 1 := hlen
        rw [hlen1, show Int32.ofNat cs.length = nI cs.length from rfl, nI_lle (by omega) (by omega)]
        refine ⟨⟨_, hAs1.2.1⟩, fun _ => ?_, fun z => absurd (by omega) z⟩
        refine hDone s1 L1 m1 D1 lt1 (nI (2400 + (j + 1))) h1 (by omega) (fun y hy => nxt y (fun g hG => ?_))
        obtain ⟨u, rfl⟩ : ∃ v, u = v + 1 := ⟨u - 1, by have : ([c] : List cO).length = 1 := rfl; omega⟩
        unfold w_orders_95
        rw [hG.2.2.2.1, nI_lle (by omega) (by omega)]
        exact ⟨fun _ => hy g hG, fun z => absurd (by omega) z⟩
      · have hlr : (c :: rest).length = rest.length + 1 := rfl
        exact v_runsL hN hF hI0 hq hq2 ht hDone hFail rest (pre ++ [c]) (k + 1) t u (j + 1) l' s1 L1 m1 D1 lt1 (by rw [hcs, List.append_assoc]; rfl) (by rw [List.length_append, hpre]; rfl) (by omega) (by omega) hl12 hch' h1 (by omega) nxt
    · exact hFail s1 L1 m1 D1 lt1 k _ h1 (by omega) (fun y hy => acc2 y (fun g hG => ⟨fun _ => hy g hG, fun z => absurd rfl z⟩)) s' hs'
end LO
