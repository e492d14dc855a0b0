set_option maxRecDepth 100000
/-! ===== back ===== -/
/-- which of a desk's cells a role is -/
def dkP (r : Nat) : Option Nat := if r = 40 then some 0 else if r = 41 then some 1 else if r = 42 then some 2 else if r = 43 then some 3 else if r = 44 then some 4 else if r = 244 then some 5 else if r = 444 then some 6 else if 50 ≤ r ∧ r < 56 then some (7 + (r - 50)) else none
/-- the roles, the desk's turned to a new desk's cells -/
def dkR (L : Nat → Nat) (S : List Nat) (r : Nat) : Nat := match dkP r with
  | some p => nthL S p
  | none => L r
theorem dkP_l {r p : Nat} (h : dkP r = some p) : p < 13 ∧ shp r ≠ none ∧ (r = 40 ∨ r = 41 ∨ r = 42 ∨ r = 43 ∨ r = 44 ∨ r = 244 ∨ r = 444 ∨ (50 ≤ r ∧ r < 56)) := by
  unfold dkP at h
  by_cases c1 : r = 40
  · rw [if_pos c1] at h
    cases h
    exact ⟨by omega, by rw [c1]; decide, by omega⟩
  rw [if_neg c1] at h
  by_cases c2 : r = 41
  · rw [if_pos c2] at h
    cases h
    exact ⟨by omega, by rw [c2]; decide, by omega⟩
  rw [if_neg c2] at h
  by_cases c3 : r = 42
  · rw [if_pos c3] at h
    cases h
    exact ⟨by omega, by rw [c3]; decide, by omega⟩
  rw [if_neg c3] at h
  by_cases c4 : r = 43
  · rw [if_pos c4] at h
    cases h
    exact ⟨by omega, by rw [c4]; decide, by omega⟩
  rw [if_neg c4] at h
  by_cases c5 : r = 44
  · rw [if_pos c5] at h
    cases h
    exact ⟨by omega, by rw [c5]; decide, by omega⟩
  rw [if_neg c5] at h
  by_cases c6 : r = 244
  · rw [if_pos c6] at h
    cases h
    exact ⟨by omega, by rw [c6]; decide, by omega⟩
  rw [if_neg c6] at h
  by_cases c7 : r = 444
  · rw [if_pos c7] at h
    cases h
    exact ⟨by omega, by rw [c7]; decide, by omega⟩
  rw [if_neg c7] at h
  by_cases c8 : 50 ≤ r ∧ r < 56
  · rw [if_pos c8] at h
    cases h
    refine ⟨by omega, ?_, by omega⟩
    have := shp_50 (i := r - 50) (by omega)
    rw [show 50 + (r - 50) = r by omega] at this
    exact shp_some this
  · rw [if_neg c8] at h
    cases h
theorem dkP_n {r : Nat} (h : r ≠ 40 ∧ r ≠ 41 ∧ r ≠ 42 ∧ r ≠ 43 ∧ r ≠ 44 ∧ r ≠ 244 ∧ r ≠ 444 ∧ ¬ (50 ≤ r ∧ r < 56)) : dkP r = none := by
  obtain ⟨h1, h2, h3, h4, h5, h6, h7, h8⟩ := h
  unfold dkP
  rw [if_neg h1, if_neg h2, if_neg h3, if_neg h4, if_neg h5, if_neg h6, if_neg h7, if_neg h8]
theorem dkP_i {r r' p : Nat} (h : dkP r = some p) (h' : dkP r' = some p) : r = r' := by
  have key : ∀ {r p : Nat}, dkP r = some p → r = if p = 0 then 40 else if p = 1 then 41 else if p = 2 then 42 else if p = 3 then 43 else if p = 4 then 44 else if p = 5 then 244 else if p = 6 then 444 else 50 + (p - 7) := fun {r p} h => by
    unfold dkP at h
    by_cases c1 : r = 40
    · rw [if_pos c1] at h
      cases h
      exact c1
    rw [if_neg c1] at h
    by_cases c2 : r = 41
    · rw [if_pos c2] at h
      cases h
      exact c2
    rw [if_neg c2] at h
    by_cases c3 : r = 42
    · rw [if_pos c3] at h
      cases h
      exact c3
    rw [if_neg c3] at h
    by_cases c4 : r = 43
    · rw [if_pos c4] at h
      cases h
      exact c4
    rw [if_neg c4] at h
    by_cases c5 : r = 44
    · rw [if_pos c5] at h
      cases h
      exact c5
    rw [if_neg c5] at h
    by_cases c6 : r = 244
    · rw [if_pos c6] at h
      cases h
      exact c6
    rw [if_neg c6] at h
    by_cases c7 : r = 444
    · rw [if_pos c7] at h
      cases h
      exact c7
    rw [if_neg c7] at h
    by_cases c8 : 50 ≤ r ∧ r < 56
    · rw [if_pos c8] at h
      cases h
      rw [if_neg (by omega), if_neg (by omega), if_neg (by omega), if_neg (by omega), if_neg (by omega), if_neg (by omega), if_neg (by omega)]
      omega
    · rw [if_neg c8] at h
      cases h
  rw [key h, key h']
section BA
variable {N : tP} {s s1 : tM} {L : Nat → Nat} {M O : Nat → Prop} {m m' : mS}
theorem dkR_n {S : List Nat} {r : Nat} (h : dkP r = none) : dkR L S r = L r := by
  unfold dkR
  rw [h]
theorem dkR_p {S : List Nat} {r p : Nat} (h : dkP r = some p) : dkR L S r = nthL S p := by
  unfold dkR
  rw [h]
theorem dk50 {i : Nat} (hi : i < 6) : dkP (50 + i) = some (7 + i) := by
  have : i = 0 ∨ i = 1 ∨ i = 2 ∨ i = 3 ∨ i = 4 ∨ i = 5 := by omega
  rcases this with rfl | rfl | rfl | rfl | rfl | rfl <;> rfl
/-- the system's desk is changed for a copy -/
theorem RX.bck (hX : RX N s L M O m) (hx : extN N s s1) {d l t h b u w : Nat} {kp : Nat → Int32} (hD : DK N s s1 d l t h b u w) (hS : dkSrc N s1 M d kp) (ht : tR s1 l 1 = N.2.2 200 ∨ s.1 (tR s1 l 1) = none) (hk : kpI kp) (h2 : m'.2.1 2 = kp) (hA : ∀ q, q ≠ 2 → m'.2.1 q = m.2.1 q) (hF : m'.1 = m.1) : RX N (tsR s1 (L 0) 0 d) (dkR L (dkL d l t h b u w)) M O m' := by
  have hX1 := hX.ex hx
  obtain ⟨dn, dfr, ⟨dd, dl, dt, dh, db, du, dw, dhi⟩, r0, r1, r2, r3, r4, r5, r6⟩ := hD
  obtain ⟨md, ml, mt, mh, mb, mu, mw, mi⟩ := @mem_dk d l t h b u w
  obtain ⟨m0, m1, m2, m3, m4, m5, m6, g1, g2, g3, g4, g5, g6⟩ := hS
  have hxO := hX.1
  obtain ⟨⟨k1, k2, ⟨y1, y2, y3, y4, y5, y6, y7⟩, k4⟩, x2, x3, x4, x5, ⟨x6, x7⟩, x8, x9⟩ := hX1
  have hS1 : RS s1 L (uM M O) := ⟨k1, k2, ⟨y1, y2, y3, y4, y5, y6, y7⟩, k4⟩
  -- values of the new role map
  have e40 : dkR L (dkL d l t h b u w) 40 = d := rfl
  have e41 : dkR L (dkL d l t h b u w) 41 = l := rfl
  have e42 : dkR L (dkL d l t h b u w) 42 = t := rfl
  have e43 : dkR L (dkL d l t h b u w) 43 = h := rfl
  have e44 : dkR L (dkL d l t h b u w) 44 = b := rfl
  have e244 : dkR L (dkL d l t h b u w) 244 = u := rfl
  have e444 : dkR L (dkL d l t h b u w) 444 = w := rfl
  have e50 : ∀ i, i < 6 → dkR L (dkL d l t h b u w) (50 + i) = h + 1 + i := fun i hi => by
    rw [dkR_p (dk50 hi)]
    have : i = 0 ∨ i = 1 ∨ i = 2 ∨ i = 3 ∨ i = 4 ∨ i = 5 := by omega
    rcases this with rfl | rfl | rfl | rfl | rfl | rfl <;> rfl
  have eo : ∀ r, dkP r = none → dkR L (dkL d l t h b u w) r = L r := fun r hr => dkR_n hr
  have memP : ∀ {r p : Nat}, dkP r = some p → dkR L (dkL d l t h b u w) r ∈ dkL d l t h b u w := fun {r p} hr => by
    rw [dkR_p hr]
    exact nthL_m _ _ (dkP_l hr).1
  have old : ∀ {r : Nat}, shp r ≠ none → s.1 (L r) ≠ none := fun {r} hr => hxO.al hr
  -- the references behind the change
  have tRn : ∀ a j, a ≠ L 0 → tR (tsR s1 (L 0) 0 d) a j = tR s1 a j := fun a j hn => if_neg fun z => hn z.1
  have newn : ∀ {a : Nat}, a ∈ dkL d l t h b u w → a ≠ L 0 := fun {a} ha z => old (r := 0) (by decide) (by rw [← z]; exact (dfr a ha).1)
  have t0j : ∀ j, j ≠ 0 → tR (tsR s1 (L 0) 0 d) (L 0) j = tR s1 (L 0) j := fun j hj => if_neg fun z => hj z.2
  have tRr : ∀ r, shp r ≠ none → r ≠ 0 → ∀ j, tR (tsR s1 (L 0) 0 d) (L r) j = tR s1 (L r) j := fun r hr hn j => tRn _ j (hS1.ne hr (by decide) hn)
  have hMf : mFr M s1 (tsR s1 (L 0) 0 d) := fun a ha => ⟨rfl, rfl, funext fun j => tRn a j fun z => hS1.n1 (r := 0) (by decide) (z ▸ ha)⟩
  have hN0 : N.2.2 200 ≠ L 0 := fun z => by
    have := (k1 0 _ (rfl : shp 0 = some (.inl 0))).1
    rw [← z, x2.1] at this
    cases this
  have A : ∀ n t a, tA s1 t n a → tA (tsR s1 (L 0) 0 d) t n a := fun _ _ _ z => z
  have shn : ∀ {r p : Nat} {c : Nat ⊕ (Nat × Nat)}, dkP r = some p → shp r = some c → s1.1 (dkR L (dkL d l t h b u w) r) = some c := fun {r p c} hr hc => by
    have hl := (dkP_l hr).2.2
    rcases hl with rfl | rfl | rfl | rfl | rfl | rfl | rfl | hl
    · cases hc
      exact dd
    · cases hc
      exact dl
    · cases hc
      exact dt
    · cases hc
      exact dh
    · cases hc
      exact db
    · cases hc
      exact du
    · cases hc
      exact dw
    · have h50 := shp_50 (i := r - 50) (by omega)
      rw [show 50 + (r - 50) = r by omega, hc] at h50
      cases h50
      have := e50 (r - 50) (by omega)
      rw [show 50 + (r - 50) = r by omega] at this
      rw [this]
      exact dhi (r - 50) (by omega)
  have bkn : ∀ b', isBk b' → b' ≠ 44 → dkP b' = none ∧ dkP (200 + b') = none ∧ dkP (400 + b') = none := fun b' hb hn => by
    refine ⟨dkP_n ?_, dkP_n ?_, dkP_n ?_⟩
    · rcases hb with h | h | h | h | h | h <;> omega
    · rcases hb with h | h | h | h | h | h <;> omega
    · rcases hb with h | h | h | h | h | h <;> omega
  have big : ∀ r, 100 ≤ r → r ≠ 244 → r ≠ 444 → dkP r = none := fun r h1 h2 h3 => dkP_n (by omega)
  have dkn : ∀ r, r < 40 → dkP r = none := fun r h1 => dkP_n (by omega)
  have e43' : tR s1 (tR s1 d 2) = tR s1 h := by rw [r2]
  refine ⟨⟨fun r c hr => ?_, fun r r' hr hr' he => ?_, ⟨fun p hp => ?_, fun b' hb => ?_, fun k hk => ?_, fun i hi => ?_, fun n hn => ?_, fun n hn => ?_, fun n b' hn hb => ?_⟩, k4⟩, x2, ?_, fun r j q i hr => ?_, ?_, ⟨?_, ?_⟩, fun k hk => ?_, ?_⟩
  · -- shapes
    cases hp : dkP r with
    | none =>
      rw [eo r hp]
      exact k1 r c hr
    | some p =>
      have hm := dfr _ (memP hp)
      refine ⟨shn hp hr, hm.2.1, fun z => ?_⟩
      exact (hX.1.2.2.2 _ z) hm.1
  · -- apart
    cases hp : dkP r with
    | none =>
      cases hp' : dkP r' with
      | none =>
        rw [eo r hp, eo r' hp'] at he
        exact k2 r r' hr hr' he
      | some p' =>
        exfalso
        rw [eo r hp] at he
        refine old hr ?_
        rw [he]
        exact (dfr _ (memP hp')).1
    | some p =>
      cases hp' : dkP r' with
      | none =>
        exfalso
        rw [eo r' hp'] at he
        refine old hr' ?_
        rw [← he]
        exact (dfr _ (memP hp)).1
      | some p' =>
        rw [dkR_p hp, dkR_p hp'] at he
        by_cases e : p = p'
        · subst e
          exact dkP_i hp hp'
        · exfalso
          have l1 := (dkP_l hp).1
          have l2 := (dkP_l hp').1
          have hlen : (dkL d l t h b u w).length = 13 := rfl
          by_cases lt : p < p'
          · exact ndL_i _ dn p p' lt (by rw [hlen]; exact l2) he
          · exact ndL_i _ dn p' p (by omega) (by rw [hlen]; exact l1) he.symm
  · have hp2 : ∀ p ∈ rfT, p = (0, 0, 40) ∨ (p.1 = 0 ∧ p.2.1 ≠ 0 ∧ dkP p.2.2 = none) ∨ (p.1 ≠ 0 ∧ p.1 ≠ 40 ∧ dkP p.1 = none ∧ dkP p.2.2 = none ∧ shp p.1 ≠ none) ∨ p = (40, 0, 41) ∨ p = (40, 1, 42) ∨ p = (40, 2, 43) ∨ p = (40, 3, 44) := by decide
    rcases hp2 p hp with rfl | ⟨z1, z2, z3⟩ | ⟨z1, z2, z3, z4, z5⟩ | rfl | rfl | rfl | rfl
    · show tR _ (L 0) 0 = d
      exact if_pos ⟨rfl, rfl⟩
    · rw [z1, eo _ z3, eo 0 (dkn 0 (by decide)), t0j _ z2]
      have := y1 p hp
      rw [z1] at this
      exact this
    · rw [eo _ z3, eo _ z4, tRr _ z5 z1]
      exact y1 p hp
    · exact (tRn _ _ (newn md)).trans r0
    · exact (tRn _ _ (newn md)).trans r1
    · exact (tRn _ _ (newn md)).trans r2
    · exact (tRn _ _ (newn md)).trans r3
  · by_cases e : b' = 44
    · subst e
      exact ⟨(tRn _ _ (newn mb)).trans r4, (tRn _ _ (newn mb)).trans r5⟩
    · obtain ⟨z1, z2, z3⟩ := bkn b' hb e
      have hs := (shp_bk hb).1
      have hn0 : b' ≠ 0 := by rcases hb with h | h | h | h | h | h <;> omega
      rw [eo _ z1, eo _ z2, eo _ z3, tRr _ (shp_some hs) hn0, tRr _ (shp_some hs) hn0]
      exact y2 b' hb
  · rw [eo 31 (dkn _ (by decide)), eo 32 (dkn _ (by decide)), eo _ (big _ (by omega) (by omega) (by omega)), eo _ (big _ (by omega) (by omega) (by omega)), tRr 31 (by decide) (by decide), tRr 32 (by decide) (by decide)]
    exact y3 k hk
  · rw [e43, e50 i hi]
    exact (tRn _ _ (newn mh)).trans (r6 i hi)
  · rw [eo 16 (dkn _ (by decide)), eo 17 (dkn _ (by decide)), eo 18 (dkn _ (by decide)), eo _ (big _ (by omega) (by omega) (by omega)), eo _ (big _ (by omega) (by omega) (by omega)), eo _ (big _ (by omega) (by omega) (by omega)), tRr 16 (by decide) (by decide), tRr 17 (by decide) (by decide), tRr 18 (by decide) (by decide)]
    exact y5 n hn
  · rw [eo 19 (dkn _ (by decide)), eo 20 (dkn _ (by decide)), eo 21 (dkn _ (by decide)), eo 22 (dkn _ (by decide)), eo _ (big _ (by omega) (by omega) (by omega)), eo _ (big _ (by omega) (by omega) (by omega)), eo _ (big _ (by omega) (by omega) (by omega)), eo _ (big _ (by omega) (by omega) (by omega)), tRr 19 (by decide) (by decide), tRr 20 (by decide) (by decide), tRr 21 (by decide) (by decide), tRr 22 (by decide) (by decide)]
    exact y6 n hn
  · rw [eo _ (big (600 + n) (by omega) (by omega) (by omega)), eo _ (big (620 + n) (by omega) (by omega) (by omega)), eo _ (big (640 + n) (by omega) (by omega) (by omega)), eo _ (big (1000 + (26 * n + b')) (by omega) (by omega) (by omega)), eo _ (big (1400 + (26 * n + b')) (by omega) (by omega) (by omega)), eo _ (big (1800 + (26 * n + b')) (by omega) (by omega) (by omega)), tRr _ (shp_some (shp_600 hn).1) (by omega), tRr _ (shp_some (shp_600 hn).2.1) (by omega), tRr _ (shp_some (shp_600 hn).2.2) (by omega)]
    exact y7 n b' hn hb
  · rw [eo 0 (dkn _ (by decide)), t0j 8 (by decide)]
    exact isText_fr hMf (fun _ z => z) x3
  · -- what is kept
    have hl := loc_r hr
    show tI s1 (dkR L (dkL d l t h b u w) r) j = rd m' q i
    by_cases c1 : r = 444
    · subst c1
      unfold loc at hr
      rw [if_pos rfl] at hr
      split at hr
      · next hj =>
        cases hr
        rw [e444]
        show _ = m'.2.1 2 j
        rw [h2]
        have := (g2 j hj).1
        rw [r3, r5] at this
        exact this
      · cases hr
    by_cases c2 : r = 244
    · subst c2
      unfold loc at hr
      rw [if_neg (by decide), if_pos rfl] at hr
      split at hr
      · next hj =>
        cases hr
        rw [e244]
        show _ = m'.2.1 2 (12 + j)
        rw [h2]
        have := (g2 j hj).2
        rw [r3, r4] at this
        exact this
      · cases hr
    by_cases c3 : r = 44
    · subst c3
      unfold loc at hr
      rw [if_neg (by decide), if_neg (by decide), if_pos rfl] at hr
      split at hr
      · next hj =>
        cases hr
        subst hj
        rw [e44]
        show _ = m'.2.1 2 24
        rw [h2]
        rw [r3] at g3
        exact g3
      · cases hr
    by_cases c4 : 50 ≤ r ∧ r < 56
    · have := e50 (r - 50) (by omega)
      rw [show 50 + (r - 50) = r by omega] at this
      rw [this]
      unfold loc at hr
      rw [if_neg c1, if_neg c2, if_neg c3, if_pos c4] at hr
      split at hr
      · next hj =>
        cases hr
        show _ = m'.2.1 2 (25 + 2 * (r - 50) + j)
        rw [h2]
        have := g1 (r - 50) (by omega)
        rw [r2, r6 _ (by omega)] at this
        have hj2 : j = 0 ∨ j = 1 := by omega
        rcases hj2 with rfl | rfl
        · exact this.2.1
        · rw [show 25 + 2 * (r - 50) + 1 = 26 + 2 * (r - 50) by omega]
          exact this.2.2
      · cases hr
    by_cases c5 : r = 42
    · subst c5
      unfold loc at hr
      rw [if_neg (by decide), if_neg (by decide), if_neg (by decide), if_neg (by decide), if_pos rfl] at hr
      split at hr
      · next hj =>
        cases hr
        rw [e42]
        show _ = m'.2.1 2 (36 + j)
        rw [h2]
        have := g4 j hj.1 hj.2
        rw [r1] at this
        exact this
      · cases hr
    by_cases c6 : r = 40
    · subst c6
      rw [e40]
      unfold loc at hr
      rw [if_neg (by decide), if_neg (by decide), if_neg (by decide), if_neg (by decide), if_neg (by decide), if_pos rfl] at hr
      split at hr
      · next hj =>
        cases hr
        subst hj
        show _ = m'.2.1 2 41
        rw [h2]
        exact g5.1
      · split at hr
        · next hj =>
          cases hr
          subst hj
          show _ = m'.2.1 2 42
          rw [h2]
          exact g5.2.1
        · split at hr
          · next hj =>
            cases hr
            subst hj
            show _ = m'.2.1 2 44
            rw [h2]
            exact g5.2.2
          · cases hr
    have hp : dkP r = none := dkP_n (by omega)
    rw [eo r hp, x4 r j q i hr]
    have hq : q ≠ 2 := fun z => by
      have hh := loc_lt hr z
      by_cases c : i < 25
      · have := hh.1 c
        omega
      · -- places from 25 on lie in the desk's other cells
        have hi := loc_i hr
        subst z
        unfold loi at hi
        rw [if_pos rfl, if_neg (by omega), if_neg (by omega)] at hi
        by_cases d3 : i = 24
        · omega
        · rw [if_neg d3] at hi
          by_cases d4 : i < 37
          · rw [if_pos d4] at hi
            have := congrArg Prod.fst hi
            dsimp only at this
            omega
          · rw [if_neg d4] at hi
            by_cases d5 : i < 41
            · rw [if_pos d5] at hi
              have := congrArg Prod.fst hi
              dsimp only at this
              omega
            · rw [if_neg d5] at hi
              by_cases d6 : i = 41
              · rw [if_pos d6] at hi
                have := congrArg Prod.fst hi
                dsimp only at this
                omega
              · rw [if_neg d6] at hi
                by_cases d7 : i = 42
                · rw [if_pos d7] at hi
                  have := congrArg Prod.fst hi
                  dsimp only at this
                  omega
                · rw [if_neg d7] at hi
                  have := congrArg Prod.fst hi
                  dsimp only at this
                  omega
    unfold rd
    rw [hF]
    by_cases e : q = 60
    · rw [if_pos e, if_pos e]
    · rw [if_neg e, if_neg e, hA q hq]
  · obtain ⟨n, n1, n2, n3⟩ := x5
    refine ⟨n, n1, by rw [hF]; exact n2, fun k hk => ?_⟩
    rw [eo _ (big (300 + k) (by omega) (by omega) (by omega)), eo _ (big (500 + k) (by omega) (by omega) (by omega)), eo _ (big (100 + k) (by omega) (by omega) (by omega)), hA 31 (by decide)]
    exact n3 k hk
  · rw [e41, tRn _ _ (newn ml)]
    rcases ht with z | z
    · exact Or.inl z
    · exact Or.inr fun y => hX.1.2.2.2 _ y z
  · rw [e41, h2]
    rw [r0] at g6
    refine lstR_fr hMf (fun _ z => z) (fun _ => rfl) (tRn _ _ (newn ml)) A (fun i => ?_) g6
    refine tRn _ _ fun z => ?_
    obtain ⟨told, -, -, -, t4, -⟩ := g6
    rcases t4 with ⟨-, t4⟩ | t4
    · exact hN0 (t4.symm.trans z)
    · have := (k1 0 _ (rfl : shp 0 = some (.inl 0))).1
      rw [← z, t4.1] at this
      cases this
  · have tN : ∀ t, tR (tsR s1 (L 0) 0 d) (N.2.2 200) t = tR s1 (N.2.2 200) t := fun t => tRn _ t hN0
    have e3 : imK m' k = imK m k := by
      unfold imK
      rw [hA 3 (by decide)]
    rw [eo 1 (dkn _ (by decide)), tRr 1 (by decide) (by decide), hA 4 (by decide), e3]
    exact (x8 k hk).imp id fun z => ⟨z.1, z.2.1, deskM_fr hMf (fun _ z => z) A tN z.2.2.1, z.2.2.2⟩
  · obtain ⟨a', b', c', d', e'⟩ := x9
    unfold invM wdOK
    rw [hA 11 (by decide), hA 7 (by decide), hF, h2]
    exact ⟨hk, b', c', d', e'⟩
theorem deskM_src {d : Nat} {kp : Nat → Int32} (h : deskM N s M d kp) : dkSrc N s M d kp := by
  obtain ⟨a0, a1, a2, a3, a4, a5, a6, g1, g2, g3, g4, g5, g6, g7⟩ := h
  exact ⟨a0.2, a1.2, a2.2, a3.2, a4.2, a5.2, a6.2, fun i hi => (g1 i hi).2, g2, g3, g4, g5, g7⟩
end BA
section OB
variable {N : tP} {s : tM} {x o : Nat} {K : tM → Prop}
theorem dkSrc_l {M : Nat → Prop} {d : Nat} {kp kp' : Nat → Int32} (h : ∀ i, i < 5652 → kp' i = kp i) (hd : dkSrc N s M d kp) : dkSrc N s M d kp' := by
  obtain ⟨a0, a1, a2, a3, a4, a5, a6, g1, g2, g3, g4, g5, g7⟩ := hd
  refine ⟨a0, a1, a2, a3, a4, a5, a6, fun i hi => ?_, fun j hj => ?_, ?_, fun i z1 z4 => ?_, ?_, lstR_l h g7⟩
  · rw [h _ (by omega), h _ (by omega)]
    exact g1 i hi
  · rw [h _ (by omega), h _ (by omega)]
    exact g2 j hj
  · rw [h _ (by omega)]
    exact g3
  · rw [h _ (by omega)]
    exact g4 i z1 z4
  · rw [h _ (by omega), h _ (by omega), h _ (by omega)]
    exact g5
theorem op_back (hN : nOK N) (hX : RXo N s x o) (hK : ∀ s', RXo N s' x o → K s') (a : Int32) {k n : Nat} (hk : 15 ≤ k) (hn : 77 ≤ n) : v_X0_back N x a k n s (pK o (w_back (nP N) a) K) := by
  obtain ⟨L, M, rfl, hX, hm⟩ := hX
  have hS := hX.S
  have o0 := hS.o (r := 0) rfl
  have hN1 : 60 ≤ N.1 := by have := hN.1; omega
  unfold v_X0_back
  refine v_inS ?_
  rw [inl (lo' := 0) (hi' := 1) (by decide) (by decide)]
  refine bI_d (fun hb => ?_) (fun hb => ⟨o0, op_ref (k := 1) hX hm rfl hK (by decide) (by decide) (fun m1 K2 hc h2 => ?_)⟩)
  · have hr := in_t hb
    rw [z32_t, o32_t] at hr
    obtain ⟨kk, kk1, kk2⟩ := i32N (c := a) hr.1
    subst kk1
    have hkk : kk < 2 := by omega
    have hw : ∀ m1 (K2 : Int32 → mS → Prop), cE (sM s o) m1 → ((¬ (sM s o).2.1 4 kk = 0 → w_back_33 (nP N) (nI kk) K2 (fun s106 => (w_settled 0 s106 (fun x107 s108 => (K2 x107 s108)))) (nP N).1 0 m1) ∧ ((sM s o).2.1 4 kk = 0 → w_refuses (-2) m1 K2)) → w_back (nP N) (nI kk) m1 K2 := fun m1 K2 hc h => by
      unfold w_back
      refine w_liesS ?_
      rw [hb]
      refine ⟨fun _ => ⟨vpk hkk (by decide), ?_⟩, fun z => absurd z (by decide)⟩
      rw [mAt_n (by omega), hc.2 4 (by decide)]
      exact h
    rw [hS.t (r := 0) (j := 1) (q := 1) (by decide), nI_clamp (by omega)]
    have xk : tX s 4 (L 1) (nI kk) := ⟨2, hS.a (r := 1) rfl, vpk hkk (by decide)⟩
    refine ⟨o0, xk, fun nz => ⟨xk, 15, 77, hk, hn, ?_⟩, fun yz => ?_⟩
    · rcases hX.2.2.2.2.2.2.1 kk hkk with ⟨-, z⟩ | ⟨z1, z2, z3, z4⟩
      · exact absurd z nz
      · refine ⟨z3.1.2, v_copyS hN1 hX.2.1.1 (fun a ha => hX.1.2.2.2 a (Or.inl ha)) (deskM_src z3) (Nat.le_refl _) (Nat.le_refl _) (fun s1 d l t h b u w x1 D1 S1 t1 => ⟨ext_O x1 o0, fun s2 e2 => ?_⟩)⟩
        have hkp : ∀ i, i < 5652 → (fun i => if i < 5652 then imK (sM s o) kk i else (sM s o).2.1 2 i) i = imK (sM s o) kk i := fun i hi => if_pos hi
        have X2 : RX N s2 (dkR L (dkL d l t h b u w)) M (mO s o) (sA (sM s o) 2 (fun i => if i < 5652 then imK (sM s o) kk i else (sM s o).2.1 2 i)) := by
          rw [e2]
          exact hX.bck x1 D1 (dkSrc_l hkp S1) t1 (kpI_l hkp z4) (sA_at _ _ _) (fun q hq => sA_o _ _ hq) rfl
        have f2 : frM (mO s o) s s2 := by
          rw [e2]
          refine frM_t (hX.exO x1) ⟨fun a ha => ⟨rfl, rfl, funext fun j => if_neg fun (z : a = L 0 ∧ j = 0) => hX.1.n2 (r := 0) (by decide) (z.1 ▸ ha)⟩, fun _ _ _ => rfl⟩
        have e0 : dkR L (dkL d l t h b u w) 0 = L 0 := rfl
        rw [← e0]
        refine v_setlS X2 (by decide) (fun s3 X3 f3 => pfin X3 hm (frM_t f2 f3) rfl hK (fun m1 K2 hc h2 => hw m1 K2 hc ⟨fun _ => ?_, fun y => ?_⟩))
        · have e00 : m1 = sA m1 2 (fun i => if i < 0 then imK m1 kk i else m1.2.1 2 i) := by
            refine Prod.ext rfl (Prod.ext (funext fun q => ?_) rfl)
            show m1.2.1 q = (sA m1 2 (fun i => if i < 0 then imK m1 kk i else m1.2.1 2 i)).2.1 q
            by_cases e : q = 2
            · subst e
              rw [sA_at]
              rfl
            · rw [sA_o _ _ e]
          refine w_bk33 (m := m1) hkk (fun g1 eg1 => w_setS (h2 _ ?_)) 5652 (nP N).1 0 m1 e00 (by omega) (by show 5652 < N.1; have := hN.1; omega)
          rw [eg1]
          refine cE_F (cE_F ?_ _ _) _ _
          have c1 := cE_A hc 2 (fun i => if i < 5652 then imK (sM s o) kk i else (sM s o).2.1 2 i)
          have ei : imK m1 kk = imK (sM s o) kk := by
            unfold imK
            rw [hc.2 3 (by decide)]
          rw [eqP hc, ei]
          exact c1
        · rw [z1] at y
          exact absurd y (by decide)
    · rcases hX.2.2.2.2.2.2.1 kk hkk with ⟨z1, -⟩ | ⟨-, z, -⟩
      · refine op_ref (k := 2) hX hm rfl hK (by decide) (by decide) (fun m1 K2 hc h2 => hw m1 K2 hc ⟨fun y => absurd z1 y, fun _ => w_refS (k := 2) (by decide) h2⟩)
      · exact absurd yz z
  · unfold w_back
    refine w_liesS ?_
    rw [hb]
    exact ⟨fun z => absurd rfl z, fun _ => w_refS (k := 1) (by decide) h2⟩
end OB
