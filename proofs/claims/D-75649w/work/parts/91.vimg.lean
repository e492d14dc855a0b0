set_option maxRecDepth 100000
/-! ===== image ===== -/
section IG
variable {N : tP} {s s' : tM} {L : Nat → Nat} {M O : Nat → Prop} {m m' : mS}
theorem loc_50 {i j : Nat} (hi : i < 6) (hj : j < 2) : loc (50 + i) j = some (2, 25 + 2 * i + j) := by
  unfold loc
  rw [if_neg (by omega), if_neg (by omega), if_neg (by omega), if_pos (by omega), if_pos hj, show 50 + i - 50 = i by omega]
theorem loc_42 {j : Nat} (h : 1 ≤ j ∧ j ≤ 4) : loc 42 j = some (2, 36 + j) := by
  unfold loc
  rw [if_neg (by decide), if_neg (by decide), if_neg (by decide), if_neg (by decide), if_pos rfl, if_pos h]
/-- the live desk, as what is copied -/
theorem RX.src (hX : RX N s L M O m) : dkSrc N s M (L 40) (m.2.1 2) := by
  have hS := hX.S
  have t0 := hS.t (r := 40) (j := 0) (q := 41) (by decide)
  have t1 := hS.t (r := 40) (j := 1) (q := 42) (by decide)
  have t2 := hS.t (r := 40) (j := 2) (q := 43) (by decide)
  have t3 := hS.t (r := 40) (j := 3) (q := 44) (by decide)
  have b44 := hS.2.2.1.2.1 44 (Or.inr (Or.inr (Or.inr (Or.inl rfl))))
  have th : tR s (L 44) 1 = L 444 := b44.2
  have tu : tR s (L 44) 0 = L 244 := b44.1
  have t50 := hS.2.2.1.2.2.2.1
  unfold dkSrc
  rw [t0, t1, t2, t3, tu, th]
  refine ⟨hS.o (r := 40) rfl, hS.o (r := 41) rfl, hS.a (r := 42) rfl, hS.a (r := 43) rfl, hS.o (r := 44) rfl, hS.a (r := 244) rfl, hS.a (r := 444) rfl, fun i hi => ?_, fun j hj => ⟨hX.h hj, hX.u hj⟩, hX.d, fun i h1 h4 => hX.R 42 i 2 (36 + i) (loc_42 ⟨h1, h4⟩), ⟨hX.R 40 4 2 41 rfl, hX.R 40 5 2 42 rfl, hX.R 40 6 2 44 rfl⟩, hX.2.2.2.2.2.1.2⟩
  rw [t50 i hi]
  refine ⟨hS.a (shp_50 hi), hX.R _ _ _ _ (loc_50 hi (by decide)), ?_⟩
  have := hX.R _ _ _ _ (loc_50 hi (j := 1) (by decide))
  rw [this]
  exact congrArg (m.2.1 2) (by omega)
/-- new cells become the images' and trees' -/
theorem RX.newM (hX : RX N s L M O m) (h : extN N s s') : RX N s' L (fun a => M a ∨ (s.1 a = none ∧ s'.1 a ≠ none)) O m := by
  have hX' := hX.ex h
  have ho : ∀ {r : Nat}, shp r ≠ none → s.1 (L r) ≠ none := fun {r} e => hX.1.al e
  have hex : tR s' (L 41) 1 = N.2.2 200 ∨ s.1 (tR s' (L 41) 1) ≠ none := by
    have e : tR s' (L 41) 1 = tR s (L 41) 1 := congrFun (h _ (Or.inl (ho (r := 41) (by decide)))).2.2.2 1
    obtain ⟨told, -, -, -, t4, -⟩ := hX.2.2.2.2.2.1.2
    rw [e]
    rcases t4 with ⟨-, t4⟩ | t4
    · exact Or.inl t4
    · exact Or.inr (al_A t4)
  have mf : ∀ a, M a → M a ∨ (s.1 a = none ∧ s'.1 a ≠ none) := fun _ => Or.inl
  obtain ⟨⟨k1, k2, k3, k4⟩, x2, x3, x4, x5, ⟨x6, x7⟩, x8, x9⟩ := hX'
  refine ⟨⟨fun r c hr => ⟨(k1 r c hr).1, (k1 r c hr).2.1, fun z => ?_⟩, k2, k3, fun a ha => ?_⟩, ⟨x2.1, fun a ha z => ?_⟩, isText_fr (mFr_r M s') mf x3, x4, x5, ⟨?_, lstR_fr (mFr_r M s') mf (fun _ => rfl) rfl (fun _ _ _ z => z) (fun _ => rfl) x7⟩, fun k hk => ?_, x9⟩
  · rcases z with (z | z) | z
    · exact (k1 r c hr).2.2 (Or.inl z)
    · exact ho (shp_some hr) z.1
    · exact (k1 r c hr).2.2 (Or.inr z)
  · rcases ha with (z | z) | z
    · exact k4 a (Or.inl z)
    · exact z.2
    · exact k4 a (Or.inr z)
  · rcases z with z | z
    · exact x2.2 a ha z
    · exact hX.1.2.2.2 a (Or.inr ha) z.1
  · rcases hex with z | z
    · exact Or.inl z
    · refine x6.imp id fun w y => ?_
      rcases y with (y | y) | y
      · exact w (Or.inl y)
      · exact z y.1
      · exact w (Or.inr y)
  · exact (x8 k hk).imp id fun z => ⟨z.1, z.2.1, deskM_fr (mFr_r M s') mf (fun _ _ _ z => z) (fun _ => rfl) z.2.2.1, z.2.2.2⟩
/-- an image is kept -/
theorem RX.img (hX : RX N s L M O m) {k d : Nat} (hk : k < 2) (hd0 : d ≠ 0) (hd : deskM N s M d (m.2.1 2)) (h2 : ∀ q, q ≠ 3 → q ≠ 4 → m'.2.1 q = m.2.1 q) (h1 : m'.1 = m.1) (h4 : ∀ i, m'.2.1 4 i = if i = k then 1 else m.2.1 4 i) (h3 : ∀ i, m'.2.1 3 i = if 5652 * k ≤ i ∧ i < 5652 * k + 5652 then m.2.1 2 (i - 5652 * k) else m.2.1 3 i) (hdd : ∀ (M' : Nat → Prop) (s0 : tM) (kp kp' : Nat → Int32), (∀ i, i < 5652 → kp' i = kp i) → deskM N s0 M' d kp → deskM N s0 M' d kp') (hkI : ∀ kp kp' : Nat → Int32, (∀ i, i < 5652 → kp' i = kp i) → kpI kp → kpI kp') (hdo : ∀ (M' : Nat → Prop) (s0 : tM) (d0 : Nat) (kp kp' : Nat → Int32), (∀ i, i < 5652 → kp' i = kp i) → deskM N s0 M' d0 kp → deskM N s0 M' d0 kp') : RX N (tsR s (L 1) k d) L M O m' := by
  obtain ⟨⟨k1, k2, ⟨r1, r2, r3, r4, r5, r6, r7⟩, k4⟩, x2, x3, x4, x5, ⟨x6, x7⟩, x8, x9⟩ := hX
  have hS : RS s L (uM M O) := ⟨k1, k2, ⟨r1, r2, r3, r4, r5, r6, r7⟩, k4⟩
  have tRn : ∀ a j, a ≠ L 1 → tR (tsR s (L 1) k d) a j = tR s a j := fun a j hn => if_neg fun z => hn z.1
  have tRr : ∀ r, shp r ≠ none → r ≠ 1 → ∀ j, tR (tsR s (L 1) k d) (L r) j = tR s (L r) j := fun r hr hn j => tRn _ j (hS.ne hr (by decide) hn)
  have hMf : mFr M s (tsR s (L 1) k d) := fun a ha => ⟨rfl, rfl, funext fun j => tRn a j fun z => hS.n1 (r := 1) (by decide) (z ▸ ha)⟩
  have hbk : ∀ b, isBk b → shp b ≠ none ∧ b ≠ 1 := fun b hb => ⟨shp_some (shp_bk hb).1, fun z => by
    subst z
    rcases hb with h | h | h | h | h | h <;> omega⟩
  have hN1 : N.2.2 200 ≠ L 1 := fun z => by
    have := (k1 1 _ (rfl : shp 1 = some (.inr (4, 2)))).1
    rw [← z, x2.1] at this
    cases this
  have A : ∀ n t a, tA s t n a → tA (tsR s (L 1) k d) t n a := fun _ _ _ z => z
  have htab : ∀ t, tR (tsR s (L 1) k d) (tR s (L 41) 1) t = tR s (tR s (L 41) 1) t := fun t => by
    refine tRn _ _ fun z => ?_
    obtain ⟨told, -, -, -, t4, -⟩ := x7
    rcases t4 with ⟨-, t4⟩ | t4
    · exact hN1 (t4.symm.trans z)
    · have := (k1 1 _ (rfl : shp 1 = some (.inr (4, 2)))).1
      rw [← z, t4.1] at this
      cases this
  refine ⟨⟨k1, k2, ⟨fun p hp => ?_, fun b hb => ?_, fun k hk => ?_, fun i hi => ?_, fun n hn => ?_, fun n hn => ?_, fun n b hn hb => ?_⟩, k4⟩, x2, ?_, fun r j q i hr => ?_, undR_o x5 hS (fun _ _ _ => rfl) (by rw [h1]) (h2 31 (by decide) (by decide)), ⟨?_, ?_⟩, fun k' hk' => ?_, ?_⟩
  · have hp2 : ∀ p ∈ rfT, shp p.1 ≠ none ∧ p.1 ≠ 1 := by decide
    rw [tRr _ (hp2 p hp).1 (hp2 p hp).2]
    exact r1 p hp
  · rw [tRr _ (hbk b hb).1 (hbk b hb).2, tRr _ (hbk b hb).1 (hbk b hb).2]
    exact r2 b hb
  · rw [tRr 31 (by decide) (by decide), tRr 32 (by decide) (by decide)]
    exact r3 k hk
  · rw [tRr 43 (by decide) (by decide)]
    exact r4 i hi
  · rw [tRr 16 (by decide) (by decide), tRr 17 (by decide) (by decide), tRr 18 (by decide) (by decide)]
    exact r5 n hn
  · rw [tRr 19 (by decide) (by decide), tRr 20 (by decide) (by decide), tRr 21 (by decide) (by decide), tRr 22 (by decide) (by decide)]
    exact r6 n hn
  · rw [tRr _ (shp_some (shp_600 hn).1) (by omega), tRr _ (shp_some (shp_600 hn).2.1) (by omega), tRr _ (shp_some (shp_600 hn).2.2) (by omega)]
    exact r7 n b hn hb
  · rw [tRr 0 (by decide) (by decide)]
    exact isText_fr hMf (fun _ z => z) x3
  · have e : rd m' q i = rd m q i := by
      have := (loc_2 hr).1
      unfold rd
      by_cases e : q = 60
      · rw [if_pos e, if_pos e, h1]
      · rw [if_neg e, if_neg e, h2 q (by omega) (by omega)]
    rw [e]
    exact x4 r j q i hr
  · rw [tRr 41 (by decide) (by decide)]
    exact x6
  · rw [h2 2 (by decide) (by decide)]
    exact lstR_fr hMf (fun _ z => z) (fun _ => rfl) (tRr 41 (by decide) (by decide) 1) A htab x7
  · have tN : ∀ t, tR (tsR s (L 1) k d) (N.2.2 200) t = tR s (N.2.2 200) t := fun t => tRn _ t hN1
    by_cases e : k' = k
    · subst e
      refine Or.inr ⟨by rw [h4, if_pos rfl], ?_, ?_, ?_⟩
      · show (if L 1 = L 1 ∧ k' = k' then d else _) ≠ 0
        rw [if_pos ⟨rfl, rfl⟩]
        exact hd0
      · have ed : tR (tsR s (L 1) k' d) (L 1) k' = d := if_pos ⟨rfl, rfl⟩
        rw [ed]
        refine hdd _ _ (m.2.1 2) _ (fun i hi => ?_) (deskM_fr hMf (fun _ z => z) A tN hd)
        show m'.2.1 3 (5652 * k' + i) = _
        rw [h3, if_pos (by omega)]
        exact congrArg (m.2.1 2) (by omega)
      · refine hkI (m.2.1 2) _ (fun i hi => ?_) x9.1
        show m'.2.1 3 (5652 * k' + i) = _
        rw [h3, if_pos (by omega)]
        exact congrArg (m.2.1 2) (by omega)
    · have ed : tR (tsR s (L 1) k d) (L 1) k' = tR s (L 1) k' := if_neg fun z => e z.2
      have ei : ∀ i, i < 5652 → imK m' k' i = imK m k' i := fun i hi => by
        show m'.2.1 3 (5652 * k' + i) = m.2.1 3 (5652 * k' + i)
        rw [h3, if_neg (by omega)]
      rw [h4, if_neg e, ed]
      exact (x8 k' hk').imp id fun z => ⟨z.1, z.2.1, hdo _ _ _ _ _ ei (deskM_fr hMf (fun _ z => z) A tN z.2.2.1), hkI _ _ ei z.2.2.2⟩
  · obtain ⟨a, b, c, d, e⟩ := x9
    unfold invM wdOK
    rw [h2 2 (by decide) (by decide), h2 11 (by decide) (by decide), h2 7 (by decide) (by decide), h1]
    exact ⟨a, b, c, d, e⟩
theorem txOK_l {kp kp' : Nat → Int32} (h : ∀ i, i < 5652 → kp' i = kp i) {t : Nat} (ht : t ≤ 6) {cls : List cL} (hx : txOK kp t cls) : txOK kp' t cls := by
  have eT : txT kp' t = txT kp t := by
    unfold txT
    rw [h (45 + t) (by omega)]
  have hT := hx.2.1
  have eC : txC kp' t = txC kp t := by
    funext k
    unfold txC
    rw [eT]
    by_cases c : k < txT kp t
    · rw [if_pos c, if_pos c, h _ (by omega)]
    · rw [if_neg c, if_neg c]
  have eV : txV kp' t = txV kp t := by
    funext k
    unfold txV
    rw [eT]
    by_cases c : k < txT kp t
    · rw [if_pos c, if_pos c, h _ (by omega)]
    · rw [if_neg c, if_neg c]
  unfold txOK
  rw [eT, eC, eV, h (45 + t) (by omega)]
  exact hx
theorem lstR_l {kp kp' : Nat → Int32} (h : ∀ i, i < 5652 → kp' i = kp i) {l : Nat} (hl : lstR N s M l kp) : lstR N s M l kp' := by
  obtain ⟨told, t1, t2, t3, t4, t5⟩ := hl
  refine ⟨told, t1, (h 43 (by omega)).trans t2, t3, t4, fun i hi => ?_⟩
  obtain ⟨cls, c1, c2⟩ := t5 i hi
  exact ⟨cls, txOK_l h (by omega) c1, c2⟩
theorem deskM_l {kp kp' : Nat → Int32} (h : ∀ i, i < 5652 → kp' i = kp i) {d : Nat} (hd : deskM N s M d kp) : deskM N s M d kp' := by
  obtain ⟨a0, a1, a2, a3, a4, a5, a6, g1, g2, g3, g4, g5, g6, g7⟩ := hd
  refine ⟨a0, a1, a2, a3, a4, a5, a6, fun i hi => ?_, fun j hj => ?_, ?_, fun i z1 z4 => ?_, ?_, g6, lstR_l h g7⟩
  · rw [h _ (by omega), h _ (by omega)]
    exact g1 i hi
  · rw [h _ (by omega), h _ (by omega)]
    exact g2 j hj
  · rw [h _ (by omega)]
    exact g3
  · rw [h _ (by omega)]
    exact g4 i z1 z4
  · rw [h _ (by omega), h _ (by omega), h _ (by omega)]
    exact g5
theorem kpI_l {kp kp' : Nat → Int32} (h : ∀ i, i < 5652 → kp' i = kp i) (hk : kpI kp) : kpI kp' := by
  obtain ⟨⟨a1, a2, a3⟩, b, c, d, e1, f, g, told, t1, t2, t3⟩ := hk
  refine ⟨⟨fun i hi => ?_, ?_, ?_⟩, ?_, ?_, ?_, ?_, ?_, fun i hi => ?_, told, t1, ?_, ?_⟩
  all_goals rw [h _ (by omega)]
  · exact a1 i hi
  · exact a2
  · exact a3
  · exact b
  · exact c
  · exact d
  · exact e1
  · exact f
  · exact g i hi
  · exact t2
  · exact t3
theorem src_M {d l t h b u w : Nat} {kp : Nat → Int32} {s0 : tM} (hD : DK N s0 s d l t h b u w) (hS : dkSrc N s M d kp) (ht : tR s l 1 = N.2.2 200 ∨ s0.1 (tR s l 1) = none) : deskM N s (fun a => M a ∨ (s0.1 a = none ∧ s.1 a ≠ none)) d kp := by
  obtain ⟨dn, dfr, ⟨dd, dl, dt, dh, db, du, dw, dhi⟩, r0, r1, r2, r3, r4, r5, r6⟩ := hD
  obtain ⟨md, ml, mt, mh, mb, mu, mw, mi⟩ := @mem_dk d l t h b u w
  obtain ⟨m0, m1, m2, m3, m4, m5, m6, g1, g2, g3, g4, g5, g6⟩ := hS
  have nw : ∀ {a : Nat}, a ∈ dkL d l t h b u w → s.1 a ≠ none → M a ∨ (s0.1 a = none ∧ s.1 a ≠ none) := fun {a} ha hs => Or.inr ⟨(dfr a ha).1, hs⟩
  have e0 : tR s d 0 ∈ dkL d l t h b u w := by rw [r0]; exact ml
  have e1 : tR s d 1 ∈ dkL d l t h b u w := by rw [r1]; exact mt
  have e2 : tR s d 2 ∈ dkL d l t h b u w := by rw [r2]; exact mh
  have e3 : tR s d 3 ∈ dkL d l t h b u w := by rw [r3]; exact mb
  have e4 : tR s (tR s d 3) 0 ∈ dkL d l t h b u w := by rw [r3, r4]; exact mu
  have e5 : tR s (tR s d 3) 1 ∈ dkL d l t h b u w := by rw [r3, r5]; exact mw
  have e6 : ∀ i, i < 6 → tR s (tR s d 2) i ∈ dkL d l t h b u w := fun i hi => by rw [r2, r6 i hi]; exact mi i hi
  refine ⟨⟨nw md (al_O m0), m0⟩, ⟨nw e0 (al_O m1), m1⟩, ⟨nw e1 (al_A m2), m2⟩, ⟨nw e2 (al_A m3), m3⟩, ⟨nw e3 (al_O m4), m4⟩, ⟨nw e4 (al_A m5), m5⟩, ⟨nw e5 (al_A m6), m6⟩, fun i hi => ⟨nw (e6 i hi) (al_A (g1 i hi).1), g1 i hi⟩, g2, g3, g4, g5, ?_, lstR_fr (mFr_r M s) (fun _ => Or.inl) (fun _ => rfl) rfl (fun _ _ _ z => z) (fun _ => rfl) g6⟩
  rw [r0]
  rcases ht with z | z
  · exact Or.inl z
  · obtain ⟨told, -, -, -, t4, -⟩ := g6
    rw [r0] at t4
    rcases t4 with ⟨-, t4⟩ | t4
    · exact Or.inl t4
    · exact Or.inr (Or.inr ⟨z, al_A t4⟩)
end IG
section IW
variable {N : Nat × Nat} {m : mS}
theorem w_im17 {k : Nat} (hk : k < 2) {Kr : Int32 → mS → Prop} {K : mS → Prop} (hK : ∀ m', m' = sA m 3 (fun i => if 5652 * k ≤ i ∧ i < 5652 * k + 5652 then m.2.1 2 (i - 5652 * k) else m.2.1 3 i) → K m') : ∀ (c t j : Nat) (m1 : mS), m1 = sA m 3 (fun i => if 5652 * k ≤ i ∧ i < 5652 * k + j then m.2.1 2 (i - 5652 * k) else m.2.1 3 i) → j + c = 5652 → c < t → w_image_17 N (nI k) Kr K t (nI j) m1
  | _, 0, _, _, _, _, h => absurd h (Nat.not_lt_zero _)
  | 0, t + 1, j, m1, h1, hj, _ => by
    unfold w_image_17
    have : j = 5652 := by omega
    subst this
    exact ⟨fun _ => hK m1 h1, fun z => absurd (nI_le (Nat.le_refl 5652) (by omega)) z⟩
  | c + 1, t + 1, j, m1, h1, hj, ht => by
    have e25 : (5652 : Int32) * nI k + nI j = nI (5652 * k + j) := by
      rw [show (5652 : Int32) * nI k = nI (5652 * k) from pk_mul 5652 k, nI_add]
    unfold w_image_17
    rw [e25, show (5652 : Int32) = nI 5652 from rfl, nI_lle (by omega) (by omega), mAt_n (by omega)]
    have h2 : m1.2.1 2 j = m.2.1 2 j := by
      rw [h1, sA_o _ _ (by decide)]
    rw [h2]
    refine ⟨fun z => by omega, fun _ => ⟨vpk (by omega) (by decide), vpk (by omega) (by decide), fun m2 e2 y hy => ?_⟩⟩
    rw [hy, nI_1]
    refine w_im17 hk hK c t (j + 1) m2 ?_ (by omega) (by omega)
    rw [e2, h1]
    refine Prod.ext rfl (Prod.ext (funext fun q => ?_) rfl)
    by_cases e : q = 3
    · subst e
      funext i
      show (mI (sA m 3 _) 3 (nI (5652 * k + j)) (m.2.1 2 j)).2.1 3 i = (sA m 3 _).2.1 3 i
      rw [mI_at _ _ _ (by omega), sA_at, sA_at]
      by_cases c1 : i = 5652 * k + j
      · rw [if_pos c1, if_pos (by omega), c1]
        exact congrArg (m.2.1 2) (by omega)
      · rw [if_neg c1]
        by_cases c2 : 5652 * k ≤ i ∧ i < 5652 * k + j
        · rw [if_pos c2, if_pos (by omega)]
        · rw [if_neg c2, if_neg (by omega)]
    · show (mI (sA m 3 _) 3 (nI (5652 * k + j)) (m.2.1 2 j)).2.1 q = (sA m 3 _).2.1 q
      rw [mI_o _ _ _ e, sA_o _ _ e, sA_o _ _ e]
theorem w_bk33 {k : Nat} (hk : k < 2) {Kr : Int32 → mS → Prop} {K : mS → Prop} (hK : ∀ m', m' = sA m 2 (fun i => if i < 5652 then imK m k i else m.2.1 2 i) → K m') : ∀ (c t j : Nat) (m1 : mS), m1 = sA m 2 (fun i => if i < j then imK m k i else m.2.1 2 i) → j + c = 5652 → c < t → w_back_33 N (nI k) Kr K t (nI j) m1
  | _, 0, _, _, _, _, h => absurd h (Nat.not_lt_zero _)
  | 0, t + 1, j, m1, h1, hj, _ => by
    unfold w_back_33
    have : j = 5652 := by omega
    subst this
    exact ⟨fun _ => hK m1 h1, fun z => absurd (nI_le (Nat.le_refl 5652) (by omega)) z⟩
  | c + 1, t + 1, j, m1, h1, hj, ht => by
    have e25 : (5652 : Int32) * nI k + nI j = nI (5652 * k + j) := by
      rw [show (5652 : Int32) * nI k = nI (5652 * k) from pk_mul 5652 k, nI_add]
    unfold w_back_33
    rw [e25, show (5652 : Int32) = nI 5652 from rfl, nI_lle (by omega) (by omega), mAt_n (by omega)]
    have h2 : m1.2.1 3 (5652 * k + j) = imK m k j := by
      rw [h1, sA_o _ _ (by decide)]
      rfl
    rw [h2]
    refine ⟨fun z => by omega, fun _ => ⟨vpk (by omega) (by decide), vpk (by omega) (by decide), fun m2 e2 y hy => ?_⟩⟩
    rw [hy, nI_1]
    refine w_bk33 hk hK c t (j + 1) m2 ?_ (by omega) (by omega)
    rw [e2, h1]
    refine Prod.ext rfl (Prod.ext (funext fun q => ?_) rfl)
    by_cases e : q = 2
    · subst e
      funext i
      show (mI (sA m 2 _) 2 (nI j) (imK m k j)).2.1 2 i = (sA m 2 _).2.1 2 i
      rw [mI_at _ _ _ (by omega), sA_at, sA_at]
      by_cases c1 : i = j
      · rw [if_pos c1, if_pos (by omega), c1]
      · rw [if_neg c1]
        by_cases c2 : i < j
        · rw [if_pos c2, if_pos (by omega)]
        · rw [if_neg c2, if_neg (by omega)]
    · show (mI (sA m 2 _) 2 (nI j) (imK m k j)).2.1 q = (sA m 2 _).2.1 q
      rw [mI_o _ _ _ e, sA_o _ _ e, sA_o _ _ e]
end IW
section IO2
variable {N : tP} {s : tM} {x o : Nat} {K : tM → Prop}
theorem op_image (hN : nOK N) (hX : RXo N s x o) (hK : ∀ s', RXo N s' x o → K s') (a : Int32) {k n : Nat} (hk : 15 ≤ k) (hn : 77 ≤ n) : v_X0_image N x a k n s (pK o (w_image (nP N) a) K) := by
  obtain ⟨L, M, rfl, hX, hm⟩ := hX
  have hS := hX.S
  have o0 := hS.o (r := 0) rfl
  have hN1 : 60 ≤ N.1 := by have := hN.1; omega
  unfold v_X0_image
  refine v_inS ?_
  rw [inl (lo' := 0) (hi' := 1) (by decide) (by decide)]
  refine bI_d (fun hb => ?_) (fun hb => ⟨o0, op_ref (k := 1) hX hm rfl hK (by decide) (by decide) (fun m1 K2 hc h2 => ?_)⟩)
  · have hr := in_t hb
    rw [z32_t, o32_t] at hr
    obtain ⟨kk, kk1, kk2⟩ := i32N (c := a) hr.1
    subst kk1
    have hkk : kk < 2 := by omega
    rw [hS.t (r := 0) (j := 0) (q := 40) (by decide), hS.t (r := 0) (j := 1) (q := 1) (by decide)]
    refine ⟨o0, 15, 77, hk, hn, hS.o (r := 40) rfl, v_copyS hN1 hX.2.1.1 (fun a ha => hX.1.2.2.2 a (Or.inl ha)) hX.src (Nat.le_refl _) (Nat.le_refl _) (fun s1 d l t h b u w x1 D1 S1 t1 => ?_)⟩
    have X1 := hX.newM x1
    have e1 := ext_A x1 (hS.a (r := 1) rfl)
    rw [nI_clamp (by omega)]
    refine ⟨⟨2, e1, vpk hkk (by decide)⟩, S1.1, fun s2 e2 => ?_⟩
    have X2 : RX N s2 L (fun a => M a ∨ (s.1 a = none ∧ s1.1 a ≠ none)) (mO s o) (mI (sA (sM s o) 3 (fun i => if 5652 * kk ≤ i ∧ i < 5652 * kk + 5652 then (sM s o).2.1 2 (i - 5652 * kk) else (sM s o).2.1 3 i)) 4 (nI kk) 1) := by
      rw [e2]
      refine X1.img hkk S1.1.2 (src_M D1 S1 t1) (fun q h3 h4 => ?_) rfl (fun i => ?_) (fun i => ?_) (fun M' s0 kp kp' h => deskM_l h) (fun kp kp' h => kpI_l h) (fun M' s0 d0 kp kp' h => deskM_l h)
      · rw [mI_o _ _ _ h4, sA_o _ _ h3]
      · rw [mI_at _ _ _ (by omega), sA_o _ _ (by decide)]
      · rw [mI_o _ _ _ (by decide), sA_at]
    have f2 : frM (mO s o) s s2 := by
      rw [e2]
      refine frM_t (hX.exO x1) ⟨fun a ha => ⟨rfl, rfl, funext fun j => if_neg fun (z : a = L 1 ∧ j = kk) => X1.1.n2 (r := 1) (by decide) (z.1 ▸ ha)⟩, fun _ _ _ => rfl⟩
    refine ⟨X2.S.o (r := 0) rfl, v_goodS X2 (by decide) (fun s3 X3 f3 => pfin X3 hm (frM_t f2 f3) rfl hK (fun m1 K2 hc h2 => ?_))⟩
    unfold w_image
    refine w_liesS ?_
    rw [hb]
    have e0 : m1 = sA m1 3 (fun i => if 5652 * kk ≤ i ∧ i < 5652 * kk + 0 then m1.2.1 2 (i - 5652 * kk) else m1.2.1 3 i) := by
      refine Prod.ext rfl (Prod.ext (funext fun q => ?_) rfl)
      show m1.2.1 q = (sA m1 3 (fun i => if 5652 * kk ≤ i ∧ i < 5652 * kk + 0 then m1.2.1 2 (i - 5652 * kk) else m1.2.1 3 i)).2.1 q
      by_cases e : q = 3
      · subst e
        rw [sA_at]
        funext i
        rw [if_neg (by omega)]
      · rw [sA_o _ _ e]
    refine ⟨fun _ => w_im17 (m := m1) hkk (fun g1 eg1 => ⟨vpk hkk (by decide), fun g2 eg2 => w_goodS (h2 _ ?_)⟩) 5652 (nP N).1 0 m1 e0 (by omega) (by show 5652 < N.1; have := hN.1; omega), fun z => absurd z (by decide)⟩
    rw [eg2, eg1, show vp_nar .boolean 1 = 1 by decide]
    refine cE_F (cE_I ?_ _ _ _) _ _
    have c1 := cE_A hc 3 (fun i => if 5652 * kk ≤ i ∧ i < 5652 * kk + 5652 then (sM s o).2.1 2 (i - 5652 * kk) else (sM s o).2.1 3 i)
    rw [eqP hc, hc.2 3 (by decide)]
    exact c1
  · unfold w_image
    refine w_liesS ?_
    rw [hb]
    exact ⟨fun z => absurd rfl z, fun _ => w_refS (k := 1) (by decide) h2⟩
end IO2
