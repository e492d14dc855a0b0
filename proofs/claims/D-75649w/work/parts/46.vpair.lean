set_option maxRecDepth 100000
/-! ===== both sides together ===== -/
section PA
variable {N : tP} {s s' : tM} {L : Nat → Nat} {M O : Nat → Prop} {m m' : mS}
/-- shapes and references stay, ints where the relation doesn't look -/
theorem RX.g (hX : RX N s L M O m) (h1 : s'.1 = s.1) (h2 : s'.2.2.2 = s.2.2.2) (hI : ∀ r j, shp r ≠ none → r ≠ 6 → tI s' (L r) j = tI s (L r) j) (hM : mFr M s s') : RX N s' L M O m := by
  obtain ⟨x1, x2, x3, x4, x5, ⟨x6, x7⟩, x8, x9⟩ := hX
  have R : ∀ a j, tR s' a j = tR s a j := fun a j => by
    show s'.2.2.2 a j = _
    rw [h2]
  have A : ∀ n t a, tA s t n a → tA s' t n a := fun n t a ha => ⟨by rw [h1]; exact ha.1, ha.2⟩
  refine ⟨x1.i h1 h2, ⟨by rw [h1]; exact x2.1, x2.2⟩, ?_, ?_, ?_, ⟨?_, ?_⟩, fun k hk => ?_, x9⟩
  · rw [R]
    exact isText_fr hM (fun _ z => z) x3
  · refine x4.f fun r j p hr => hI r j (loc_u hr) (fun z => ?_)
    rw [z] at hr
    cases hr
  · obtain ⟨n, n1, n2, n3⟩ := x5
    refine ⟨n, n1, n2, fun k hk => ?_⟩
    obtain ⟨k1, k2, k3, k4, k5⟩ := n3 k hk
    have hb := shp_bk (b := 100 + k) (Or.inr (Or.inr (Or.inr (Or.inr (Or.inl (by omega))))))
    have e3 : shp (300 + k) ≠ none := by
      have := hb.2.1
      rw [show 200 + (100 + k) = 300 + k by omega] at this
      rw [this]
      exact fun z => by cases z
    have e5 : shp (500 + k) ≠ none := by
      have := hb.2.2
      rw [show 400 + (100 + k) = 500 + k by omega] at this
      rw [this]
      exact fun z => by cases z
    have e1 : shp (100 + k) ≠ none := by
      rw [hb.1]
      exact fun z => by cases z
    refine ⟨fun j hj => ?_, ?_, k3, ?_, k5⟩
    · rw [hI _ _ e3 (by omega), hI _ _ e5 (by omega)]
      exact k1 j hj
    · rw [hI _ _ e1 (by omega)]
      exact k2
    · rw [hI _ _ e1 (by omega)]
      exact k4
  · rw [R]
    exact x6
  · exact lstR_fr hM (fun _ z => z) (fun j => hI 41 j (by decide) (by decide)) (R _ _) A (fun t => R _ _) x7
  · rw [R]
    exact (x8 k hk).imp id fun z => ⟨z.1, z.2.1, deskM_fr hM (fun _ z => z) A (fun t => R _ _) z.2.2.1, z.2.2.2⟩
theorem loc_2 {r j q i : Nat} (h : loc r j = some (q, i)) : (q = 60 ∨ q = 1 ∨ q = 11 ∨ q = 48 ∨ q = 2) ∧ (q = 2 → i < 45 ∧ i ≠ 43) := by
  unfold loc at h
  by_cases h1 : r = 444
  · rw [if_pos h1] at h
    split at h
    · cases h
      exact ⟨by omega, fun _ => ⟨by omega, by omega⟩⟩
    · cases h
  rw [if_neg h1] at h
  by_cases h2 : r = 244
  · rw [if_pos h2] at h
    split at h
    · cases h
      exact ⟨by omega, fun _ => ⟨by omega, by omega⟩⟩
    · cases h
  rw [if_neg h2] at h
  by_cases h3 : r = 44
  · rw [if_pos h3] at h
    split at h
    · cases h
      exact ⟨by omega, fun _ => ⟨by omega, by omega⟩⟩
    · cases h
  rw [if_neg h3] at h
  by_cases h4 : 50 ≤ r ∧ r < 56
  · rw [if_pos h4] at h
    split at h
    · cases h
      exact ⟨by omega, fun _ => ⟨by omega, by omega⟩⟩
    · cases h
  rw [if_neg h4] at h
  by_cases h5 : r = 42
  · rw [if_pos h5] at h
    split at h
    · cases h
      exact ⟨by omega, fun _ => ⟨by omega, by omega⟩⟩
    · cases h
  rw [if_neg h5] at h
  by_cases h6 : r = 40
  · rw [if_pos h6] at h
    split at h
    · cases h
      exact ⟨by omega, fun _ => ⟨by omega, by omega⟩⟩
    · skip
      split at h
      · cases h
        exact ⟨by omega, fun _ => ⟨by omega, by omega⟩⟩
      · skip
        split at h
        · cases h
          exact ⟨by omega, fun _ => ⟨by omega, by omega⟩⟩
        · cases h
  rw [if_neg h6] at h
  by_cases h7 : r = 9
  · rw [if_pos h7] at h
    split at h
    · cases h
      exact ⟨by omega, fun z => by omega⟩
    · cases h
  rw [if_neg h7] at h
  by_cases h8 : r = 0
  · rw [if_pos h8] at h
    split at h
    · cases h
      exact ⟨by omega, fun z => by omega⟩
    · skip
      split at h
      · cases h
        exact ⟨by omega, fun z => by omega⟩
      · skip
        split at h
        · cases h
          exact ⟨by omega, fun z => by omega⟩
        · skip
          split at h
          · cases h
            exact ⟨by omega, fun z => by omega⟩
          · skip
            split at h
            · cases h
              exact ⟨by omega, fun z => by omega⟩
            · skip
              split at h
              · cases h
                exact ⟨by omega, fun z => by omega⟩
              · cases h
  rw [if_neg h8] at h
  by_cases h9 : r = 14
  · rw [if_pos h9] at h
    split at h
    · cases h
      exact ⟨by omega, fun z => by omega⟩
    · cases h
  rw [if_neg h9] at h
  by_cases h10 : r = 226
  · rw [if_pos h10] at h
    split at h
    · cases h
      exact ⟨by omega, fun z => by omega⟩
    · cases h
  rw [if_neg h10] at h
  by_cases h11 : r = 426
  · rw [if_pos h11] at h
    split at h
    · cases h
      exact ⟨by omega, fun z => by omega⟩
    · cases h
  rw [if_neg h11] at h
  by_cases h12 : r = 2
  · rw [if_pos h12] at h
    split at h
    · cases h
      exact ⟨by omega, fun z => by omega⟩
    · cases h
  rw [if_neg h12] at h
  cases h
theorem loc_r {r j : Nat} {p : Nat × Nat} (h : loc r j = some p) : r = 444 ∨ r = 244 ∨ r = 44 ∨ (50 ≤ r ∧ r < 56) ∨ r = 42 ∨ r = 40 ∨ r = 9 ∨ r = 0 ∨ r = 14 ∨ r = 226 ∨ r = 426 ∨ r = 2 := by
  unfold loc at h
  by_cases h1 : r = 444
  · omega
  rw [if_neg h1] at h
  by_cases h2 : r = 244
  · omega
  rw [if_neg h2] at h
  by_cases h3 : r = 44
  · omega
  rw [if_neg h3] at h
  by_cases h4 : 50 ≤ r ∧ r < 56
  · omega
  rw [if_neg h4] at h
  by_cases h5 : r = 42
  · omega
  rw [if_neg h5] at h
  by_cases h6 : r = 40
  · omega
  rw [if_neg h6] at h
  by_cases h7 : r = 9
  · omega
  rw [if_neg h7] at h
  by_cases h8 : r = 0
  · omega
  rw [if_neg h8] at h
  by_cases h9 : r = 14
  · omega
  rw [if_neg h9] at h
  by_cases h10 : r = 226
  · omega
  rw [if_neg h10] at h
  by_cases h11 : r = 426
  · omega
  rw [if_neg h11] at h
  by_cases h12 : r = 2
  · omega
  rw [if_neg h12] at h
  cases h
theorem txOK_e {kp kp' : Nat → Int32} (h : ∀ i, 45 ≤ i → kp' i = kp i) {t : Nat} {cls : List cL} (hx : txOK kp t cls) : txOK kp' t cls := by
  have eT : txT kp' t = txT kp t := by
    unfold txT
    rw [h (45 + t) (by omega)]
  have eC : txC kp' t = txC kp t := by
    funext k
    unfold txC
    rw [eT, h (52 + 400 * t + k) (by omega)]
  have eV : txV kp' t = txV kp t := by
    funext k
    unfold txV
    rw [eT, h (2852 + 400 * t + k) (by omega)]
  unfold txOK
  rw [eT, eC, eV, h (45 + t) (by omega)]
  exact hx
/-- one kept place written on both sides -/
theorem RX.w (hX : RX N s L M O m) {r0 j0 q0 i0 : Nat} {v : Int32} (hl : loc r0 j0 = some (q0, i0)) (hm : ∀ q i, rd m' q i = if q = q0 ∧ i = i0 then v else rd m q i) (h33 : ¬ (q0 = 60 ∧ i0 = 33)) (hV : invM m') : RX N (tsI s (L r0) j0 v) L M O m' := by
  obtain ⟨x1, x2, x3, x4, x5, ⟨x6, x7⟩, x8, x9⟩ := hX
  have hl2 := loc_2 hl
  have hk : ∀ q i, q ≠ 60 → ¬ (q = q0 ∧ i = i0) → m'.2.1 q i = m.2.1 q i := fun q i hq hn => by
    have := hm q i
    unfold rd at this
    rw [if_neg hq, if_neg hn, if_neg hq] at this
    exact this
  have f33 : m'.1 33 = m.1 33 := by
    have := hm 60 33
    unfold rd at this
    rw [if_pos rfl, if_neg (fun z => h33 ⟨z.1.symm, z.2.symm⟩), if_pos rfl] at this
    exact this
  have n0 : ∀ q, q = 31 ∨ q = 3 ∨ q = 4 → ∀ i, m'.2.1 q i = m.2.1 q i := fun q hq i => hk q i (by omega) (fun z => by have := hl2.1; omega)
  have e45 : ∀ i, 45 ≤ i → m'.2.1 2 i = m.2.1 2 i := fun i hi => hk 2 i (by decide) (fun z => by have := hl2.2 z.1.symm; omega)
  have e43 : m'.2.1 2 43 = m.2.1 2 43 := hk 2 43 (by decide) (fun z => by have := hl2.2 z.1.symm; omega)
  have hu := loc_u hl
  have tIn : ∀ a j, a ≠ L r0 → tI (tsI s (L r0) j0 v) a j = tI s a j := fun a j hn => if_neg fun z => hn z.1
  have hMf : mFr M s (tsI s (L r0) j0 v) := fun a ha => ⟨rfl, funext fun j => tIn a j fun z => x1.n1 hu (z ▸ ha), rfl⟩
  refine ⟨x1.i rfl rfl, x2, isText_fr hMf (fun _ z => z) x3, x4.w x1 hl hm, ?_, ⟨x6, ?_⟩, fun k hk2 => ?_, hV⟩
  · obtain ⟨n, n1, n2, n3⟩ := x5
    refine ⟨n, n1, f33.trans n2, fun k hk => ?_⟩
    obtain ⟨k1, k2, k3, k4, k5⟩ := n3 k hk
    have hb := shp_bk (b := 100 + k) (Or.inr (Or.inr (Or.inr (Or.inr (Or.inl (by omega))))))
    have hr0 : r0 = 444 ∨ r0 = 244 ∨ r0 = 44 ∨ (50 ≤ r0 ∧ r0 < 56) ∨ r0 = 42 ∨ r0 = 40 ∨ r0 = 9 ∨ r0 = 0 ∨ r0 = 14 ∨ r0 = 226 ∨ r0 = 426 ∨ r0 = 2 := loc_r hl
    have e3 : L (300 + k) ≠ L r0 := x1.ne (by
      have := hb.2.1
      rw [show 200 + (100 + k) = 300 + k by omega] at this
      rw [this]
      exact fun z => by cases z) hu (by omega)
    have e5 : L (500 + k) ≠ L r0 := x1.ne (by
      have := hb.2.2
      rw [show 400 + (100 + k) = 500 + k by omega] at this
      rw [this]
      exact fun z => by cases z) hu (by omega)
    have e1 : L (100 + k) ≠ L r0 := x1.ne (by
      rw [hb.1]
      exact fun z => by cases z) hu (by omega)
    refine ⟨fun j hj => ?_, ?_, ?_, ?_, ?_⟩
    · rw [tIn _ _ e3, tIn _ _ e5, n0 31 (by decide), n0 31 (by decide)]
      exact k1 j hj
    · rw [tIn _ _ e1, n0 31 (by decide)]
      exact k2
    · rw [n0 31 (by decide)]
      exact k3
    · rw [tIn _ _ e1, n0 31 (by decide)]
      exact k4
    · rw [n0 31 (by decide)]
      exact k5
  · have h41 : L 41 ≠ L r0 := x1.ne (by decide) hu (fun z => by have := loc_r hl; omega)
    obtain ⟨told, t1, t2, t3, t4, t5⟩ := lstR_fr hMf (fun _ z => z) (fun j => tIn _ j h41) rfl (fun _ _ _ z => z) (fun _ => rfl) x7
    refine ⟨told, t1, e43.trans t2, t3, t4, fun t ht => ?_⟩
    obtain ⟨cls, c1, c2⟩ := t5 t ht
    exact ⟨cls, txOK_e e45 c1, c2⟩
  · have e3 : imK m' k = imK m k := funext fun i => n0 3 (by decide) _
    rw [n0 4 (by decide), e3]
    exact (x8 k hk2).imp id fun z => ⟨z.1, z.2.1, deskM_fr hMf (fun _ z => z) (fun _ _ _ z => z) (fun t => rfl) z.2.2.1, z.2.2.2⟩
/-- what can be undone is forgotten -/
theorem RX.u0 (hX : RX N s L M O m) : RX N (tsI s (L 2) 1 0) L M O (mF m 33 0) := by
  obtain ⟨x1, x2, x3, x4, x5, ⟨x6, x7⟩, x8, x9⟩ := hX
  have tIn : ∀ a j, a ≠ L 2 → tI (tsI s (L 2) 1 0) a j = tI s a j := fun a j hn => if_neg fun z => hn z.1
  have hMf : mFr M s (tsI s (L 2) 1 0) := fun a ha => ⟨rfl, funext fun j => tIn a j fun z => x1.n1 (r := 2) (by decide) (z ▸ ha), rfl⟩
  refine ⟨x1.i rfl rfl, x2, isText_fr hMf (fun _ z => z) x3, x4.w x1 (q0 := 60) (i0 := 33) rfl (rd_F m 33 0), ⟨0, by omega, rfl, fun k hk => by omega⟩, ⟨x6, ?_⟩, fun k hk2 => ?_, x9⟩
  · have h41 : L 41 ≠ L 2 := x1.ne (by decide) (by decide) (by decide)
    exact lstR_fr hMf (fun _ z => z) (fun j => tIn _ j h41) rfl (fun _ _ _ z => z) (fun _ => rfl) x7
  · exact (x8 k hk2).imp id fun z => ⟨z.1, z.2.1, deskM_fr hMf (fun _ z => z) (fun _ _ _ z => z) (fun t => rfl) z.2.2.1, z.2.2.2⟩
/-- a role's int written: the others' cells stay -/
theorem frM_I (hX : RX N s L M O m) {r j : Nat} {v : Int32} (hr : shp r ≠ none) : frM O s (tsI s (L r) j v) := ⟨fun a ha => ⟨rfl, funext fun i => if_neg fun (z : a = L r ∧ i = j) => hX.1.n2 hr (z.1 ▸ ha), rfl⟩, fun _ _ _ => rfl⟩
end PA
