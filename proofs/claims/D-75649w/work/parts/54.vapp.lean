set_option maxRecDepth 100000
/-! ===== a step is kept ===== -/
section AP
variable {N : tP} {s : tM} {L : Nat → Nat} {M O : Nat → Prop} {m : mS}
theorem v_appS (hX : RX N s L M O m) {n : Nat} (hn : n ≤ 16) (hc : m.1 33 = nI n) {w : Int32} (hw : ∃ v, v < 4 ∧ w = nI v) {K : tM → Prop} (hK : ∀ s' L', (∀ r, r < 100 → L' r = L r) → (∀ b, 216 ≤ b → b < 300 → L' b = L b) → RX N s' L' M O (if n = 16 then kAt (kRot m) 15 w else kAt m n w) → frM O s s' → K s') : v_X3_append (L 2) (L 44) w s K := by
  have hS := hX.S
  have e1 : tI s (L 2) 1 = nI n := (hX.R 2 1 60 33 rfl).trans hc
  have t31 := hS.t (r := 2) (j := 0) (q := 31) (by decide)
  have h16 : nI n = 16 ↔ n = 16 := by
    rw [show (16 : Int32) = nI 16 from rfl, nI_eq (by omega) (by omega)]
  unfold v_X3_append
  rw [e1, h16, t31]
  refine ⟨hS.o (r := 2) rfl, fun nn => ?_, fun yn => ⟨⟨16, hS.a (r := 31) rfl, vpk (k := 0) (by decide) (by decide)⟩, fun x104 h104 => ⟨⟨16, 16, hS.a (r := 31) rfl, hS.a (r := 31) rfl, by decide, by decide, by decide, by decide, by decide⟩, fun i hi => Or.inr ⟨2, st_5_2, ?_⟩, fun s107 e107 => ?_⟩⟩⟩
  · refine v_app49S hX (by omega) hc hw (fun s' X' f' => hK s' L (fun _ _ => rfl) (fun _ _ _ => rfl) ?_ f')
    rw [if_neg nn]
    exact X'
  · have r31 := (hS.2.2.1.2.2.1 (1 + i) (by omega)).1
    rw [r31]
    exact hS.o (shp_bk (bk100 (by omega))).1
  · have r0 := (hS.2.2.1.2.2.1 0 (by omega)).1
    have c107 : s107.1 = s.1 ∧ s107.2.1 = s.2.1 ∧ s107.2.2.1 = s.2.2.1 := by
      rw [e107]
      exact ⟨rfl, rfl, rfl⟩
    have R107 : ∀ a j, a ≠ L 31 → tR s107 a j = tR s a j := fun a j ha => by
      rw [e107]
      exact if_neg ha
    have R31 : ∀ j, j < 15 → tR s107 (L 31) j = L (100 + (j + 1)) := fun j hj => by
      rw [e107]
      refine (if_pos rfl : (if L 31 = L 31 then va_cpy (s.2.2.2 (L 31)) (s.2.2.2 (L 31)) 1 0 15 j else s.2.2.2 (L 31) j) = va_cpy (s.2.2.2 (L 31)) (s.2.2.2 (L 31)) 1 0 15 j).trans ?_
      unfold va_cpy
      rw [if_pos (by omega)]
      have := (hS.2.2.1.2.2.1 (j + 1) (by omega)).1
      rw [show 1 + (j - 0) = j + 1 by omega]
      exact this
    have t31' : tR s107 (L 2) 0 = L 31 := (R107 _ _ (hS.ne (by decide) (by decide) (by decide))).trans t31
    have ea : ∀ t n a, tA s t n a → tA s107 t n a := fun t n a ha => ⟨by rw [c107.1]; exact ha.1, ha.2⟩
    rw [t31']
    have hx : x104 = L 100 := h104.trans r0
    refine ⟨⟨16, ea _ _ _ (hS.a (r := 31) rfl), vpk (k := 15) (by decide) (by decide)⟩, ?_, fun s111 e111 s113 e113 => ?_⟩
    · rw [hx]
      have := hS.o (shp_bk (bk100 (k := 0) (by omega))).1
      exact ⟨by rw [c107.1]; exact this.1, this.2⟩
    · have R111 : ∀ a j, a ≠ L 31 → tR s111 a j = tR s a j := fun a j ha => by
        rw [e111]
        exact (if_neg (fun z => ha z.1)).trans (R107 a j ha)
      have hs : s113.1 = s.1 := by
        rw [e113, e111]
        exact c107.1
      have hj : s113.2.2.1 = s.2.2.1 := by
        rw [e113, e111]
        exact c107.2.2
      have i111 : ∀ a j, tI s111 a j = tI s a j := fun a j => by
        rw [e111]
        show s107.2.1 a j = _
        rw [c107.2.1]
      have I113 : ∀ a j, ¬ (a = L 2 ∧ j = 1) → tI s113 a j = tI s a j := fun a j h => by
        rw [e113]
        exact (if_neg h).trans (i111 a j)
      have I2 : tI s113 (L 2) 1 = nI 15 := by
        rw [e113, i111, e1, yn]
        exact (if_pos ⟨rfl, rfl⟩ : tI (tsI s111 (L 2) 1 (nI 16 - 1)) (L 2) 1 = nI 16 - 1)
      have R113 : ∀ a j, a ≠ L 31 → tR s113 a j = tR s a j := fun a j ha => by
        rw [e113]
        exact R111 a j ha
      have R113b : ∀ k, k < 16 → tR s113 (L 31) k = L (ro (100 + k)) := fun k hk => by
        rw [e113]
        show tR s111 (L 31) k = _
        rw [e111]
        by_cases c : k = 15
        · subst c
          exact (if_pos ⟨rfl, rfl⟩ : tR (tsR s107 (L 31) 15 x104) (L 31) 15 = x104).trans hx
        · rw [(ro_1 (k := k) (by omega)).1]
          exact (if_neg (fun z => c z.2)).trans (R31 k (by omega))
      obtain ⟨XR, fR⟩ := hX.rot (hc.trans (by rw [yn])) hs hj I113 I2 R113 R113b
      have := v_app49S XR (n := 15) (by omega) rfl hw (K := K) (fun s' X' f' => hK s' (fun r => L (ro r)) (fun r hr => congrArg L (ro_id ⟨by omega, by omega, by omega⟩)) (fun r h1 h2 => congrArg L (ro_id ⟨by omega, by omega, by omega⟩)) (by rw [if_pos yn]; exact X') (frM_t fR f'))
      exact this
end AP
