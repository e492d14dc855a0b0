set_option maxRecDepth 100000
/-! ===== asking and the tables: what changes beside the relation ===== -/
def fre (r : Nat) : Prop := shp r ≠ none ∧ (r = 6 ∨ r = 23 ∨ r = 33 ∨ 600 ≤ r)
def aT (L : Nat → Nat) (s s' : tM) : Prop := s'.1 = s.1 ∧ s'.2.2.2 = s.2.2.2 ∧ (∀ a, (∀ r, fre r → a ≠ L r) → s'.2.1 a = s.2.1 a) ∧ ∀ a, s.1 a ≠ some (.inl 13) → (∀ r, fre r → a ≠ L r) → s'.2.2.1 a = s.2.2.1 a
theorem aT_r (L : Nat → Nat) (s : tM) : aT L s s := ⟨rfl, rfl, fun _ _ => rfl, fun _ _ _ => rfl⟩
theorem aT_t {L : Nat → Nat} {s s' s2 : tM} (h : aT L s s') (h2 : aT L s' s2) : aT L s s2 := ⟨h2.1.trans h.1, h2.2.1.trans h.2.1, fun a hn => (h2.2.2.1 a hn).trans (h.2.2.1 a hn), fun a ha hb => (h2.2.2.2 a (by rw [h.1]; exact ha) hb).trans (h.2.2.2 a ha hb)⟩
theorem aT_a {L : Nat → Nat} {s s' : tM} (h : aS L s s') : aT L s s' := ⟨h.1, h.2.1, fun a hn => funext fun j => h.2.2.1 a j fun z => hn 6 ⟨by decide, Or.inl rfl⟩ z.1, fun a ha hb => h.2.2.2 a ha (hb 33 ⟨by decide, Or.inr (Or.inr (Or.inl rfl))⟩)⟩
theorem aT_I {L : Nat → Nat} {s : tM} {r j : Nat} {v : Int32} (hr : fre r) : aT L s (tsI s (L r) j v) := ⟨rfl, rfl, fun a hn => funext fun i => if_neg fun z => hn r hr z.1, fun _ _ _ => rfl⟩
theorem aT_J {L : Nat → Nat} {s : tM} {r j : Nat} {v : Int64} (hr : fre r) : aT L s (tsJ s (L r) j v) := ⟨rfl, rfl, fun _ _ => rfl, fun a _ hn => funext fun i => if_neg fun z => hn r hr z.1⟩
section AT
variable {N : tP} {s s' : tM} {L : Nat → Nat} {M O : Nat → Prop} {m : mS}
theorem aT_in (h : aT L s s') (hR : RS s L M) {r : Nat} (h1 : shp r ≠ none) (h2 : ¬ fre r) : s'.2.1 (L r) = s.2.1 (L r) := h.2.2.1 _ fun q hq z => by
  have := hR.2.1 r q h1 hq.1 z
  rw [this] at h2
  exact h2 hq
theorem aT_M (h : aT L s s') (hR : RS s L M) : frM M s s' := ⟨fun a ha => ⟨by rw [h.1], h.2.2.1 a fun r hr z => hR.nM hr.1 (z ▸ ha), by rw [h.2.1]⟩, fun a ha hb => h.2.2.2 a hb fun r hr z => hR.nM hr.1 (z ▸ ha)⟩
theorem RX.t (hX : RX N s L M O m) (h : aT L s s') : RX N s' L M O m := by
  have I : ∀ r j, shp r ≠ none → ¬ fre r → tI s' (L r) j = tI s (L r) j := fun r j h1 h2 => congrFun (aT_in h hX.1 h1 h2) j
  have hMf : mFr M s s' := (frM_s (aT_M h hX.1) (M' := M) (fun a ha => Or.inl ha)).1
  refine hX.mk h.1 h.2.1 hMf (fun j => I 41 j (by decide) (fun z => by have := z.2; omega)) ?_ ?_ (fun _ _ => rfl) rfl rfl rfl hX.I
  · refine hX.R.f fun r j p hr => I r j (loc_u hr) fun z => ?_
    have := loc_r hr
    have := z.2
    omega
  · obtain ⟨n, n1, n2, n3⟩ := hX.2.2.2.2.1
    refine ⟨n, n1, n2, fun k hk => ?_⟩
    obtain ⟨k1, k2, k3, k4, k5⟩ := n3 k hk
    obtain ⟨u1, u3, u5⟩ := shp100 (k := k) (by omega)
    rw [I _ _ u1 (fun z => by have := z.2; omega), I _ _ u1 (fun z => by have := z.2; omega)]
    refine ⟨fun j hj => ?_, k2, k3, k4, k5⟩
    rw [I _ _ u3 (fun z => by have := z.2; omega), I _ _ u5 (fun z => by have := z.2; omega)]
    exact k1 j hj
end AT
