set_option maxRecDepth 100000
/-! ===== the system's reader of orders: an act, whichever ===== -/
/-- an act, but for how often and when, by its head -/
def ACh (x : Nat) (s : tM) (M : Nat → Prop) (a : Nat) (h : Int32) (o : Option (dS × dS)) : Prop := M a ∧ tO s 17 a ∧ tR s a 6 = x ∧ tI s a 0 = h - 22 ∧ tI s a 4 = 1 ∧ (∀ D, o = some D → isSum s M true x 60 (tR s a 1) D.1 ∧ isSum s M true x 60 (tR s a 2) D.2) ∧ (tR s a 3 = 0 ∧ (o = none → tR s a 1 = 0 ∧ tR s a 2 = 0))
/-- what stands ahead of how often -/
def pAct (cd vl : Nat → Int32) (i l : Nat) : pR (Nat × Nat × Option (dS × dS)) := if cd i = 22 ∨ cd i = 23 then pb (pSum cd vl true 8 (i + 1) l) (fun z => pb (if cd z.1 = 26 then pSum cd vl true 8 (z.1 + 1) z.2.1 else .inl z.1) fun w => .inr (w.1, w.2.1, some (z.2.2, w.2.2))) else if cd i = 24 ∨ cd i = 25 then .inr (i + 1, l, none) else .inl i
section AA
variable {N : tP} {rd x ta pl wd p : Nat} {tp : Nat → Int32} {n : Nat} {s : tM} {i l : Nat}
theorem pOrder_a {cd vl : Nat → Int32} : pOrder cd vl true i l = pb (pAct cd vl i l) fun w => pTail cd vl true w.1 w.2.1 (cd i) w.2.2 := by
  unfold pOrder pAct
  by_cases c : cd i = 22 ∨ cd i = 23
  · rw [if_pos c, if_pos c]
    cases pSum cd vl true 8 (i + 1) l with
    | inl e => rfl
    | inr z =>
      show (if cd z.1 = 26 then _ else _) = pb (pb (if cd z.1 = 26 then _ else _) _) _
      by_cases c2 : cd z.1 = 26
      · rw [if_pos c2, if_pos c2]
        cases pSum cd vl true 8 (z.1 + 1) z.2.1 with
        | inl e => rfl
        | inr w => rfl
      · rw [if_neg c2, if_neg c2]
        rfl
  · rw [if_neg c, if_neg c]
    by_cases c2 : cd i = 24 ∨ cd i = 25
    · rw [if_pos c2, if_pos c2]
      rfl
    · rw [if_neg c2, if_neg c2]
      rfl
/-- an act alone -/
theorem v_actO (h0 : PS0 N true rd x ta pl wd tp n s) (hd : PSd rd tp n s i l 0 p) {kind : Int32} {Kr : Nat → tM → Prop} {q : Nat} (hq : s.1 q = none) (hq0 : ¬ q = 0) (hq2 : ¬ q = N.2.2 200) {s3 : tM} (e3 : s3 = tNew s q (.inl 17)) (hK : ∀ s', FRp N rd pl p s s' → PSd rd tp n s' i l 0 p → NW N s s' q → tO s' 17 q → tR s' q 6 = x → tI s' q 0 = kind → tI s' q 4 = 1 → tR s' q 3 = 0 → (tR s' q 1 = 0 ∧ tR s' q 2 = 0) → Kr q s') : tO s3 18 rd ∧ v_X20_init q (tR s3 rd 9) kind 0 0 s3 (fun s130 => Kr q s130) := by
  obtain ⟨u1, u2, u3⟩ := nw_c (p := p) h0 FR_r hq
  have F3 : FRp N rd pl p s s3 := e3 ▸ FR_n FR_r hq hq2 u3
  have H3 := PS0_f h0 F3
  have o3 : tO s3 17 q := by
    rw [e3]
    exact ⟨if_pos rfl, hq0⟩
  have z3 : tR s3 q 3 = 0 := by
    rw [e3]
    exact if_pos rfl
  have D3 : PSd rd tp n s3 i l 0 p := e3 ▸ PSd_n hd u2
  refine ⟨H3.1, ?_⟩
  rw [H3.2.2.2.2.1 rfl]
  unfold v_X20_init
  refine ⟨o3, fun s5 e5 s6 e6 s7 e7 s8 e8 s9 e9 => ?_⟩
  rw [e8, e7, e6, e5] at e9
  have o9 : tO s9 17 q := by
    rw [e9]
    exact o3
  have F9 : FRp N rd pl p s s9 := e9 ▸ FR_R (FR_R (FR_I (FR_I (FR_R F3 hq hq2 u3) (Or.inl ⟨hq, hq2⟩)) (Or.inl ⟨hq, hq2⟩)) hq hq2 u3) hq hq2 u3
  have D9 : PSd rd tp n s9 i l 0 p := PSd_q D3 (by rw [e9]; exact funext fun j => (if_neg fun z => u2 z.1).trans (if_neg fun z => u2 z.1))
  refine hK s9 F9 D9 ⟨hq, hq2, by rw [o9.1]; intro z; cases z⟩ o9 ?_ ?_ ?_ ?_ ⟨?_, ?_⟩
  · rw [e9]
    exact (if_neg fun z => absurd z.2 (by decide)).trans ((if_neg fun z => absurd z.2 (by decide)).trans (if_pos ⟨rfl, rfl⟩))
  · rw [e9]
    exact if_pos ⟨rfl, rfl⟩
  · rw [e9]
    exact (if_neg fun z => absurd z.2 (by decide)).trans (if_pos ⟨rfl, rfl⟩)
  · rw [e9]
    exact (if_neg fun z => absurd z.2 (by decide)).trans ((if_neg fun z => absurd z.2 (by decide)).trans ((if_neg fun z => absurd z.2 (by decide)).trans z3))
  · rw [e9]
    exact (if_neg fun z => absurd z.2 (by decide)).trans (if_pos ⟨rfl, rfl⟩)
  · rw [e9]
    exact if_pos ⟨rfl, rfl⟩
end AA
