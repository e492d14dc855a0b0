set_option maxRecDepth 100000
/-! ===== the reference: a law laid, its row named ===== -/
def layK (kp : Nat → Int32) (t T : Nat) (cd vl : Nat → Int32) : Nat → Int32 := fun q => if 52 + 400 * t ≤ q ∧ q < 52 + 400 * t + T then cd (q - (52 + 400 * t)) else if 2852 + 400 * t ≤ q ∧ q < 2852 + 400 * t + T then vl (q - (2852 + 400 * t)) else if q = 45 + t then nI T else kp q
/-- the row with one law more -/
def lawK (kp : Nat → Int32) (t T : Nat) (cd vl : Nat → Int32) : Nat → Int32 := fun q => if q = 43 then nI (t + 1) else layK kp t T cd vl q
section LK
variable {kp cd vl tp : Nat → Int32} {t T n : Nat}
theorem w_laysX {N : Nat × Nat} (hN : 402 ≤ N.1) (ht : t ≤ 6) (hT : T ≤ 400) {s0 : mS} (h18 : mFd s0 18 = nI T) (hc : ∀ k, k ≤ T → s0.2.1 15 k = cd k ∧ s0.2.1 16 k = vl k) {K : mS → Prop} (hK : ∀ s', mD [] [2] [] s0 s' → s'.2.1 2 = layK (s0.2.1 2) t T cd vl → K s') : w_lays N (nI t) s0 K := by
  unfold w_lays
  have e45 : (45 : Int32) + nI t = nI (45 + t) := nI_add 45 t
  rw [e45]
  refine ⟨vp_in_nI (by omega) (by decide), fun s1 e1 => ?_⟩
  rw [h18] at e1
  have a2 : ∀ q, s1.2.1 2 q = if q = 45 + t then nI T else s0.2.1 2 q := fun q => by
    rw [e1, mI_at _ _ _ (by omega)]
  have ao : ∀ q, q ≠ 2 → s1.2.1 q = s0.2.1 q := fun q hq => by
    rw [e1, mI_o _ _ _ hq]
  refine w_lays15 ht hT (s0 := s1) (cd := cd) (vl := vl) (fun k hk => by rw [ao 15 (by decide), ao 16 (by decide)]; exact hc k (by omega)) (fun s' g18 gF gA gL g2 => ?_) T N.1 0 s1 (by omega) (by omega) (by rw [e1]; exact h18) (fun _ => rfl) (fun _ _ => rfl) rfl (fun q => by rw [if_neg (by omega), if_neg (by omega)])
  refine hK s' ⟨fun j _ => (gF j).trans (by rw [e1]; rfl), fun q hq => (gA q (fun z => hq (by rw [z]; decide))).trans (ao q (fun z => hq (by rw [z]; decide))), fun q _ => by rw [gL, e1]; rfl⟩ (funext fun q => ?_)
  rw [g2, a2]
  rfl
theorem lawK_lo {q : Nat} (h : q < 45) (h43 : q ≠ 43) : lawK kp t T cd vl q = kp q := by
  unfold lawK layK
  rw [if_neg h43, if_neg (by omega), if_neg (by omega), if_neg (by omega)]
theorem lawK_43 : lawK kp t T cd vl 43 = nI (t + 1) := if_pos rfl
theorem lawK_T {u : Nat} (hu : u ≤ 6) : lawK kp t T cd vl (45 + u) = if u = t then nI T else kp (45 + u) := by
  unfold lawK layK
  rw [if_neg (by omega), if_neg (by omega), if_neg (by omega)]
  by_cases e : u = t
  · rw [if_pos (by omega), if_pos e]
  · rw [if_neg (by omega), if_neg e]
theorem lawK_o (hT : T ≤ 400) (ht : t ≤ 6) {u : Nat} (hu : u ≤ 6) (hut : u ≠ t) {cls : List cL} (h : txOK kp u cls) : txOK (lawK kp t T cd vl) u cls := by
  obtain ⟨h1, h2, h3, h4⟩ := h
  have e1 : txT (lawK kp t T cd vl) u = txT kp u := by
    unfold txT
    rw [lawK_T hu, if_neg hut]
  have eC : txC (lawK kp t T cd vl) u = txC kp u := funext fun k => by
    unfold txC
    rw [e1]
    by_cases hk : k < txT kp u
    · rw [if_pos hk, if_pos hk]
      unfold lawK layK
      rw [if_neg (by omega), if_neg (by omega), if_neg (by omega), if_neg (by omega)]
    · rw [if_neg hk, if_neg hk]
  have eV : txV (lawK kp t T cd vl) u = txV kp u := funext fun k => by
    unfold txV
    rw [e1]
    by_cases hk : k < txT kp u
    · rw [if_pos hk, if_pos hk]
      unfold lawK layK
      rw [if_neg (by omega), if_neg (by omega), if_neg (by omega), if_neg (by omega)]
    · rw [if_neg hk, if_neg hk]
  unfold txOK
  rw [e1, eC, eV, lawK_T hu, if_neg hut]
  exact ⟨h1, h2, h3, h4⟩
theorem lawK_n (hT : T ≤ 400) (ht : t ≤ 6) (hz : ∀ k, T ≤ k → cd k = 0 ∧ vl k = 0) (hv : ∀ k, 0 ≤ vl k) {cls : List cL} (h : pLaw cd vl T = .inr cls) : txOK (lawK kp t T cd vl) t cls := by
  have e1 : txT (lawK kp t T cd vl) t = T := by
    unfold txT
    rw [lawK_T ht, if_pos rfl, nI_clamp (by omega)]
  have eC : txC (lawK kp t T cd vl) t = cd := funext fun k => by
    unfold txC
    rw [e1]
    by_cases hk : k < T
    · rw [if_pos hk]
      unfold lawK layK
      rw [if_neg (by omega), if_pos (by omega)]
      congr 1
      omega
    · rw [if_neg hk, (hz k (by omega)).1]
  have eV : txV (lawK kp t T cd vl) t = vl := funext fun k => by
    unfold txV
    rw [e1]
    by_cases hk : k < T
    · rw [if_pos hk]
      unfold lawK layK
      rw [if_neg (by omega), if_neg (by omega), if_pos (by omega)]
      congr 1
      omega
    · rw [if_neg hk, (hz k (by omega)).2]
  unfold txOK
  rw [e1, eC, eV, lawK_T ht, if_pos rfl]
  exact ⟨rfl, hT, hv, h⟩
theorem lawK_I (hk : kpI kp) (ht : t < 6) (h43 : kp 43 = nI t) : kpI (lawK kp t T cd vl) := by
  obtain ⟨⟨a1, a2, a3, a4⟩, b1, b2, b3, b4, b5, b6, told, c1, c2, c3⟩ := hk
  have e : ∀ {q : Nat}, q < 45 → q ≠ 43 → lawK kp t T cd vl q = kp q := fun h1 h2 => lawK_lo h1 h2
  unfold kpI kpN
  rw [e (q := 38) (by decide) (by decide), e (q := 24) (by decide) (by decide), e (q := 37) (by decide) (by decide), e (q := 39) (by decide) (by decide), e (q := 40) (by decide) (by decide), e (q := 41) (by decide) (by decide), e (q := 42) (by decide) (by decide), e (q := 44) (by decide) (by decide), lawK_43]
  have et : told = t := by
    rw [c2] at h43
    exact (nI_eq (by omega) (by omega)).mp h43
  subst et
  refine ⟨⟨fun k hk => by rw [e (by omega) (by omega)]; exact a1 k hk, a2, a3, a4⟩, b1, b2, b3, b4, b5, fun i hi => ?_, told + 1, by omega, rfl, ?_⟩
  · rw [e (by omega) (by omega)]
    exact b6 i hi
  · exact c3.imp id fun ⟨u, u1, u2⟩ => ⟨u, by omega, u2⟩
theorem vlT_g (hb : ∀ k, k < 400 → byT (tp k)) (hn : n ≤ 400) (k : Nat) : 0 ≤ vlT tp n k := by
  unfold vlT
  by_cases c : tokP tp n k < n ∧ isDg (tp (tokP tp n k)) = true
  · rw [if_pos c, i32_le]
    have e : en tp n (tokP tp n k) = toP tp n k := by
      unfold toP
      rw [if_pos c.1]
    rw [e]
    exact valW_g 401 _ 0 (dg_to c.1 c.2) (by decide)
  · rw [if_neg c]
    decide
theorem vlT_e (hn : n ≤ 400) (k : Nat) (h : tokT tp n ≤ k) : vlT tp n k = 0 := by
  unfold vlT
  rw [if_neg fun c => by have := (tokT_iff hn k).mpr c.1; omega]
end LK
