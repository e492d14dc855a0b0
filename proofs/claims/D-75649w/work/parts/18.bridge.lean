set_option maxRecDepth 100000
/-! ===== the reference's object in typed memory ===== -/
/-- its cells' encoded addresses by field number; 51 is the object -/
def mA (s : tM) (o : Nat) (j : Nat) : Nat := if j = 51 then o else tR s o j
def sM (s : tM) (o : Nat) : mS := ((fun j => tI s o j), (fun j i => tI s (mA s o j) i), fun j i => tJ s (mA s o j) i)
def tMod (s : tM) (o : Nat) : Prop := tO s 6 o ∧ (∀ j ∈ mJ, j ≠ 51 → tA s (mkd j) (mlen j) (mA s o j)) ∧ ∀ i ∈ mJ, ∀ j ∈ mJ, mA s o i = mA s o j → i = j
def mFi (s : tM) (o q : Nat) : Option Nat := mJ.find? (fun j => mA s o j == q)
def sP (s : tM) (o : Nat) (σ : mS) : tM := (s.1, (fun q i => match mFi s o q with
  | some j => if j = 51 then σ.1 i else σ.2.1 j i
  | none => s.2.1 q i), (fun q i => match mFi s o q with
  | some j => σ.2.2 j i
  | none => s.2.2.1 q i), s.2.2.2)
theorem tMod_ne {s : tM} {o j : Nat} (h : tMod s o) (hj : j ∈ mJ) : mA s o j ≠ 0 := by
  by_cases e : j = 51
  · subst e
    exact h.1.2
  · exact (h.2.1 j hj e).2
theorem mFi_at {s : tM} {o j : Nat} (h : tMod s o) (hj : j ∈ mJ) : mFi s o (mA s o j) = some j := by
  unfold mFi
  cases hf : mJ.find? (fun i => mA s o i == mA s o j) with
  | none => exact absurd (List.find?_eq_none.mp hf j hj) (by simp)
  | some i =>
    have h1 := List.mem_of_find?_eq_some hf
    have h2 := List.find?_some hf
    rw [h.2.2 i h1 j hj (by simpa using h2)]
theorem mFi_some {s : tM} {o q j : Nat} (h : mFi s o q = some j) : j ∈ mJ ∧ mA s o j = q := ⟨List.mem_of_find?_eq_some h, by have := List.find?_some h; simpa using this⟩
theorem mkd_lt : ∀ j ∈ mJ, j ≠ 51 → mkd j = 1 ∨ (mkd j = 0 ∨ mkd j = 2 ∨ mkd j = 3) ∧ mkd j ≠ 1 := by decide
theorem cell_at {s : tM} {o : Nat} {σ : mS} : ∀ i, i < 51 → (∀ i, tI (sP s o σ) o i = σ.1 i) → (∀ i, i ∈ mJ → i ≠ 51 → rfv (tR (sP s o σ) o i) = .ref (mA s o i - 1)) → (tfs (sP s o σ) 6 o)[i]? = (mfs (fun j => mA s o j - 1) σ.1)[i]? := by
  intro i hi hI hR
  match i, hi with
  | 0, _ => exact (tfs_at (by decide)).trans (congrArg (fun z => some (Value.int z)) (hI 0))
  | 1, _ => exact (tfs_at (by decide)).trans (congrArg some (hR 1 (by decide) (by decide)))
  | 2, _ => exact (tfs_at (by decide)).trans (congrArg some (hR 2 (by decide) (by decide)))
  | 3, _ => exact (tfs_at (by decide)).trans (congrArg some (hR 3 (by decide) (by decide)))
  | 4, _ => exact (tfs_at (by decide)).trans (congrArg some (hR 4 (by decide) (by decide)))
  | 5, _ => exact (tfs_at (by decide)).trans (congrArg some (hR 5 (by decide) (by decide)))
  | 6, _ => exact (tfs_at (by decide)).trans (congrArg (fun z => some (Value.int z)) (hI 6))
  | 7, _ => exact (tfs_at (by decide)).trans (congrArg some (hR 7 (by decide) (by decide)))
  | 8, _ => exact (tfs_at (by decide)).trans (congrArg (fun z => some (Value.int z)) (hI 8))
  | 9, _ => exact (tfs_at (by decide)).trans (congrArg (fun z => some (Value.int z)) (hI 9))
  | 10, _ => exact (tfs_at (by decide)).trans (congrArg (fun z => some (Value.int z)) (hI 10))
  | 11, _ => exact (tfs_at (by decide)).trans (congrArg some (hR 11 (by decide) (by decide)))
  | 12, _ => exact (tfs_at (by decide)).trans (congrArg some (hR 12 (by decide) (by decide)))
  | 13, _ => exact (tfs_at (by decide)).trans (congrArg (fun z => some (Value.int z)) (hI 13))
  | 14, _ => exact (tfs_at (by decide)).trans (congrArg (fun z => some (Value.int z)) (hI 14))
  | 15, _ => exact (tfs_at (by decide)).trans (congrArg some (hR 15 (by decide) (by decide)))
  | 16, _ => exact (tfs_at (by decide)).trans (congrArg some (hR 16 (by decide) (by decide)))
  | 17, _ => exact (tfs_at (by decide)).trans (congrArg some (hR 17 (by decide) (by decide)))
  | 18, _ => exact (tfs_at (by decide)).trans (congrArg (fun z => some (Value.int z)) (hI 18))
  | 19, _ => exact (tfs_at (by decide)).trans (congrArg (fun z => some (Value.int z)) (hI 19))
  | 20, _ => exact (tfs_at (by decide)).trans (congrArg (fun z => some (Value.int z)) (hI 20))
  | 21, _ => exact (tfs_at (by decide)).trans (congrArg (fun z => some (Value.int z)) (hI 21))
  | 22, _ => exact (tfs_at (by decide)).trans (congrArg (fun z => some (Value.int z)) (hI 22))
  | 23, _ => exact (tfs_at (by decide)).trans (congrArg (fun z => some (Value.int z)) (hI 23))
  | 24, _ => exact (tfs_at (by decide)).trans (congrArg (fun z => some (Value.int z)) (hI 24))
  | 25, _ => exact (tfs_at (by decide)).trans (congrArg (fun z => some (Value.int z)) (hI 25))
  | 26, _ => exact (tfs_at (by decide)).trans (congrArg some (hR 26 (by decide) (by decide)))
  | 27, _ => exact (tfs_at (by decide)).trans (congrArg (fun z => some (Value.int z)) (hI 27))
  | 28, _ => exact (tfs_at (by decide)).trans (congrArg (fun z => some (Value.int z)) (hI 28))
  | 29, _ => exact (tfs_at (by decide)).trans (congrArg (fun z => some (Value.int z)) (hI 29))
  | 30, _ => exact (tfs_at (by decide)).trans (congrArg (fun z => some (Value.int z)) (hI 30))
  | 31, _ => exact (tfs_at (by decide)).trans (congrArg some (hR 31 (by decide) (by decide)))
  | 32, _ => exact (tfs_at (by decide)).trans (congrArg some (hR 32 (by decide) (by decide)))
  | 33, _ => exact (tfs_at (by decide)).trans (congrArg (fun z => some (Value.int z)) (hI 33))
  | 34, _ => exact (tfs_at (by decide)).trans (congrArg some (hR 34 (by decide) (by decide)))
  | 35, _ => exact (tfs_at (by decide)).trans (congrArg some (hR 35 (by decide) (by decide)))
  | 36, _ => exact (tfs_at (by decide)).trans (congrArg some (hR 36 (by decide) (by decide)))
  | 37, _ => exact (tfs_at (by decide)).trans (congrArg some (hR 37 (by decide) (by decide)))
  | 38, _ => exact (tfs_at (by decide)).trans (congrArg some (hR 38 (by decide) (by decide)))
  | 39, _ => exact (tfs_at (by decide)).trans (congrArg some (hR 39 (by decide) (by decide)))
  | 40, _ => exact (tfs_at (by decide)).trans (congrArg some (hR 40 (by decide) (by decide)))
  | 41, _ => exact (tfs_at (by decide)).trans (congrArg (fun z => some (Value.int z)) (hI 41))
  | 42, _ => exact (tfs_at (by decide)).trans (congrArg (fun z => some (Value.int z)) (hI 42))
  | 43, _ => exact (tfs_at (by decide)).trans (congrArg (fun z => some (Value.int z)) (hI 43))
  | 44, _ => exact (tfs_at (by decide)).trans (congrArg (fun z => some (Value.int z)) (hI 44))
  | 45, _ => exact (tfs_at (by decide)).trans (congrArg (fun z => some (Value.int z)) (hI 45))
  | 46, _ => exact (tfs_at (by decide)).trans (congrArg (fun z => some (Value.int z)) (hI 46))
  | 47, _ => exact (tfs_at (by decide)).trans (congrArg some (hR 47 (by decide) (by decide)))
  | 48, _ => exact (tfs_at (by decide)).trans (congrArg some (hR 48 (by decide) (by decide)))
  | 49, _ => exact (tfs_at (by decide)).trans (congrArg (fun z => some (Value.int z)) (hI 49))
  | 50, _ => exact (tfs_at (by decide)).trans (congrArg (fun z => some (Value.int z)) (hI 50))
  | i + 51, h => omega
theorem mcell_br {G : xG} {s : tM} {o : Nat} {σ : mS} (h : tMod s o) {j : Nat} (hj : j ∈ mJ) : (∃ sh, s.1 (mA s o j) = some sh ∧ sh ≠ tFo ∧ tcell G (sP s o σ) (mA s o j) sh = mcell G (fun j => mA s o j - 1) σ j) := by
  by_cases e : j = 51
  · subst e
    refine ⟨.inl 6, h.1.1, (fun z => by cases z), ?_⟩
    have hI : ∀ i, tI (sP s o σ) o i = σ.1 i := fun i => by
      have h51 := mFi_at h hj
      have : mA s o 51 = o := rfl
      rw [this] at h51
      simp [sP, tI, h51]
    have hR : ∀ i, i ∈ mJ → i ≠ 51 → rfv (tR (sP s o σ) o i) = .ref (mA s o i - 1) := fun i hi hne => by
      have h0 := tMod_ne h hi
      have e1 : mA s o i = tR s o i := if_neg hne
      rw [e1] at h0 ⊢
      show rfv (tR s o i) = _
      generalize tR s o i = z at h0 ⊢
      cases z with
      | zero => exact absurd rfl h0
      | succ z => rfl
    show (Sum.inr (6, tfs (sP s o σ) 6 o) : va_E) = .inr (6, mfs (fun j => mA s o j - 1) σ.1)
    congr 2
    apply List.ext_getElem?
    intro i
    match i, Nat.lt_or_ge i 51 with
    | i, Or.inr hi => rw [List.getElem?_eq_none (by rw [tfs_len]; exact hi), List.getElem?_eq_none (by rw [mfs_len]; exact hi)]
    | i, Or.inl hi => exact cell_at i hi hI hR
  · obtain ⟨h1, h2⟩ := h.2.1 j hj e
    refine ⟨.inr (mkd j, mlen j), h1, tFo_ne (by rcases mkd_lt j hj e with h9 | ⟨h9 | h9 | h9, -⟩ <;> omega), ?_⟩
    have hf := mFi_at h hj
    unfold tcell mcell
    rw [if_neg e]
    dsimp only
    have e1 : (sP s o σ).2.1 (mA s o j) = σ.2.1 j := by
      funext i
      simp [sP, hf, e]
    have e2 : (sP s o σ).2.2.1 (mA s o j) = σ.2.2 j := by
      funext i
      simp [sP, hf]
    rw [e1, e2]
    rcases mkd_lt j hj e with h9 | ⟨h9, h8⟩
    · rw [if_pos h9, if_pos h9]
    · rw [if_neg h8, if_neg h8, if_pos h9]
theorem tH_br {G : xG} {g : xH} {s : tM} {o : Nat} {σ : mS} (h : tMod s o) : tH G g (sP s o σ) = mH G (fun j => mA s o j - 1) σ (tH G g s) := by
  funext b
  unfold mH
  cases hf : mJ.find? (fun j => mA s o j - 1 == b) with
  | some j =>
    have hj := List.mem_of_find?_eq_some hf
    have h2 : mA s o j - 1 = b := by have := List.find?_some hf; simpa using this
    have h0 := tMod_ne h hj
    have e1 : b + 1 = mA s o j := by omega
    obtain ⟨sh, h3, h4, h5⟩ := mcell_br (G := G) (σ := σ) h hj
    dsimp only
    rw [← h5, ← e1]
    exact tH_at (by show s.1 (b + 1) = _; rw [e1]; exact h3) h4
  | none =>
    dsimp only
    have hn : mFi s o (b + 1) = none := by
      unfold mFi
      apply List.find?_eq_none.mpr
      intro j hj hq
      have h1 : mA s o j = b + 1 := by simpa using hq
      have h2 := List.find?_eq_none.mp hf j hj
      rw [h1] at h2
      simp at h2
    unfold tH
    show (match s.1 (b + 1) with | none => none | some s9 => if s9 = tFo then some ((g b).getD (.inr (0, []))) else some (tcell G (sP s o σ) (b + 1) s9)) = _
    cases s.1 (b + 1) with
    | none => rfl
    | some s9 =>
      dsimp only
      rw [tcell_ext (m := s) (m2 := sP s o σ) (by funext i; simp [sP, hn]) (by funext i; simp [sP, hn]) rfl]
theorem sP_same {s : tM} {o : Nat} (h : tMod s o) : sP s o (sM s o) = s := by
  obtain ⟨s1, s2, s3, s4⟩ := s
  unfold sP sM
  simp only [Prod.mk.injEq, true_and, and_true]
  refine ⟨?_, ?_⟩
  · funext q i
    cases hf : mFi (s1, s2, s3, s4) o q with
    | none => rfl
    | some j =>
      obtain ⟨hj, e⟩ := mFi_some hf
      dsimp only
      by_cases e5 : j = 51
      · subst e5
        rw [if_pos rfl, ← e]
        rfl
      · rw [if_neg e5, ← e]
  · funext q i
    cases hf : mFi (s1, s2, s3, s4) o q with
    | none => rfl
    | some j =>
      obtain ⟨hj, e⟩ := mFi_some hf
      dsimp only
      rw [← e]
theorem mInj_br {s : tM} {o : Nat} (h : tMod s o) : mInj (fun j => mA s o j - 1) := fun i hi j hj e => h.2.2 i hi j hj (by
  have h1 := tMod_ne h hi
  have h2 := tMod_ne h hj
  have e : mA s o i - 1 = mA s o j - 1 := e
  omega)
section BR
variable {G : xG} {l : Launch} {M M' : xM} {d k n : Nat} {Q : xR → xH → Prop} {pc : Nat} {lv : xLs} {st As rest : List Value} {g : xH} {m : tM} {idx ar o : Nat}
/-- a call of the reference -/
theorem t_mV {C : String} {T : u_T} {N : Nat} {K : Int32 → mS → Prop} (hh : M.2.2.2.2 = []) (hw : xCV M.1.cls idx C M' ar) (hcl : xcl[6]? = some (C, T, N)) (ht : tMod m o) (har : As.length = ar) (hst : st = As.reverse ++ rfv o :: rest) (hrm : (rest.map fun v => v.category).sum ≤ 8) (hdg : decode M.2.1 pc = .ok (.invokevirtual idx, 3))
    (hC : xC G l M' d 0 0 (.ref ((fun j => mA m o j - 1) 51) :: As) (mH G (fun j => mA m o j - 1) (sM m o) (tH G g m)) (mQi G (fun j => mA m o j - 1) (tH G g m) K))
    (kk : ∀ (v : Int32) (σ : mS), K v σ → xF G l M (d + 1) k n Q (pc + 3) lv (.int v :: rest) (tH G g (sP m o σ))) : xF G l M (d + 1) k n Q pc lv st (tH G g m) := by
  have e0 : tH G g m = mH G (fun j => mA m o j - 1) (sM m o) (tH G g m) := by rw [← tH_br ht, sP_same ht]
  have e1 : rfv o = .ref ((fun j => mA m o j - 1) 51) := by
    have := ht.1.2
    show rfv o = .ref (o - 1)
    cases o with
    | zero => exact absurd rfl this
    | succ o => rfl
  rw [e1] at hst
  rw [← e0] at hC
  have hb : tH G g m ((fun j => mA m o j - 1) 51) = some (.inr (6, tfs m 6 o)) := by
    have := ht.1.2
    obtain ⟨b, rfl⟩ := Nat.exists_eq_succ_of_ne_zero this
    exact tH_atO ht.1
  refine x_cV hh hw hcl hb har hst hrm hdg hC ⟨Nat.zero_le _, Nat.zero_le _⟩ (fun E q h1 hq => ?_) (fun v h1 hq => ?_)
  · obtain ⟨v, s1, -, e, -⟩ := hq
    cases e
  · obtain ⟨v', s1, hK, e, rfl⟩ := hq
    cases e
    have := kk v' s1 hK
    rw [tH_br ht] at this
    exact this
/-- a call of the reference -/
theorem t_mVl {C : String} {T : u_T} {N : Nat} {K : Int64 → mS → Prop} (hh : M.2.2.2.2 = []) (hw : xCV M.1.cls idx C M' ar) (hcl : xcl[6]? = some (C, T, N)) (ht : tMod m o) (har : As.length = ar) (hst : st = As.reverse ++ rfv o :: rest) (hrm : (rest.map fun v => v.category).sum ≤ 8) (hdg : decode M.2.1 pc = .ok (.invokevirtual idx, 3))
    (hC : xC G l M' d 0 0 (.ref ((fun j => mA m o j - 1) 51) :: As) (mH G (fun j => mA m o j - 1) (sM m o) (tH G g m)) (mQl G (fun j => mA m o j - 1) (tH G g m) K))
    (kk : ∀ (v : Int64) (σ : mS), K v σ → xF G l M (d + 1) k n Q (pc + 3) lv (.long v :: rest) (tH G g (sP m o σ))) : xF G l M (d + 1) k n Q pc lv st (tH G g m) := by
  have e0 : tH G g m = mH G (fun j => mA m o j - 1) (sM m o) (tH G g m) := by rw [← tH_br ht, sP_same ht]
  have e1 : rfv o = .ref ((fun j => mA m o j - 1) 51) := by
    have := ht.1.2
    show rfv o = .ref (o - 1)
    cases o with
    | zero => exact absurd rfl this
    | succ o => rfl
  rw [e1] at hst
  rw [← e0] at hC
  have hb : tH G g m ((fun j => mA m o j - 1) 51) = some (.inr (6, tfs m 6 o)) := by
    have := ht.1.2
    obtain ⟨b, rfl⟩ := Nat.exists_eq_succ_of_ne_zero this
    exact tH_atO ht.1
  refine x_cV hh hw hcl hb har hst hrm hdg hC ⟨Nat.zero_le _, Nat.zero_le _⟩ (fun E q h1 hq => ?_) (fun v h1 hq => ?_)
  · obtain ⟨v, s1, -, e, -⟩ := hq
    cases e
  · obtain ⟨v', s1, hK, e, rfl⟩ := hq
    cases e
    have := kk v' s1 hK
    rw [tH_br ht] at this
    exact this
end BR
