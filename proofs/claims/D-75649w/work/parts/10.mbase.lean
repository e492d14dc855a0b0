/-! ===== the reference (CounterDeskModel): one object, its arrays: its world mH, its state (fields, int arrays, long arrays) ===== -/
set_option maxRecDepth 100000
abbrev mS : Type := (Nat → Int32) × (Nat → Nat → Int32) × (Nat → Nat → Int64)
abbrev mFd (s : mS) (j : Nat) : Int32 := s.1 j
abbrev mAt (s : mS) (j : Nat) (i : Int32) : Int32 := s.2.1 j i.toNatClampNeg
abbrev mLt (s : mS) (j : Nat) (i : Int32) : Int64 := s.2.2 j i.toNatClampNeg
def mF (s : mS) (j : Nat) (x : Int32) : mS := (upd s.1 j x, s.2.1, s.2.2)
def mI (s : mS) (j : Nat) (i x : Int32) : mS := (s.1, (fun q => if q = j then upd (s.2.1 j) i.toNatClampNeg x else s.2.1 q), s.2.2)
def mL (s : mS) (j : Nat) (i : Int32) (x : Int64) : mS := (s.1, s.2.1, fun q => if q = j then vp_updL (s.2.2 j) i.toNatClampNeg x else s.2.2 q)
def mlen : Nat → Nat := fun j => match j with
  | 1 => 7
  | 2 => 5652
  | 3 => 11304
  | 4 => 2
  | 5 => 50
  | 7 => 137
  | 11 => 400
  | 12 => 5
  | 15 => 401
  | 16 => 401
  | 17 => 401
  | 26 => 10
  | 31 => 416
  | 32 => 416
  | 34 => 7500
  | 35 => 7500
  | 36 => 7500
  | 37 => 300
  | 38 => 300
  | 39 => 48
  | 40 => 21
  | 47 => 2
  | 48 => 25
  | _ => 0
def mkd : Nat → Nat := fun j => match j with
  | 4 => 3
  | 7 => 2
  | 11 => 2
  | 36 => 3
  | 38 => 1
  | 40 => 1
  | 47 => 1
  | _ => 0
def mfs (a : Nat → Nat) (F : Nat → Int32) : List Value := [.int (F 0), .ref (a 1), .ref (a 2), .ref (a 3), .ref (a 4), .ref (a 5), .int (F 6), .ref (a 7), .int (F 8), .int (F 9), .int (F 10), .ref (a 11), .ref (a 12), .int (F 13), .int (F 14), .ref (a 15), .ref (a 16), .ref (a 17), .int (F 18), .int (F 19), .int (F 20), .int (F 21), .int (F 22), .int (F 23), .int (F 24), .int (F 25), .ref (a 26), .int (F 27), .int (F 28), .int (F 29), .int (F 30), .ref (a 31), .ref (a 32), .int (F 33), .ref (a 34), .ref (a 35), .ref (a 36), .ref (a 37), .ref (a 38), .ref (a 39), .ref (a 40), .int (F 41), .int (F 42), .int (F 43), .int (F 44), .int (F 45), .int (F 46), .ref (a 47), .ref (a 48), .int (F 49), .int (F 50)]
abbrev mJ : List Nat := [1, 2, 3, 4, 5, 7, 11, 12, 15, 16, 17, 26, 31, 32, 34, 35, 36, 37, 38, 39, 40, 47, 48, 51]
def mcell (G : xG) (a : Nat → Nat) (s : mS) (j : Nat) : va_E := if j = 51 then .inr (6, mfs a s.1) else if mkd j = 1 then xJ G (mlen j) (s.2.2 j) else xI G (mkd j) (mlen j) (s.2.1 j)
def mH (G : xG) (a : Nat → Nat) (s : mS) (g : xH) : xH := fun q => match mJ.find? (fun j => a j == q) with
  | some j => some (mcell G a s j)
  | none => g q
def mInj (a : Nat → Nat) : Prop := ∀ i ∈ mJ, ∀ j ∈ mJ, a i = a j → i = j
theorem mH_at {G : xG} {a : Nat → Nat} {s : mS} {g : xH} (ha : mInj a) {j : Nat} (hj : j ∈ mJ) : mH G a s g (a j) = some (mcell G a s j) := by
  unfold mH
  cases hf : mJ.find? (fun i => a i == a j) with
  | none =>
    have := List.find?_eq_none.mp hf j hj
    simp at this
  | some i =>
    have h1 := List.find?_some hf
    have h2 := List.mem_of_find?_eq_some hf
    have h3 : i = j := ha i h2 j hj (by simpa using h1)
    rw [h3]
theorem mH_up {G : xG} {a : Nat → Nat} {s s2 : mS} {g : xH} (ha : mInj a) {j : Nat} (hj : j ∈ mJ) {e : va_E} (h1 : mcell G a s2 j = e) (h2 : ∀ i, i ≠ j → mcell G a s2 i = mcell G a s i) : xUp (mH G a s g) (a j) e = mH G a s2 g := by
  funext q
  by_cases hq : q = a j
  · subst hq
    rw [xUp_self, mH_at ha hj, h1]
  · rw [xUp_ne _ _ hq]
    unfold mH
    cases hf : mJ.find? (fun i => a i == q) with
    | none => rfl
    | some i =>
      have h3 := List.find?_some hf
      have h4 : i ≠ j := fun z => hq (by rw [← z]; exact (by simpa using h3 : a i = q).symm)
      show some (mcell G a s i) = some (mcell G a s2 i)
      rw [h2 i h4]
/-- outside of the reference's cells -/
theorem mH_out {G : xG} {a : Nat → Nat} {s : mS} {g : xH} {q : Nat} (hq : ∀ j ∈ mJ, a j ≠ q) : mH G a s g q = g q := by
  unfold mH
  have : mJ.find? (fun i => a i == q) = none := List.find?_eq_none.mpr fun i hi => by simpa using hq i hi
  rw [this]
theorem mfs_len (a : Nat → Nat) (F : Nat → Int32) : (mfs a F).length = 51 := rfl
theorem mfs_0 (a : Nat → Nat) (F : Nat → Int32) (x : Int32) : (mfs a F).set 0 (.int x) = mfs a (upd F 0 x) := rfl
theorem mfs_6 (a : Nat → Nat) (F : Nat → Int32) (x : Int32) : (mfs a F).set 6 (.int x) = mfs a (upd F 6 x) := rfl
theorem mfs_8 (a : Nat → Nat) (F : Nat → Int32) (x : Int32) : (mfs a F).set 8 (.int x) = mfs a (upd F 8 x) := rfl
theorem mfs_9 (a : Nat → Nat) (F : Nat → Int32) (x : Int32) : (mfs a F).set 9 (.int x) = mfs a (upd F 9 x) := rfl
theorem mfs_10 (a : Nat → Nat) (F : Nat → Int32) (x : Int32) : (mfs a F).set 10 (.int x) = mfs a (upd F 10 x) := rfl
theorem mfs_13 (a : Nat → Nat) (F : Nat → Int32) (x : Int32) : (mfs a F).set 13 (.int x) = mfs a (upd F 13 x) := rfl
theorem mfs_14 (a : Nat → Nat) (F : Nat → Int32) (x : Int32) : (mfs a F).set 14 (.int x) = mfs a (upd F 14 x) := rfl
theorem mfs_18 (a : Nat → Nat) (F : Nat → Int32) (x : Int32) : (mfs a F).set 18 (.int x) = mfs a (upd F 18 x) := rfl
theorem mfs_19 (a : Nat → Nat) (F : Nat → Int32) (x : Int32) : (mfs a F).set 19 (.int x) = mfs a (upd F 19 x) := rfl
theorem mfs_20 (a : Nat → Nat) (F : Nat → Int32) (x : Int32) : (mfs a F).set 20 (.int x) = mfs a (upd F 20 x) := rfl
theorem mfs_21 (a : Nat → Nat) (F : Nat → Int32) (x : Int32) : (mfs a F).set 21 (.int x) = mfs a (upd F 21 x) := rfl
theorem mfs_22 (a : Nat → Nat) (F : Nat → Int32) (x : Int32) : (mfs a F).set 22 (.int x) = mfs a (upd F 22 x) := rfl
theorem mfs_23 (a : Nat → Nat) (F : Nat → Int32) (x : Int32) : (mfs a F).set 23 (.int x) = mfs a (upd F 23 x) := rfl
theorem mfs_24 (a : Nat → Nat) (F : Nat → Int32) (x : Int32) : (mfs a F).set 24 (.int x) = mfs a (upd F 24 x) := rfl
theorem mfs_25 (a : Nat → Nat) (F : Nat → Int32) (x : Int32) : (mfs a F).set 25 (.int x) = mfs a (upd F 25 x) := rfl
theorem mfs_27 (a : Nat → Nat) (F : Nat → Int32) (x : Int32) : (mfs a F).set 27 (.int x) = mfs a (upd F 27 x) := rfl
theorem mfs_28 (a : Nat → Nat) (F : Nat → Int32) (x : Int32) : (mfs a F).set 28 (.int x) = mfs a (upd F 28 x) := rfl
theorem mfs_29 (a : Nat → Nat) (F : Nat → Int32) (x : Int32) : (mfs a F).set 29 (.int x) = mfs a (upd F 29 x) := rfl
theorem mfs_30 (a : Nat → Nat) (F : Nat → Int32) (x : Int32) : (mfs a F).set 30 (.int x) = mfs a (upd F 30 x) := rfl
theorem mfs_33 (a : Nat → Nat) (F : Nat → Int32) (x : Int32) : (mfs a F).set 33 (.int x) = mfs a (upd F 33 x) := rfl
theorem mfs_41 (a : Nat → Nat) (F : Nat → Int32) (x : Int32) : (mfs a F).set 41 (.int x) = mfs a (upd F 41 x) := rfl
theorem mfs_42 (a : Nat → Nat) (F : Nat → Int32) (x : Int32) : (mfs a F).set 42 (.int x) = mfs a (upd F 42 x) := rfl
theorem mfs_43 (a : Nat → Nat) (F : Nat → Int32) (x : Int32) : (mfs a F).set 43 (.int x) = mfs a (upd F 43 x) := rfl
theorem mfs_44 (a : Nat → Nat) (F : Nat → Int32) (x : Int32) : (mfs a F).set 44 (.int x) = mfs a (upd F 44 x) := rfl
theorem mfs_45 (a : Nat → Nat) (F : Nat → Int32) (x : Int32) : (mfs a F).set 45 (.int x) = mfs a (upd F 45 x) := rfl
theorem mfs_46 (a : Nat → Nat) (F : Nat → Int32) (x : Int32) : (mfs a F).set 46 (.int x) = mfs a (upd F 46 x) := rfl
theorem mfs_49 (a : Nat → Nat) (F : Nat → Int32) (x : Int32) : (mfs a F).set 49 (.int x) = mfs a (upd F 49 x) := rfl
theorem mfs_50 (a : Nat → Nat) (F : Nat → Int32) (x : Int32) : (mfs a F).set 50 (.int x) = mfs a (upd F 50 x) := rfl
section MR
variable {G : xG} {l : Launch} {M : xM} {d k n : Nat} {Q : xR → xH → Prop} {pc : Nat} {lv : xLs} {st : List Value} {a : Nat → Nat} {s : mS} {g : xH}
theorem mcell_obj : mcell G a s 51 = .inr (6, mfs a s.1) := rfl
theorem m_get {j idx : Nat} {v : Value} (ha : mInj a) (hdg : decode M.2.1 pc = .ok (.getfield idx, 3)) (hf : xFa M.1.cls idx 6 j) (hv : (mfs a s.1)[j]? = some v)
    (kk : xF G l M d k n Q (pc + 3) lv (v :: st) (mH G a s g)) : xF G l M d k n Q pc lv (.ref (a 51) :: st) (mH G a s g) :=
  x_get hdg hf (mH_at ha (by decide)) hv kk
theorem m_put {j idx : Nat} {x : Int32} {t : FieldType} (ha : mInj a) (hdg : decode M.2.1 pc = .ok (.putfield idx, 3)) (hf : xFp M.1.cls idx 6 j t) (hs : (mfs a s.1).set j (.int x) = mfs a (upd s.1 j x)) (hj : j < 51) (hn : narrow t (.int x) = .int x) (hfit : fits t (.int x) = true)
    (kk : xF G l M d k n Q (pc + 3) lv st (mH G a (mF s j x) g)) : xF G l M d k n Q pc lv (.int x :: .ref (a 51) :: st) (mH G a s g) := by
  refine x_put hdg hf (mH_at ha (by decide)) (by rw [mfs_len]; exact hj) hn hfit (x_eqh ?_ kk)
  rw [hs]
  refine mH_up (s2 := mF s j x) ha (by decide) rfl (fun i hi => ?_)
  unfold mcell
  rw [if_neg hi, if_neg hi]
  rfl
theorem m_iald {j : Nat} {i : Int32} (ha : mInj a) (hdg : decode M.2.1 pc = .ok (.iaload, 1)) (hj : j ∈ mJ) (hk : mkd j = 0 ∧ j ≠ 51) (hin : vp_in i (mlen j))
    (kk : xF G l M d k n Q (pc + 1) lv (.int (mAt s j i) :: st) (mH G a s g)) : xF G l M d k n Q pc lv (.int i :: .ref (a j) :: st) (mH G a s g) := by
  refine x_iald hdg (N := mlen j) (f := s.2.1 j) ?_ hin kk
  rw [mH_at ha hj]
  unfold mcell
  rw [if_neg hk.2, if_neg (by rw [hk.1]; decide), hk.1]
theorem m_bald {j : Nat} {i : Int32} (ha : mInj a) (hdg : decode M.2.1 pc = .ok (.baload, 1)) (hj : j ∈ mJ) (hk : mkd j = 2 ∧ j ≠ 51) (hin : vp_in i (mlen j))
    (kk : xF G l M d k n Q (pc + 1) lv (.int (mAt s j i) :: st) (mH G a s g)) : xF G l M d k n Q pc lv (.int i :: .ref (a j) :: st) (mH G a s g) := by
  refine x_bald hdg (N := mlen j) (f := s.2.1 j) ?_ hin kk
  rw [mH_at ha hj]
  unfold mcell
  rw [if_neg hk.2, if_neg (by rw [hk.1]; decide), hk.1]
theorem m_zald {j : Nat} {i : Int32} (ha : mInj a) (hdg : decode M.2.1 pc = .ok (.baload, 1)) (hj : j ∈ mJ) (hk : mkd j = 3 ∧ j ≠ 51) (hin : vp_in i (mlen j))
    (kk : xF G l M d k n Q (pc + 1) lv (.int (mAt s j i) :: st) (mH G a s g)) : xF G l M d k n Q pc lv (.int i :: .ref (a j) :: st) (mH G a s g) := by
  refine x_zald hdg (N := mlen j) (f := s.2.1 j) ?_ hin kk
  rw [mH_at ha hj]
  unfold mcell
  rw [if_neg hk.2, if_neg (by rw [hk.1]; decide), hk.1]
theorem m_lald {j : Nat} {i : Int32} (ha : mInj a) (hdg : decode M.2.1 pc = .ok (.laload, 1)) (hj : j ∈ mJ) (hk : mkd j = 1 ∧ j ≠ 51) (hin : vp_in i (mlen j))
    (kk : xF G l M d k n Q (pc + 1) lv (.long (mLt s j i) :: st) (mH G a s g)) : xF G l M d k n Q pc lv (.int i :: .ref (a j) :: st) (mH G a s g) := by
  refine x_lald hdg (N := mlen j) (f := s.2.2 j) ?_ hin kk
  rw [mH_at ha hj]
  unfold mcell
  rw [if_neg hk.2, if_pos hk.1]
theorem m_iast {j : Nat} {i x : Int32} (ha : mInj a) (hdg : decode M.2.1 pc = .ok (.iastore, 1)) (hj : j ∈ mJ) (hk : mkd j = 0 ∧ j ≠ 51) (hin : vp_in i (mlen j))
    (kk : xF G l M d k n Q (pc + 1) lv st (mH G a (mI s j i x) g)) : xF G l M d k n Q pc lv (.int x :: .int i :: .ref (a j) :: st) (mH G a s g) := by
  refine x_iast hdg (N := mlen j) (f := s.2.1 j) ?_ hin (x_eqh ?_ kk)
  · rw [mH_at ha hj]
    unfold mcell
    rw [if_neg hk.2, if_neg (by rw [hk.1]; decide), hk.1]
  · refine mH_up (s2 := mI s j i x) ha hj ?_ (fun q hq => ?_)
    · unfold mcell
      rw [if_neg hk.2, if_neg (by rw [hk.1]; decide), hk.1]
      simp [mI]
    · unfold mcell
      simp [mI, hq]
theorem m_bast {j : Nat} {i x : Int32} (ha : mInj a) (hdg : decode M.2.1 pc = .ok (.bastore, 1)) (hj : j ∈ mJ) (hk : mkd j = 2 ∧ j ≠ 51) (hin : vp_in i (mlen j))
    (kk : xF G l M d k n Q (pc + 1) lv st (mH G a (mI s j i (vp_nar .byte x)) g)) : xF G l M d k n Q pc lv (.int x :: .int i :: .ref (a j) :: st) (mH G a s g) := by
  refine x_bast hdg (N := mlen j) (f := s.2.1 j) ?_ hin (x_eqh ?_ kk)
  · rw [mH_at ha hj]
    unfold mcell
    rw [if_neg hk.2, if_neg (by rw [hk.1]; decide), hk.1]
  · refine mH_up (s2 := mI s j i (vp_nar .byte x)) ha hj ?_ (fun q hq => ?_)
    · unfold mcell
      rw [if_neg hk.2, if_neg (by rw [hk.1]; decide), hk.1]
      simp [mI]
    · unfold mcell
      simp [mI, hq]
theorem m_zast {j : Nat} {i x : Int32} (ha : mInj a) (hdg : decode M.2.1 pc = .ok (.bastore, 1)) (hj : j ∈ mJ) (hk : mkd j = 3 ∧ j ≠ 51) (hin : vp_in i (mlen j))
    (kk : xF G l M d k n Q (pc + 1) lv st (mH G a (mI s j i (vp_nar .boolean x)) g)) : xF G l M d k n Q pc lv (.int x :: .int i :: .ref (a j) :: st) (mH G a s g) := by
  refine x_zast hdg (N := mlen j) (f := s.2.1 j) ?_ hin (x_eqh ?_ kk)
  · rw [mH_at ha hj]
    unfold mcell
    rw [if_neg hk.2, if_neg (by rw [hk.1]; decide), hk.1]
  · refine mH_up (s2 := mI s j i (vp_nar .boolean x)) ha hj ?_ (fun q hq => ?_)
    · unfold mcell
      rw [if_neg hk.2, if_neg (by rw [hk.1]; decide), hk.1]
      simp [mI]
    · unfold mcell
      simp [mI, hq]
theorem m_last {j : Nat} {i : Int32} {x : Int64} (ha : mInj a) (hdg : decode M.2.1 pc = .ok (.lastore, 1)) (hj : j ∈ mJ) (hk : mkd j = 1 ∧ j ≠ 51) (hin : vp_in i (mlen j))
    (kk : xF G l M d k n Q (pc + 1) lv st (mH G a (mL s j i x) g)) : xF G l M d k n Q pc lv (.long x :: .int i :: .ref (a j) :: st) (mH G a s g) := by
  refine x_last hdg (N := mlen j) (f := s.2.2 j) ?_ hin (x_eqh ?_ kk)
  · rw [mH_at ha hj]
    unfold mcell
    rw [if_neg hk.2, if_pos hk.1]
  · refine mH_up (s2 := mL s j i x) ha hj ?_ (fun q hq => ?_)
    · unfold mcell
      rw [if_neg hk.2, if_pos hk.1]
      simp [mL]
    · unfold mcell
      simp [mL, hq]
theorem m_alen {j : Nat} {v : Int32} {ty : FieldType} (ha : mInj a) (hdg : decode M.2.1 pc = .ok (.arraylength, 1)) (hj : j ∈ mJ) (hk : mkd j ≠ 1 ∧ j ≠ 51) (ht : xtys[mkd j]? = some ty) (hv : Int32.ofNat (mlen j) = v)
    (kk : xF G l M d k n Q (pc + 1) lv (.int v :: st) (mH G a s g)) : xF G l M d k n Q pc lv (.ref (a j) :: st) (mH G a s g) := by
  refine x_alen (N := 0) (x := (mlen j, .inl (s.2.1 j))) hdg ht ?_ hv kk
  rw [mH_at ha hj]
  unfold mcell
  rw [if_neg hk.2, if_neg hk.1]
end MR
/-- a truth value -/
def xB (x : Int32) : Prop := x = 0 ∨ x = 1
theorem xB_n {x : Int32} (h : xB x) : narrow .boolean (.int x) = .int x := by rcases h with rfl | rfl <;> decide
theorem xB_f {x : Int32} (h : xB x) : fits .boolean (.int x) = true := by rcases h with rfl | rfl <;> decide
theorem xti {x v : Int32} {z : Int} (hv : v.toInt = z) (h : ¬ x = v) : x.toInt ≠ z := fun e => h (Int32.toInt_inj.mp (e.trans hv.symm))
theorem xB_0 : xB 0 := Or.inl rfl
theorem xB_1 : xB 1 := Or.inr rfl
theorem xcl_M : xCl 6 RX6 TX6 51 tyX6 := ⟨rfl, in_X6, tyX6_ok⟩
theorem fa_X6_3 : xFa RX6 3 6 0 := ⟨RX6, TX6, 51, tyX6, RX6, xcl_M, by decide, Or.inl q1602, Or.inl rfl⟩
theorem fp_X6_3 : xFp RX6 3 6 0 .int := ⟨RX6, TX6, 51, tyX6, RX6, xcl_M, by decide, Or.inl q1602, Or.inl rfl, rfl, rfl⟩
theorem fa_X6_7 : xFa RX6 7 6 1 := ⟨RX6, TX6, 51, tyX6, RX6, xcl_M, by decide, Or.inl q1603, Or.inl rfl⟩
theorem fa_X6_11 : xFa RX6 11 6 33 := ⟨RX6, TX6, 51, tyX6, RX6, xcl_M, by decide, Or.inl q1635, Or.inl rfl⟩
theorem fp_X6_11 : xFp RX6 11 6 33 .int := ⟨RX6, TX6, 51, tyX6, RX6, xcl_M, by decide, Or.inl q1635, Or.inl rfl, rfl, rfl⟩
theorem fa_X6_28 : xFa RX6 28 6 2 := ⟨RX6, TX6, 51, tyX6, RX6, xcl_M, by decide, Or.inl q1604, Or.inl rfl⟩
theorem fa_X6_31 : xFa RX6 31 6 3 := ⟨RX6, TX6, 51, tyX6, RX6, xcl_M, by decide, Or.inl q1605, Or.inl rfl⟩
theorem fa_X6_34 : xFa RX6 34 6 4 := ⟨RX6, TX6, 51, tyX6, RX6, xcl_M, by decide, Or.inl q1606, Or.inl rfl⟩
theorem fa_X6_38 : xFa RX6 38 6 5 := ⟨RX6, TX6, 51, tyX6, RX6, xcl_M, by decide, Or.inl q1607, Or.inl rfl⟩
theorem fa_X6_41 : xFa RX6 41 6 7 := ⟨RX6, TX6, 51, tyX6, RX6, xcl_M, by decide, Or.inl q1609, Or.inl rfl⟩
theorem fa_X6_45 : xFa RX6 45 6 11 := ⟨RX6, TX6, 51, tyX6, RX6, xcl_M, by decide, Or.inl q1613, Or.inl rfl⟩
theorem fa_X6_48 : xFa RX6 48 6 12 := ⟨RX6, TX6, 51, tyX6, RX6, xcl_M, by decide, Or.inl q1614, Or.inl rfl⟩
theorem fa_X6_51 : xFa RX6 51 6 14 := ⟨RX6, TX6, 51, tyX6, RX6, xcl_M, by decide, Or.inl q1616, Or.inl rfl⟩
theorem fp_X6_51 : xFp RX6 51 6 14 .int := ⟨RX6, TX6, 51, tyX6, RX6, xcl_M, by decide, Or.inl q1616, Or.inl rfl, rfl, rfl⟩
theorem fa_X6_54 : xFa RX6 54 6 15 := ⟨RX6, TX6, 51, tyX6, RX6, xcl_M, by decide, Or.inl q1617, Or.inl rfl⟩
theorem fa_X6_57 : xFa RX6 57 6 16 := ⟨RX6, TX6, 51, tyX6, RX6, xcl_M, by decide, Or.inl q1618, Or.inl rfl⟩
theorem fa_X6_60 : xFa RX6 60 6 17 := ⟨RX6, TX6, 51, tyX6, RX6, xcl_M, by decide, Or.inl q1619, Or.inl rfl⟩
theorem fa_X6_63 : xFa RX6 63 6 26 := ⟨RX6, TX6, 51, tyX6, RX6, xcl_M, by decide, Or.inl q1628, Or.inl rfl⟩
theorem fa_X6_66 : xFa RX6 66 6 31 := ⟨RX6, TX6, 51, tyX6, RX6, xcl_M, by decide, Or.inl q1633, Or.inl rfl⟩
theorem fa_X6_69 : xFa RX6 69 6 32 := ⟨RX6, TX6, 51, tyX6, RX6, xcl_M, by decide, Or.inl q1634, Or.inl rfl⟩
theorem fa_X6_72 : xFa RX6 72 6 34 := ⟨RX6, TX6, 51, tyX6, RX6, xcl_M, by decide, Or.inl q1636, Or.inl rfl⟩
theorem fa_X6_75 : xFa RX6 75 6 35 := ⟨RX6, TX6, 51, tyX6, RX6, xcl_M, by decide, Or.inl q1637, Or.inl rfl⟩
theorem fa_X6_78 : xFa RX6 78 6 36 := ⟨RX6, TX6, 51, tyX6, RX6, xcl_M, by decide, Or.inl q1638, Or.inl rfl⟩
theorem fa_X6_81 : xFa RX6 81 6 37 := ⟨RX6, TX6, 51, tyX6, RX6, xcl_M, by decide, Or.inl q1639, Or.inl rfl⟩
theorem fa_X6_84 : xFa RX6 84 6 38 := ⟨RX6, TX6, 51, tyX6, RX6, xcl_M, by decide, Or.inl q1640, Or.inl rfl⟩
theorem fa_X6_88 : xFa RX6 88 6 39 := ⟨RX6, TX6, 51, tyX6, RX6, xcl_M, by decide, Or.inl q1641, Or.inl rfl⟩
theorem fa_X6_91 : xFa RX6 91 6 40 := ⟨RX6, TX6, 51, tyX6, RX6, xcl_M, by decide, Or.inl q1642, Or.inl rfl⟩
theorem fa_X6_94 : xFa RX6 94 6 41 := ⟨RX6, TX6, 51, tyX6, RX6, xcl_M, by decide, Or.inl q1643, Or.inl rfl⟩
theorem fp_X6_94 : xFp RX6 94 6 41 .int := ⟨RX6, TX6, 51, tyX6, RX6, xcl_M, by decide, Or.inl q1643, Or.inl rfl, rfl, rfl⟩
theorem fa_X6_97 : xFa RX6 97 6 47 := ⟨RX6, TX6, 51, tyX6, RX6, xcl_M, by decide, Or.inl q1649, Or.inl rfl⟩
theorem fa_X6_100 : xFa RX6 100 6 48 := ⟨RX6, TX6, 51, tyX6, RX6, xcl_M, by decide, Or.inl q1650, Or.inl rfl⟩
theorem fa_X6_103 : xFa RX6 103 6 49 := ⟨RX6, TX6, 51, tyX6, RX6, xcl_M, by decide, Or.inl q1651, Or.inl rfl⟩
theorem fp_X6_103 : xFp RX6 103 6 49 .int := ⟨RX6, TX6, 51, tyX6, RX6, xcl_M, by decide, Or.inl q1651, Or.inl rfl, rfl, rfl⟩
theorem fa_X6_154 : xFa RX6 154 6 13 := ⟨RX6, TX6, 51, tyX6, RX6, xcl_M, by decide, Or.inl q1615, Or.inl rfl⟩
theorem fp_X6_154 : xFp RX6 154 6 13 .int := ⟨RX6, TX6, 51, tyX6, RX6, xcl_M, by decide, Or.inl q1615, Or.inl rfl, rfl, rfl⟩
theorem fa_X6_157 : xFa RX6 157 6 6 := ⟨RX6, TX6, 51, tyX6, RX6, xcl_M, by decide, Or.inl q1608, Or.inl rfl⟩
theorem fp_X6_157 : xFp RX6 157 6 6 .int := ⟨RX6, TX6, 51, tyX6, RX6, xcl_M, by decide, Or.inl q1608, Or.inl rfl, rfl, rfl⟩
theorem fa_X6_160 : xFa RX6 160 6 18 := ⟨RX6, TX6, 51, tyX6, RX6, xcl_M, by decide, Or.inl q1620, Or.inl rfl⟩
theorem fp_X6_160 : xFp RX6 160 6 18 .int := ⟨RX6, TX6, 51, tyX6, RX6, xcl_M, by decide, Or.inl q1620, Or.inl rfl, rfl, rfl⟩
theorem fa_X6_174 : xFa RX6 174 6 21 := ⟨RX6, TX6, 51, tyX6, RX6, xcl_M, by decide, Or.inl q1623, Or.inl rfl⟩
theorem fp_X6_174 : xFp RX6 174 6 21 .int := ⟨RX6, TX6, 51, tyX6, RX6, xcl_M, by decide, Or.inl q1623, Or.inl rfl, rfl, rfl⟩
theorem fa_X6_180 : xFa RX6 180 6 19 := ⟨RX6, TX6, 51, tyX6, RX6, xcl_M, by decide, Or.inl q1621, Or.inl rfl⟩
theorem fp_X6_180 : xFp RX6 180 6 19 .int := ⟨RX6, TX6, 51, tyX6, RX6, xcl_M, by decide, Or.inl q1621, Or.inl rfl, rfl, rfl⟩
theorem fa_X6_189 : xFa RX6 189 6 20 := ⟨RX6, TX6, 51, tyX6, RX6, xcl_M, by decide, Or.inl q1622, Or.inl rfl⟩
theorem fp_X6_189 : xFp RX6 189 6 20 .int := ⟨RX6, TX6, 51, tyX6, RX6, xcl_M, by decide, Or.inl q1622, Or.inl rfl, rfl, rfl⟩
theorem fa_X6_204 : xFa RX6 204 6 10 := ⟨RX6, TX6, 51, tyX6, RX6, xcl_M, by decide, Or.inl q1612, Or.inl rfl⟩
theorem fp_X6_204 : xFp RX6 204 6 10 .boolean := ⟨RX6, TX6, 51, tyX6, RX6, xcl_M, by decide, Or.inl q1612, Or.inl rfl, rfl, rfl⟩
theorem fa_X6_230 : xFa RX6 230 6 8 := ⟨RX6, TX6, 51, tyX6, RX6, xcl_M, by decide, Or.inl q1610, Or.inl rfl⟩
theorem fp_X6_230 : xFp RX6 230 6 8 .int := ⟨RX6, TX6, 51, tyX6, RX6, xcl_M, by decide, Or.inl q1610, Or.inl rfl, rfl, rfl⟩
theorem fa_X6_233 : xFa RX6 233 6 9 := ⟨RX6, TX6, 51, tyX6, RX6, xcl_M, by decide, Or.inl q1611, Or.inl rfl⟩
theorem fp_X6_233 : xFp RX6 233 6 9 .int := ⟨RX6, TX6, 51, tyX6, RX6, xcl_M, by decide, Or.inl q1611, Or.inl rfl, rfl, rfl⟩
theorem fa_X6_258 : xFa RX6 258 6 23 := ⟨RX6, TX6, 51, tyX6, RX6, xcl_M, by decide, Or.inl q1625, Or.inl rfl⟩
theorem fp_X6_258 : xFp RX6 258 6 23 .int := ⟨RX6, TX6, 51, tyX6, RX6, xcl_M, by decide, Or.inl q1625, Or.inl rfl, rfl, rfl⟩
theorem fa_X6_261 : xFa RX6 261 6 22 := ⟨RX6, TX6, 51, tyX6, RX6, xcl_M, by decide, Or.inl q1624, Or.inl rfl⟩
theorem fp_X6_261 : xFp RX6 261 6 22 .int := ⟨RX6, TX6, 51, tyX6, RX6, xcl_M, by decide, Or.inl q1624, Or.inl rfl, rfl, rfl⟩
theorem fa_X6_271 : xFa RX6 271 6 24 := ⟨RX6, TX6, 51, tyX6, RX6, xcl_M, by decide, Or.inl q1626, Or.inl rfl⟩
theorem fp_X6_271 : xFp RX6 271 6 24 .boolean := ⟨RX6, TX6, 51, tyX6, RX6, xcl_M, by decide, Or.inl q1626, Or.inl rfl, rfl, rfl⟩
theorem fa_X6_291 : xFa RX6 291 6 25 := ⟨RX6, TX6, 51, tyX6, RX6, xcl_M, by decide, Or.inl q1627, Or.inl rfl⟩
theorem fp_X6_291 : xFp RX6 291 6 25 .boolean := ⟨RX6, TX6, 51, tyX6, RX6, xcl_M, by decide, Or.inl q1627, Or.inl rfl, rfl, rfl⟩
theorem fa_X6_297 : xFa RX6 297 6 27 := ⟨RX6, TX6, 51, tyX6, RX6, xcl_M, by decide, Or.inl q1629, Or.inl rfl⟩
theorem fp_X6_297 : xFp RX6 297 6 27 .int := ⟨RX6, TX6, 51, tyX6, RX6, xcl_M, by decide, Or.inl q1629, Or.inl rfl, rfl, rfl⟩
theorem fa_X6_300 : xFa RX6 300 6 28 := ⟨RX6, TX6, 51, tyX6, RX6, xcl_M, by decide, Or.inl q1630, Or.inl rfl⟩
theorem fp_X6_300 : xFp RX6 300 6 28 .int := ⟨RX6, TX6, 51, tyX6, RX6, xcl_M, by decide, Or.inl q1630, Or.inl rfl, rfl, rfl⟩
theorem fa_X6_303 : xFa RX6 303 6 29 := ⟨RX6, TX6, 51, tyX6, RX6, xcl_M, by decide, Or.inl q1631, Or.inl rfl⟩
theorem fp_X6_303 : xFp RX6 303 6 29 .int := ⟨RX6, TX6, 51, tyX6, RX6, xcl_M, by decide, Or.inl q1631, Or.inl rfl, rfl, rfl⟩
theorem fa_X6_306 : xFa RX6 306 6 30 := ⟨RX6, TX6, 51, tyX6, RX6, xcl_M, by decide, Or.inl q1632, Or.inl rfl⟩
theorem fp_X6_306 : xFp RX6 306 6 30 .int := ⟨RX6, TX6, 51, tyX6, RX6, xcl_M, by decide, Or.inl q1632, Or.inl rfl, rfl, rfl⟩
theorem fa_X6_446 : xFa RX6 446 6 42 := ⟨RX6, TX6, 51, tyX6, RX6, xcl_M, by decide, Or.inl q1644, Or.inl rfl⟩
theorem fp_X6_446 : xFp RX6 446 6 42 .int := ⟨RX6, TX6, 51, tyX6, RX6, xcl_M, by decide, Or.inl q1644, Or.inl rfl, rfl, rfl⟩
theorem fa_X6_455 : xFa RX6 455 6 44 := ⟨RX6, TX6, 51, tyX6, RX6, xcl_M, by decide, Or.inl q1646, Or.inl rfl⟩
theorem fp_X6_455 : xFp RX6 455 6 44 .int := ⟨RX6, TX6, 51, tyX6, RX6, xcl_M, by decide, Or.inl q1646, Or.inl rfl, rfl, rfl⟩
theorem fa_X6_458 : xFa RX6 458 6 45 := ⟨RX6, TX6, 51, tyX6, RX6, xcl_M, by decide, Or.inl q1647, Or.inl rfl⟩
theorem fp_X6_458 : xFp RX6 458 6 45 .boolean := ⟨RX6, TX6, 51, tyX6, RX6, xcl_M, by decide, Or.inl q1647, Or.inl rfl, rfl, rfl⟩
theorem fa_X6_461 : xFa RX6 461 6 43 := ⟨RX6, TX6, 51, tyX6, RX6, xcl_M, by decide, Or.inl q1645, Or.inl rfl⟩
theorem fp_X6_461 : xFp RX6 461 6 43 .int := ⟨RX6, TX6, 51, tyX6, RX6, xcl_M, by decide, Or.inl q1645, Or.inl rfl, rfl, rfl⟩
theorem fa_X6_464 : xFa RX6 464 6 46 := ⟨RX6, TX6, 51, tyX6, RX6, xcl_M, by decide, Or.inl q1648, Or.inl rfl⟩
theorem fp_X6_464 : xFp RX6 464 6 46 .boolean := ⟨RX6, TX6, 51, tyX6, RX6, xcl_M, by decide, Or.inl q1648, Or.inl rfl, rfl, rfl⟩
theorem fa_X6_482 : xFa RX6 482 6 50 := ⟨RX6, TX6, 51, tyX6, RX6, xcl_M, by decide, Or.inl q1652, Or.inl rfl⟩
theorem fp_X6_482 : xFp RX6 482 6 50 .int := ⟨RX6, TX6, 51, tyX6, RX6, xcl_M, by decide, Or.inl q1652, Or.inl rfl, rfl, rfl⟩
abbrev kX6_init : xM := (yX6_init, cX6_init, 1, none, [])
abbrev kX6_image : xM := (yX6_image, cX6_image, 3, some .int, [])
abbrev kX6_lies : xM := (yX6_lies, cX6_lies, 3, some .boolean, [])
abbrev kX6_refuses : xM := (yX6_refuses, cX6_refuses, 2, some .int, [])
abbrev kX6_good : xM := (yX6_good, cX6_good, 2, some .int, [])
abbrev kX6_back : xM := (yX6_back, cX6_back, 3, some .int, [])
abbrev kX6_settled : xM := (yX6_settled, cX6_settled, 2, some .int, [])
abbrev kX6_note : xM := (yX6_note, cX6_note, 3, some .int, [])
abbrev kX6_isPitch : xM := (yX6_isPitch, cX6_isPitch, 1, some .boolean, [])
abbrev kX6_noteMany : xM := (yX6_noteMany, cX6_noteMany, 1, some .int, [])
abbrev kX6_adds : xM := (yX6_adds, cX6_adds, 3, none, [])
abbrev kX6_of : xM := (yX6_of, cX6_of, 3, some .int, [])
abbrev kX6_isNote : xM := (yX6_isNote, cX6_isNote, 2, some .boolean, [])
abbrev kX6_takesNow : xM := (yX6_takesNow, cX6_takesNow, 2, none, [])
abbrev kX6_takesNote : xM := (yX6_takesNote, cX6_takesNote, 5, none, [])
abbrev kX6_costsNow : xM := (yX6_costsNow, cX6_costsNow, 1, some .int, [])
abbrev kX6_bare : xM := (yX6_bare, cX6_bare, 1, some .int, [])
abbrev kX6_tells : xM := (yX6_tells, cX6_tells, 11, some .int, [])
abbrev kX6_codeAt : xM := (yX6_codeAt, cX6_codeAt, 2, some .int, [])
abbrev kX6_sumOf : xM := (yX6_sumOf, cX6_sumOf, 7, some .long, [])
abbrev kX6_termOf : xM := (yX6_termOf, cX6_termOf, 7, some .long, [])
abbrev kX6_partOf : xM := (yX6_partOf, cX6_partOf, 4, some .long, [])
abbrev kX6_sign : xM := (yX6_sign, cX6_sign, 1, some .int, [])
abbrev kX6_passes0 : xM := (yX6_passes0, cX6_passes0, 3, some .boolean, [])
abbrev kX6_orderValue : xM := (yX6_orderValue, cX6_orderValue, 3, some .int, [])
abbrev kX6_bounded : xM := (yX6_bounded, cX6_bounded, 4, some .long, [])
abbrev kX6_testOf : xM := (yX6_testOf, cX6_testOf, 4, some .boolean, [])
abbrev kX6_bothOf : xM := (yX6_bothOf, cX6_bothOf, 4, some .boolean, [])
abbrev kX6_plainOf : xM := (yX6_plainOf, cX6_plainOf, 3, some .boolean, [])
abbrev kX6_positiveOf : xM := (yX6_positiveOf, cX6_positiveOf, 7, some .boolean, [])
abbrev kX6_earnsNow : xM := (yX6_earnsNow, cX6_earnsNow, 1, some .int, [])
abbrev kX6_isBarred : xM := (yX6_isBarred, cX6_isBarred, 1, some .boolean, [])
abbrev kX6_at : xM := (yX6_at, cX6_at, 3, some .int, [])
abbrev kX6_apartOf : xM := (yX6_apartOf, cX6_apartOf, 2, some .int, [])
abbrev kX6_leapOf : xM := (yX6_leapOf, cX6_leapOf, 2, some .int, [])
abbrev kX6_terms : xM := (yX6_terms, cX6_terms, 4, some .int, [])
abbrev kX6_isTerm : xM := (yX6_isTerm, cX6_isTerm, 2, some .boolean, [])
abbrev kX6_termAt : xM := (yX6_termAt, cX6_termAt, 1, some .int, [])
abbrev kX6_row : xM := (yX6_row, cX6_row, 5, some .int, [])
abbrev kX6_blots : xM := (yX6_blots, cX6_blots, 1, some .int, [])
abbrev kX6_feed : xM := (yX6_feed, cX6_feed, 7, some .int, [])
abbrev kX6_end : xM := (yX6_end, cX6_end, 2, some .int, [])
abbrev kX6_law : xM := (yX6_law, cX6_law, 1, some .int, [])
abbrev kX6_readsAs : xM := (yX6_readsAs, cX6_readsAs, 2, some .boolean, [])
abbrev kX6_reads : xM := (yX6_reads, cX6_reads, 2, some .boolean, [])
abbrev kX6_splits : xM := (yX6_splits, cX6_splits, 6, none, [])
abbrev kX6_isSmall : xM := (yX6_isSmall, cX6_isSmall, 1, some .boolean, [])
abbrev kX6_isDigit : xM := (yX6_isDigit, cX6_isDigit, 1, some .boolean, [])
abbrev kX6_wordOf : xM := (yX6_wordOf, cX6_wordOf, 8, some .int, [])
abbrev kX6_readOne : xM := (yX6_readOne, cX6_readOne, 1, none, [])
abbrev kX6_readOrder : xM := (yX6_readOrder, cX6_readOrder, 1, none, [])
abbrev kX6_takes0 : xM := (yX6_takes0, cX6_takes0, 3, some .boolean, [])
abbrev kX6_fine : xM := (yX6_fine, cX6_fine, 1, some .boolean, [])
abbrev kX6_readSum : xM := (yX6_readSum, cX6_readSum, 2, none, [])
abbrev kX6_readTerm : xM := (yX6_readTerm, cX6_readTerm, 2, none, [])
abbrev kX6_readPart : xM := (yX6_readPart, cX6_readPart, 3, none, [])
abbrev kX6_faults : xM := (yX6_faults, cX6_faults, 1, none, [])
abbrev kX6_must : xM := (yX6_must, cX6_must, 2, none, [])
abbrev kX6_leaf : xM := (yX6_leaf, cX6_leaf, 1, none, [])
abbrev kX6_mustNumber : xM := (yX6_mustNumber, cX6_mustNumber, 3, none, [])
abbrev kX6_readTest : xM := (yX6_readTest, cX6_readTest, 2, none, [])
abbrev kX6_readBoth : xM := (yX6_readBoth, cX6_readBoth, 2, none, [])
abbrev kX6_readPlain : xM := (yX6_readPlain, cX6_readPlain, 4, none, [])
abbrev kX6_readClause : xM := (yX6_readClause, cX6_readClause, 1, none, [])
abbrev kX6_lays : xM := (yX6_lays, cX6_lays, 3, none, [])
abbrev kX6_fault : xM := (yX6_fault, cX6_fault, 1, some .int, [])
abbrev kX6_force : xM := (yX6_force, cX6_force, 3, some .int, [])
abbrev kX6_isLaw : xM := (yX6_isLaw, cX6_isLaw, 2, some .boolean, [])
abbrev kX6_all : xM := (yX6_all, cX6_all, 2, some .int, [])
abbrev kX6_allOf : xM := (yX6_allOf, cX6_allOf, 4, some .int, [])
abbrev kX6_undo : xM := (yX6_undo, cX6_undo, 3, some .int, [])
abbrev kX6_set : xM := (yX6_set, cX6_set, 3, some .int, [])
abbrev kX6_movesKept : xM := (yX6_movesKept, cX6_movesKept, 6, some .int, [])
abbrev kX6_keeps : xM := (yX6_keeps, cX6_keeps, 4, none, [])
abbrev kX6_goodOr : xM := (yX6_goodOr, cX6_goodOr, 2, some .int, [])
abbrev kX6_shift : xM := (yX6_shift, cX6_shift, 3, some .int, [])
abbrev kX6_swap : xM := (yX6_swap, cX6_swap, 1, some .int, [])
abbrev kX6_swapsKept : xM := (yX6_swapsKept, cX6_swapsKept, 1, some .int, [])
abbrev kX6_exchanges : xM := (yX6_exchanges, cX6_exchanges, 3, none, [])
abbrev kX6_pass : xM := (yX6_pass, cX6_pass, 1, some .int, [])
abbrev kX6_passesKept : xM := (yX6_passesKept, cX6_passesKept, 2, some .int, [])
abbrev kX6_best : xM := (yX6_best, cX6_best, 2, some .int, [])
abbrev kX6_voiceOf : xM := (yX6_voiceOf, cX6_voiceOf, 4, some .int, [])
abbrev kX6_laysNotes : xM := (yX6_laysNotes, cX6_laysNotes, 2, none, [])
abbrev kX6_laysNote : xM := (yX6_laysNote, cX6_laysNote, 5, none, [])
abbrev kX6_noteAt : xM := (yX6_noteAt, cX6_noteAt, 3, some .int, [])
abbrev kX6_leastOf : xM := (yX6_leastOf, cX6_leastOf, 3, some .int, [])
abbrev kX6_laysRest : xM := (yX6_laysRest, cX6_laysRest, 6, none, [])
abbrev kX6_leastFrom : xM := (yX6_leastFrom, cX6_leastFrom, 8, some .int, [])
abbrev kX6_priceOf : xM := (yX6_priceOf, cX6_priceOf, 5, some .int, [])
abbrev kX6_lesser : xM := (yX6_lesser, cX6_lesser, 2, some .int, [])
abbrev kX6_pitchOf : xM := (yX6_pitchOf, cX6_pitchOf, 7, some .int, [])
abbrev kX6_mend : xM := (yX6_mend, cX6_mend, 2, some .int, [])
abbrev kX6_between : xM := (yX6_between, cX6_between, 6, some .int, [])
abbrev kX6_isWithin : xM := (yX6_isWithin, cX6_isWithin, 2, some .boolean, [])
abbrev kX6_richest : xM := (yX6_richest, cX6_richest, 3, some .int, [])
abbrev kX6_mostFrom : xM := (yX6_mostFrom, cX6_mostFrom, 5, some .int, [])
abbrev kX6_greater : xM := (yX6_greater, cX6_greater, 2, some .int, [])
abbrev kX6_ways : xM := (yX6_ways, cX6_ways, 3, some .long, [])
abbrev kX6_waysFrom : xM := (yX6_waysFrom, cX6_waysFrom, 6, some .long, [])
abbrev kX6_compass : xM := (yX6_compass, cX6_compass, 4, some .int, [])
abbrev kX6_hasVoice : xM := (yX6_hasVoice, cX6_hasVoice, 3, some .boolean, [])
abbrev kX6_cheapest : xM := (yX6_cheapest, cX6_cheapest, 7, some .int, [])
abbrev kX6_leastShifted : xM := (yX6_leastShifted, cX6_leastShifted, 5, some .int, [])
abbrev kX6_compare : xM := (yX6_compare, cX6_compare, 4, some .int, [])
abbrev kX6_canon : xM := (yX6_canon, cX6_canon, 5, some .int, [])
abbrev kX6_isCanon : xM := (yX6_isCanon, cX6_isCanon, 6, some .boolean, [])
abbrev kX6_parallels : xM := (yX6_parallels, cX6_parallels, 4, some .int, [])
abbrev kX6_isParallel : xM := (yX6_isParallel, cX6_isParallel, 3, some .boolean, [])
abbrev kX6_interval : xM := (yX6_interval, cX6_interval, 2, some .int, [])
abbrev kX6_heard : xM := (yX6_heard, cX6_heard, 4, some .int, [])
abbrev kX6_forget : xM := (yX6_forget, cX6_forget, 2, some .int, [])
abbrev kX6_canBe : xM := (yX6_canBe, cX6_canBe, 3, some .int, [])
abbrev kX6_laysFacts : xM := (yX6_laysFacts, cX6_laysFacts, 2, none, [])
abbrev kX6_isSo : xM := (yX6_isSo, cX6_isSo, 4, some .boolean, [])
abbrev kX6_listen : xM := (yX6_listen, cX6_listen, 7, some .int, [])
abbrev kX6_ones : xM := (yX6_ones, cX6_ones, 3, some .int, [])
abbrev kX6_mostAlike : xM := (yX6_mostAlike, cX6_mostAlike, 7, some .int, [])
abbrev kX6_isIn : xM := (yX6_isIn, cX6_isIn, 2, some .boolean, [])
abbrev kX6_few : xM := (yX6_few, cX6_few, 6, some .long, [])
abbrev kX6_stopped : xM := (yX6_stopped, cX6_stopped, 1, some .int, [])
abbrev kX6_orders : xM := (yX6_orders, cX6_orders, 5, some .int, [])
abbrev kX6_laysAside : xM := (yX6_laysAside, cX6_laysAside, 3, none, [])
abbrev kX6_runs : xM := (yX6_runs, cX6_runs, 5, some .boolean, [])
abbrev kX6_goesAlong : xM := (yX6_goesAlong, cX6_goesAlong, 5, none, [])
abbrev kX6_obeys : xM := (yX6_obeys, cX6_obeys, 2, some .int, [])
abbrev kX6_small : xM := (yX6_small, cX6_small, 2, some .int, [])
abbrev kX6_takesBack : xM := (yX6_takesBack, cX6_takesBack, 3, none, [])
abbrev kX6_weeks : xM := (yX6_weeks, cX6_weeks, 5, some .int, [])
abbrev kX6_drawnAct : xM := (yX6_drawnAct, cX6_drawnAct, 4, none, [])
abbrev kX6_draws : xM := (yX6_draws, cX6_draws, 2, some .int, [])
abbrev kX6_drawn : xM := (yX6_drawn, cX6_drawn, 3, some .int, [])
abbrev kX6_count : xM := (yX6_count, cX6_count, 2, some .int, [])
abbrev kX6_refusals : xM := (yX6_refusals, cX6_refusals, 2, some .int, [])
abbrev kX6_status : xM := (yX6_status, cX6_status, 1, some .int, [])
theorem cv_X6_14 : xCV RX6 14 RX6 kX6_good 1 := ⟨q1767, q1769, qs50, q139, q1770, rfl, ⟨rfl, by decide +kernel, by decide +kernel, by decide +kernel⟩, by decide⟩
theorem cs_X6_18 : xCS RX6 18 kX6_lies 3 := ⟨q1760, q1761, q139, q1762, rfl, ⟨by decide +kernel, by decide +kernel, by decide +kernel⟩, by decide⟩
theorem cv_X6_106 : xCV RX6 106 RX6 kX6_refuses 1 := ⟨q1763, q1765, qs49, q139, q1766, rfl, ⟨rfl, by decide +kernel, by decide +kernel, by decide +kernel⟩, by decide⟩
theorem cv_X6_109 : xCV RX6 109 RX6 kX6_settled 1 := ⟨q1775, q1777, qs51, q139, q1778, rfl, ⟨rfl, by decide +kernel, by decide +kernel, by decide +kernel⟩, by decide⟩
theorem cv_X6_112 : xCV RX6 112 RX6 kX6_noteMany 0 := ⟨q1786, q1788, qs52, q139, q1789, rfl, ⟨rfl, by decide +kernel, by decide +kernel, by decide +kernel⟩, by decide⟩
theorem cs_X6_116 : xCS RX6 116 kX6_isPitch 1 := ⟨q1783, q1784, q139, q1785, rfl, ⟨by decide +kernel, by decide +kernel, by decide +kernel⟩, by decide⟩
theorem cv_X6_120 : xCV RX6 120 RX6 kX6_adds 2 := ⟨q1790, q1792, qs53, q139, q1793, rfl, ⟨rfl, by decide +kernel, by decide +kernel, by decide +kernel⟩, by decide⟩
theorem cv_X6_124 : xCV RX6 124 RX6 kX6_isNote 1 := ⟨q1798, q1800, qs54, q139, q1801, rfl, ⟨rfl, by decide +kernel, by decide +kernel, by decide +kernel⟩, by decide⟩
theorem cv_X6_127 : xCV RX6 127 RX6 kX6_takesNow 1 := ⟨q1802, q1804, qs55, q139, q1805, rfl, ⟨rfl, by decide +kernel, by decide +kernel, by decide +kernel⟩, by decide⟩
theorem cv_X6_131 : xCV RX6 131 RX6 kX6_costsNow 0 := ⟨q1810, q1812, qs57, q139, q1813, rfl, ⟨rfl, by decide +kernel, by decide +kernel, by decide +kernel⟩, by decide⟩
theorem cv_X6_134 : xCV RX6 134 RX6 kX6_earnsNow 0 := ⟨q1870, q1872, qs70, q139, q1873, rfl, ⟨rfl, by decide +kernel, by decide +kernel, by decide +kernel⟩, by decide⟩
theorem cv_X6_137 : xCV RX6 137 RX6 kX6_isBarred 0 := ⟨q1874, q1876, qs71, q139, q1877, rfl, ⟨rfl, by decide +kernel, by decide +kernel, by decide +kernel⟩, by decide⟩
theorem cv_X6_141 : xCV RX6 141 RX6 kX6_apartOf 1 := ⟨q1882, q1884, qs72, q139, q1885, rfl, ⟨rfl, by decide +kernel, by decide +kernel, by decide +kernel⟩, by decide⟩
theorem cv_X6_144 : xCV RX6 144 RX6 kX6_leapOf 1 := ⟨q1886, q1888, qs73, q139, q1889, rfl, ⟨rfl, by decide +kernel, by decide +kernel, by decide +kernel⟩, by decide⟩
theorem cs_X6_147 : xCS RX6 147 kX6_isTerm 2 := ⟨q1894, q1895, q139, q1896, rfl, ⟨by decide +kernel, by decide +kernel, by decide +kernel⟩, by decide⟩
theorem cs_X6_151 : xCS RX6 151 kX6_termAt 1 := ⟨q1897, q1898, q139, q1899, rfl, ⟨by decide +kernel, by decide +kernel, by decide +kernel⟩, by decide⟩
theorem cs_X6_163 : xCS RX6 163 kX6_isSmall 1 := ⟨q1932, q1933, q139, q1934, rfl, ⟨by decide +kernel, by decide +kernel, by decide +kernel⟩, by decide⟩
theorem cs_X6_166 : xCS RX6 166 kX6_isDigit 1 := ⟨q1935, q1936, q139, q1937, rfl, ⟨by decide +kernel, by decide +kernel, by decide +kernel⟩, by decide⟩
theorem cv_X6_169 : xCV RX6 169 RX6 kX6_wordOf 2 := ⟨q1938, q1940, qs77, q139, q1941, rfl, ⟨rfl, by decide +kernel, by decide +kernel, by decide +kernel⟩, by decide⟩
theorem cv_X6_177 : xCV RX6 177 RX6 kX6_fine 0 := ⟨q1955, q1957, qs81, q139, q1958, rfl, ⟨rfl, by decide +kernel, by decide +kernel, by decide +kernel⟩, by decide⟩
theorem cv_X6_183 : xCV RX6 183 RX6 kX6_takes0 1 := ⟨q1951, q1953, qs80, q139, q1954, rfl, ⟨rfl, by decide +kernel, by decide +kernel, by decide +kernel⟩, by decide⟩
theorem cv_X6_186 : xCV RX6 186 RX6 kX6_faults 0 := ⟨q1971, q1973, qs85, q139, q1974, rfl, ⟨rfl, by decide +kernel, by decide +kernel, by decide +kernel⟩, by decide⟩
theorem cv_X6_192 : xCV RX6 192 RX6 kX6_readSum 1 := ⟨q1959, q1961, qs82, q139, q1962, rfl, ⟨rfl, by decide +kernel, by decide +kernel, by decide +kernel⟩, by decide⟩
theorem cv_X6_195 : xCV RX6 195 RX6 kX6_must 1 := ⟨q1975, q1977, qs86, q139, q1978, rfl, ⟨rfl, by decide +kernel, by decide +kernel, by decide +kernel⟩, by decide⟩
theorem cv_X6_198 : xCV RX6 198 RX6 kX6_readTest 1 := ⟨q1987, q1989, qs89, q139, q1990, rfl, ⟨rfl, by decide +kernel, by decide +kernel, by decide +kernel⟩, by decide⟩
theorem cv_X6_201 : xCV RX6 201 RX6 kX6_mustNumber 2 := ⟨q1983, q1985, qs88, q139, q1986, rfl, ⟨rfl, by decide +kernel, by decide +kernel, by decide +kernel⟩, by decide⟩
theorem cv_X6_208 : xCV RX6 208 RX6 kX6_readOrder 0 := ⟨q1947, q1949, qs79, q139, q1950, rfl, ⟨rfl, by decide +kernel, by decide +kernel, by decide +kernel⟩, by decide⟩
theorem cv_X6_211 : xCV RX6 211 RX6 kX6_readClause 0 := ⟨q1999, q2001, qs92, q139, q2002, rfl, ⟨rfl, by decide +kernel, by decide +kernel, by decide +kernel⟩, by decide⟩
theorem cv_X6_214 : xCV RX6 214 RX6 kX6_readBoth 1 := ⟨q1991, q1993, qs90, q139, q1994, rfl, ⟨rfl, by decide +kernel, by decide +kernel, by decide +kernel⟩, by decide⟩
theorem cv_X6_217 : xCV RX6 217 RX6 kX6_readPlain 1 := ⟨q1995, q1997, qs91, q139, q1998, rfl, ⟨rfl, by decide +kernel, by decide +kernel, by decide +kernel⟩, by decide⟩
theorem cs_X6_220 : xCS RX6 220 kX6_sign 1 := ⟨q1837, q1838, q139, q1839, rfl, ⟨by decide +kernel, by decide +kernel, by decide +kernel⟩, by decide⟩
theorem cv_X6_224 : xCV RX6 224 RX6 kX6_readTerm 1 := ⟨q1963, q1965, qs83, q139, q1966, rfl, ⟨rfl, by decide +kernel, by decide +kernel, by decide +kernel⟩, by decide⟩
theorem cv_X6_227 : xCV RX6 227 RX6 kX6_readPart 1 := ⟨q1967, q1969, qs84, q139, q1970, rfl, ⟨rfl, by decide +kernel, by decide +kernel, by decide +kernel⟩, by decide⟩
theorem cv_X6_236 : xCV RX6 236 RX6 kX6_leaf 0 := ⟨q1979, q1981, qs87, q139, q1982, rfl, ⟨rfl, by decide +kernel, by decide +kernel, by decide +kernel⟩, by decide⟩
theorem cv_X6_239 : xCV RX6 239 RX6 kX6_splits 1 := ⟨q1928, q1930, qs76, q139, q1931, rfl, ⟨rfl, by decide +kernel, by decide +kernel, by decide +kernel⟩, by decide⟩
theorem cv_X6_242 : xCV RX6 242 RX6 kX6_readOne 0 := ⟨q1943, q1945, qs78, q139, q1946, rfl, ⟨rfl, by decide +kernel, by decide +kernel, by decide +kernel⟩, by decide⟩
theorem cv_X6_245 : xCV RX6 245 RX6 kX6_reads 0 := ⟨q1924, q1926, qs75, q139, q1927, rfl, ⟨rfl, by decide +kernel, by decide +kernel, by decide +kernel⟩, by decide⟩
theorem cv_X6_248 : xCV RX6 248 RX6 kX6_readsAs 1 := ⟨q1920, q1922, qs74, q139, q1923, rfl, ⟨rfl, by decide +kernel, by decide +kernel, by decide +kernel⟩, by decide⟩
theorem cv_X6_252 : xCV RX6 252 RX6 kX6_lays 1 := ⟨q2003, q2005, qs93, q139, q2006, rfl, ⟨rfl, by decide +kernel, by decide +kernel, by decide +kernel⟩, by decide⟩
theorem cv_X6_255 : xCV RX6 255 RX6 kX6_isLaw 1 := ⟨q2015, q2017, qs94, q139, q2018, rfl, ⟨rfl, by decide +kernel, by decide +kernel, by decide +kernel⟩, by decide⟩
theorem cv_X6_264 : xCV RX6 264 RX6 kX6_codeAt 1 := ⟨q1821, q1823, qs59, q139, q1824, rfl, ⟨rfl, by decide +kernel, by decide +kernel, by decide +kernel⟩, by decide⟩
theorem cv_X6_274 : xCV RX6 274 RX6 kX6_termOf 1 := ⟨q1829, q1831, qs61, q139, q1832, rfl, ⟨rfl, by decide +kernel, by decide +kernel, by decide +kernel⟩, by decide⟩
theorem cv_X6_278 : xCV RX6 278 RX6 kX6_bounded 2 := ⟨q1848, q1850, qs65, q139, q1851, rfl, ⟨rfl, by decide +kernel, by decide +kernel, by decide +kernel⟩, by decide⟩
theorem cv_X6_282 : xCV RX6 282 RX6 kX6_partOf 1 := ⟨q1833, q1835, qs62, q139, q1836, rfl, ⟨rfl, by decide +kernel, by decide +kernel, by decide +kernel⟩, by decide⟩
theorem cv_X6_285 : xCV RX6 285 RX6 kX6_passes0 1 := ⟨q1840, q1842, qs63, q139, q1843, rfl, ⟨rfl, by decide +kernel, by decide +kernel, by decide +kernel⟩, by decide⟩
theorem cv_X6_288 : xCV RX6 288 RX6 kX6_sumOf 1 := ⟨q1825, q1827, qs60, q139, q1828, rfl, ⟨rfl, by decide +kernel, by decide +kernel, by decide +kernel⟩, by decide⟩
theorem cv_X6_294 : xCV RX6 294 RX6 kX6_orderValue 2 := ⟨q1844, q1846, qs64, q139, q1847, rfl, ⟨rfl, by decide +kernel, by decide +kernel, by decide +kernel⟩, by decide⟩
theorem cv_X6_309 : xCV RX6 309 RX6 kX6_bothOf 1 := ⟨q1858, q1860, qs67, q139, q1861, rfl, ⟨rfl, by decide +kernel, by decide +kernel, by decide +kernel⟩, by decide⟩
theorem cv_X6_312 : xCV RX6 312 RX6 kX6_plainOf 1 := ⟨q1862, q1864, qs68, q139, q1865, rfl, ⟨rfl, by decide +kernel, by decide +kernel, by decide +kernel⟩, by decide⟩
theorem cv_X6_315 : xCV RX6 315 RX6 kX6_positiveOf 1 := ⟨q1866, q1868, qs69, q139, q1869, rfl, ⟨rfl, by decide +kernel, by decide +kernel, by decide +kernel⟩, by decide⟩
theorem cv_X6_318 : xCV RX6 318 RX6 kX6_testOf 1 := ⟨q1854, q1856, qs66, q139, q1857, rfl, ⟨rfl, by decide +kernel, by decide +kernel, by decide +kernel⟩, by decide⟩
theorem cv_X6_321 : xCV RX6 321 RX6 kX6_takesNote 4 := ⟨q1806, q1808, qs56, q139, q1809, rfl, ⟨rfl, by decide +kernel, by decide +kernel, by decide +kernel⟩, by decide⟩
theorem cs_X6_325 : xCS RX6 325 kX6_bare 1 := ⟨q1814, q1815, q139, q1816, rfl, ⟨by decide +kernel, by decide +kernel, by decide +kernel⟩, by decide⟩
theorem cv_X6_328 : xCV RX6 328 RX6 kX6_tells 3 := ⟨q1817, q1819, qs58, q139, q1820, rfl, ⟨rfl, by decide +kernel, by decide +kernel, by decide +kernel⟩, by decide⟩
theorem cv_X6_332 : xCV RX6 332 RX6 kX6_allOf 1 := ⟨q2023, q2025, qs95, q139, q2026, rfl, ⟨rfl, by decide +kernel, by decide +kernel, by decide +kernel⟩, by decide⟩
theorem cv_X6_335 : xCV RX6 335 RX6 kX6_keeps 1 := ⟨q2039, q2041, qs97, q139, q2042, rfl, ⟨rfl, by decide +kernel, by decide +kernel, by decide +kernel⟩, by decide⟩
theorem cv_X6_338 : xCV RX6 338 RX6 kX6_exchanges 0 := ⟨q2059, q2061, qs100, q139, q2062, rfl, ⟨rfl, by decide +kernel, by decide +kernel, by decide +kernel⟩, by decide⟩
theorem cv_X6_341 : xCV RX6 341 RX6 kX6_movesKept 4 := ⟨q2035, q2037, qs96, q139, q2038, rfl, ⟨rfl, by decide +kernel, by decide +kernel, by decide +kernel⟩, by decide⟩
theorem cv_X6_345 : xCV RX6 345 RX6 kX6_goodOr 1 := ⟨q2043, q2045, qs98, q139, q2046, rfl, ⟨rfl, by decide +kernel, by decide +kernel, by decide +kernel⟩, by decide⟩
theorem cv_X6_348 : xCV RX6 348 RX6 kX6_swapsKept 0 := ⟨q2055, q2057, qs99, q139, q2058, rfl, ⟨rfl, by decide +kernel, by decide +kernel, by decide +kernel⟩, by decide⟩
theorem cv_X6_351 : xCV RX6 351 RX6 kX6_passesKept 0 := ⟨q2067, q2069, qs101, q139, q2070, rfl, ⟨rfl, by decide +kernel, by decide +kernel, by decide +kernel⟩, by decide⟩
theorem cs_X6_354 : xCS RX6 354 kX6_noteAt 3 := ⟨q2087, q2088, q139, q2089, rfl, ⟨by decide +kernel, by decide +kernel, by decide +kernel⟩, by decide⟩
theorem cv_X6_357 : xCV RX6 357 RX6 kX6_laysNote 1 := ⟨q2083, q2085, qs104, q139, q2086, rfl, ⟨rfl, by decide +kernel, by decide +kernel, by decide +kernel⟩, by decide⟩
theorem cv_X6_360 : xCV RX6 360 RX6 kX6_leastFrom 5 := ⟨q2098, q2100, qs107, q139, q2101, rfl, ⟨rfl, by decide +kernel, by decide +kernel, by decide +kernel⟩, by decide⟩
theorem cv_X6_365 : xCV RX6 365 RX6 kX6_priceOf 4 := ⟨q2103, q2105, qs108, q139, q2106, rfl, ⟨rfl, by decide +kernel, by decide +kernel, by decide +kernel⟩, by decide⟩
theorem cs_X6_369 : xCS RX6 369 kX6_lesser 2 := ⟨q2107, q2108, q139, q2109, rfl, ⟨by decide +kernel, by decide +kernel, by decide +kernel⟩, by decide⟩
theorem cv_X6_372 : xCV RX6 372 RX6 kX6_laysRest 3 := ⟨q2094, q2096, qs106, q139, q2097, rfl, ⟨rfl, by decide +kernel, by decide +kernel, by decide +kernel⟩, by decide⟩
theorem cv_X6_376 : xCV RX6 376 RX6 kX6_laysNotes 0 := ⟨q2079, q2081, qs103, q139, q2082, rfl, ⟨rfl, by decide +kernel, by decide +kernel, by decide +kernel⟩, by decide⟩
theorem cv_X6_379 : xCV RX6 379 RX6 kX6_leastOf 1 := ⟨q2090, q2092, qs105, q139, q2093, rfl, ⟨rfl, by decide +kernel, by decide +kernel, by decide +kernel⟩, by decide⟩
theorem cv_X6_383 : xCV RX6 383 RX6 kX6_pitchOf 2 := ⟨q2110, q2112, qs109, q139, q2113, rfl, ⟨rfl, by decide +kernel, by decide +kernel, by decide +kernel⟩, by decide⟩
theorem cv_X6_387 : xCV RX6 387 RX6 kX6_voiceOf 2 := ⟨q2075, q2077, qs102, q139, q2078, rfl, ⟨rfl, by decide +kernel, by decide +kernel, by decide +kernel⟩, by decide⟩
theorem cv_X6_390 : xCV RX6 390 RX6 kX6_isWithin 1 := ⟨q2122, q2124, qs110, q139, q2125, rfl, ⟨rfl, by decide +kernel, by decide +kernel, by decide +kernel⟩, by decide⟩
theorem cv_X6_393 : xCV RX6 393 RX6 kX6_mostFrom 2 := ⟨q2130, q2132, qs111, q139, q2133, rfl, ⟨rfl, by decide +kernel, by decide +kernel, by decide +kernel⟩, by decide⟩
theorem cs_X6_397 : xCS RX6 397 kX6_greater 2 := ⟨q2135, q2136, q139, q2137, rfl, ⟨by decide +kernel, by decide +kernel, by decide +kernel⟩, by decide⟩
theorem cv_X6_400 : xCV RX6 400 RX6 kX6_waysFrom 2 := ⟨q2142, q2144, qs112, q139, q2145, rfl, ⟨rfl, by decide +kernel, by decide +kernel, by decide +kernel⟩, by decide⟩
theorem cv_X6_404 : xCV RX6 404 RX6 kX6_hasVoice 2 := ⟨q2150, q2152, qs113, q139, q2153, rfl, ⟨rfl, by decide +kernel, by decide +kernel, by decide +kernel⟩, by decide⟩
theorem cv_X6_407 : xCV RX6 407 RX6 kX6_leastShifted 2 := ⟨q2158, q2160, qs114, q139, q2161, rfl, ⟨rfl, by decide +kernel, by decide +kernel, by decide +kernel⟩, by decide⟩
theorem cv_X6_410 : xCV RX6 410 RX6 kX6_isCanon 2 := ⟨q2170, q2172, qs115, q139, q2173, rfl, ⟨rfl, by decide +kernel, by decide +kernel, by decide +kernel⟩, by decide⟩
theorem cv_X6_413 : xCV RX6 413 RX6 kX6_interval 1 := ⟨q2182, q2184, qs117, q139, q2185, rfl, ⟨rfl, by decide +kernel, by decide +kernel, by decide +kernel⟩, by decide⟩
theorem cv_X6_416 : xCV RX6 416 RX6 kX6_isParallel 2 := ⟨q2178, q2180, qs116, q139, q2181, rfl, ⟨rfl, by decide +kernel, by decide +kernel, by decide +kernel⟩, by decide⟩
theorem cv_X6_419 : xCV RX6 419 RX6 kX6_laysFacts 0 := ⟨q2198, q2200, qs118, q139, q2201, rfl, ⟨rfl, by decide +kernel, by decide +kernel, by decide +kernel⟩, by decide⟩
theorem cv_X6_422 : xCV RX6 422 RX6 kX6_isSo 1 := ⟨q2202, q2204, qs119, q139, q2205, rfl, ⟨rfl, by decide +kernel, by decide +kernel, by decide +kernel⟩, by decide⟩
theorem cs_X6_425 : xCS RX6 425 kX6_isIn 2 := ⟨q2218, q2219, q139, q2220, rfl, ⟨by decide +kernel, by decide +kernel, by decide +kernel⟩, by decide⟩
theorem cv_X6_428 : xCV RX6 428 RX6 kX6_canBe 0 := ⟨q2210, q2195, q2196, q139, q2197, rfl, ⟨rfl, by decide +kernel, by decide +kernel, by decide +kernel⟩, by decide⟩
theorem cs_X6_431 : xCS RX6 431 kX6_ones 1 := ⟨q2211, q2212, q139, q2213, rfl, ⟨by decide +kernel, by decide +kernel, by decide +kernel⟩, by decide⟩
theorem cv_X6_434 : xCV RX6 434 RX6 kX6_mostAlike 2 := ⟨q2214, q2216, qs120, q139, q2217, rfl, ⟨rfl, by decide +kernel, by decide +kernel, by decide +kernel⟩, by decide⟩
theorem cv_X6_443 : xCV RX6 443 RX6 kX6_laysAside 1 := ⟨q2236, q2238, qs121, q139, q2239, rfl, ⟨rfl, by decide +kernel, by decide +kernel, by decide +kernel⟩, by decide⟩
theorem cv_X6_449 : xCV RX6 449 RX6 kX6_runs 1 := ⟨q2240, q2242, qs122, q139, q2243, rfl, ⟨rfl, by decide +kernel, by decide +kernel, by decide +kernel⟩, by decide⟩
theorem cv_X6_452 : xCV RX6 452 RX6 kX6_takesBack 1 := ⟨q2256, q2258, qs125, q139, q2259, rfl, ⟨rfl, by decide +kernel, by decide +kernel, by decide +kernel⟩, by decide⟩
theorem cs_X6_469 : xCS RX6 469 kX6_small 1 := ⟨q2252, q2253, q139, q2254, rfl, ⟨by decide +kernel, by decide +kernel, by decide +kernel⟩, by decide⟩
theorem cv_X6_473 : xCV RX6 473 RX6 kX6_goesAlong 2 := ⟨q2244, q2246, qs123, q139, q2247, rfl, ⟨rfl, by decide +kernel, by decide +kernel, by decide +kernel⟩, by decide⟩
theorem cv_X6_477 : xCV RX6 477 RX6 kX6_obeys 0 := ⟨q2248, q2250, qs124, q139, q2251, rfl, ⟨rfl, by decide +kernel, by decide +kernel, by decide +kernel⟩, by decide⟩
theorem cv_X6_489 : xCV RX6 489 RX6 kX6_draws 1 := ⟨q2268, q2270, qs127, q139, q2271, rfl, ⟨rfl, by decide +kernel, by decide +kernel, by decide +kernel⟩, by decide⟩
theorem cv_X6_492 : xCV RX6 492 RX6 kX6_drawnAct 0 := ⟨q2264, q2266, qs126, q139, q2267, rfl, ⟨rfl, by decide +kernel, by decide +kernel, by decide +kernel⟩, by decide⟩
theorem cv_X6_495 : xCV RX6 495 RX6 kX6_refusals 1 := ⟨q2283, q2285, qs128, q139, q2286, rfl, ⟨rfl, by decide +kernel, by decide +kernel, by decide +kernel⟩, by decide⟩
/-! ends and calls of the reference's methods -/
def mQi (G : xG) (a : Nat → Nat) (g : xH) (K : Int32 → mS → Prop) : xR → xH → Prop := fun r h1 => ∃ (v : Int32) (s1 : mS), K v s1 ∧ r = .inl (some (.int v)) ∧ h1 = mH G a s1 g
def mQl (G : xG) (a : Nat → Nat) (g : xH) (K : Int64 → mS → Prop) : xR → xH → Prop := fun r h1 => ∃ (v : Int64) (s1 : mS), K v s1 ∧ r = .inl (some (.long v)) ∧ h1 = mH G a s1 g
def mQv (G : xG) (a : Nat → Nat) (g : xH) (K : mS → Prop) : xR → xH → Prop := fun r h1 => ∃ (s1 : mS), K s1 ∧ r = .inl none ∧ h1 = mH G a s1 g
/-- a method that leaves the world -/
def xQi (h : xH) (K : Int32 → Prop) : xR → xH → Prop := fun r h1 => ∃ v : Int32, K v ∧ r = .inl (some (.int v)) ∧ h1 = h
def xQl (h : xH) (K : Int64 → Prop) : xR → xH → Prop := fun r h1 => ∃ v : Int64, K v ∧ r = .inl (some (.long v)) ∧ h1 = h
section MC
variable {G : xG} {l : Launch} {M M' : xM} {d : Nat} {Q : xR → xH → Prop} {pc : Nat} {lv : xLs} {st rest : List Value} {a : Nat → Nat} {s : mS} {g h : xH} {idx : Nat}
theorem m_cV {As : List Value} {Q' : xR → xH → Prop} {ar : Nat} (ha : mInj a) (hh : M.2.2.2.2 = []) (hw : xCV M.1.cls idx RX6 M' ar) (har : As.length = ar) (hst : st = As.reverse ++ .ref (a 51) :: rest) (hrm : (rest.map fun v => v.category).sum ≤ 8) (hdg : decode M.2.1 pc = .ok (.invokevirtual idx, 3)) (hC : xC G l M' d 0 0 (.ref (a 51) :: As) (mH G a s g) Q')
    (kx : ∀ (E : String) (q : Addr) (h1 : xH), Q' (.inr (E, q)) h1 → Q (.inr (E, q)) h1) (kk : ∀ (v : Option Value) (h1 : xH), Q' (.inl v) h1 → xF G l M (d + 1) 0 0 Q (pc + 3) lv (v.toList ++ rest) h1) : xF G l M (d + 1) 0 0 Q pc lv st (mH G a s g) :=
  x_cV hh hw (ci := 6) rfl (mH_at ha (by decide)) har hst hrm hdg hC ⟨Nat.le_refl _, Nat.le_refl _⟩ kx kk
theorem m_cVi0 {K : Int32 → mS → Prop} (ha : mInj a) (hh : M.2.2.2.2 = []) (hw : xCV M.1.cls idx RX6 M' 0) (hrm : (rest.map fun v => v.category).sum ≤ 8) (hdg : decode M.2.1 pc = .ok (.invokevirtual idx, 3)) (hC : xC G l M' d 0 0 (.ref (a 51) :: []) (mH G a s g) (mQi G a g K))
    (kk : ∀ (v : Int32) (s1 : mS), K v s1 → xF G l M (d + 1) 0 0 Q (pc + 3) lv (.int v :: rest) (mH G a s1 g)) : xF G l M (d + 1) 0 0 Q pc lv (.ref (a 51) :: rest) (mH G a s g) := by
  refine m_cV (As := []) ha hh hw rfl rfl hrm hdg hC (fun E q h1 hq => ?_) (fun v h1 hq => ?_)
  · obtain ⟨v, s1, -, e, -⟩ := hq
    cases e
  · obtain ⟨v, s1, h2, e, rfl⟩ := hq
    cases e
    exact kk v s1 h2
theorem m_cSi0 {K : Int32 → Prop} (hh : M.2.2.2.2 = []) (hw : xCS M.1.cls idx M' 0) (hrm : (rest.map fun v => v.category).sum ≤ 8) (hdg : decode M.2.1 pc = .ok (.invokestatic idx, 3)) (hC : xC G l M' d 0 0 [] h (xQi h K))
    (kk : ∀ (v : Int32), K v → xF G l M (d + 1) 0 0 Q (pc + 3) lv (.int v :: rest) h) : xF G l M (d + 1) 0 0 Q pc lv (rest) h := by
  refine x_cS (As := []) hh hw rfl rfl hrm hdg hC ⟨Nat.le_refl _, Nat.le_refl _⟩ (fun E q h1 hq => ?_) (fun v h1 hq => ?_)
  · obtain ⟨v, -, e, -⟩ := hq
    cases e
  · obtain ⟨v, h2, e, rfl⟩ := hq
    cases e
    exact kk v h2
theorem m_cVl0 {K : Int64 → mS → Prop} (ha : mInj a) (hh : M.2.2.2.2 = []) (hw : xCV M.1.cls idx RX6 M' 0) (hrm : (rest.map fun v => v.category).sum ≤ 8) (hdg : decode M.2.1 pc = .ok (.invokevirtual idx, 3)) (hC : xC G l M' d 0 0 (.ref (a 51) :: []) (mH G a s g) (mQl G a g K))
    (kk : ∀ (v : Int64) (s1 : mS), K v s1 → xF G l M (d + 1) 0 0 Q (pc + 3) lv (.long v :: rest) (mH G a s1 g)) : xF G l M (d + 1) 0 0 Q pc lv (.ref (a 51) :: rest) (mH G a s g) := by
  refine m_cV (As := []) ha hh hw rfl rfl hrm hdg hC (fun E q h1 hq => ?_) (fun v h1 hq => ?_)
  · obtain ⟨v, s1, -, e, -⟩ := hq
    cases e
  · obtain ⟨v, s1, h2, e, rfl⟩ := hq
    cases e
    exact kk v s1 h2
theorem m_cSl0 {K : Int64 → Prop} (hh : M.2.2.2.2 = []) (hw : xCS M.1.cls idx M' 0) (hrm : (rest.map fun v => v.category).sum ≤ 8) (hdg : decode M.2.1 pc = .ok (.invokestatic idx, 3)) (hC : xC G l M' d 0 0 [] h (xQl h K))
    (kk : ∀ (v : Int64), K v → xF G l M (d + 1) 0 0 Q (pc + 3) lv (.long v :: rest) h) : xF G l M (d + 1) 0 0 Q pc lv (rest) h := by
  refine x_cS (As := []) hh hw rfl rfl hrm hdg hC ⟨Nat.le_refl _, Nat.le_refl _⟩ (fun E q h1 hq => ?_) (fun v h1 hq => ?_)
  · obtain ⟨v, -, e, -⟩ := hq
    cases e
  · obtain ⟨v, h2, e, rfl⟩ := hq
    cases e
    exact kk v h2
theorem m_cVv0 {K : mS → Prop} (ha : mInj a) (hh : M.2.2.2.2 = []) (hw : xCV M.1.cls idx RX6 M' 0) (hrm : (rest.map fun v => v.category).sum ≤ 8) (hdg : decode M.2.1 pc = .ok (.invokevirtual idx, 3)) (hC : xC G l M' d 0 0 (.ref (a 51) :: []) (mH G a s g) (mQv G a g K))
    (kk : ∀ (s1 : mS), K s1 → xF G l M (d + 1) 0 0 Q (pc + 3) lv rest (mH G a s1 g)) : xF G l M (d + 1) 0 0 Q pc lv (.ref (a 51) :: rest) (mH G a s g) := by
  refine m_cV (As := []) ha hh hw rfl rfl hrm hdg hC (fun E q h1 hq => ?_) (fun v h1 hq => ?_)
  · obtain ⟨s1, -, e, -⟩ := hq
    cases e
  · obtain ⟨s1, h2, e, rfl⟩ := hq
    cases e
    exact kk s1 h2
theorem m_cVi1 {x0 : Value} {K : Int32 → mS → Prop} (ha : mInj a) (hh : M.2.2.2.2 = []) (hw : xCV M.1.cls idx RX6 M' 1) (hrm : (rest.map fun v => v.category).sum ≤ 8) (hdg : decode M.2.1 pc = .ok (.invokevirtual idx, 3)) (hC : xC G l M' d 0 0 (.ref (a 51) :: [x0]) (mH G a s g) (mQi G a g K))
    (kk : ∀ (v : Int32) (s1 : mS), K v s1 → xF G l M (d + 1) 0 0 Q (pc + 3) lv (.int v :: rest) (mH G a s1 g)) : xF G l M (d + 1) 0 0 Q pc lv (x0 :: .ref (a 51) :: rest) (mH G a s g) := by
  refine m_cV (As := [x0]) ha hh hw rfl rfl hrm hdg hC (fun E q h1 hq => ?_) (fun v h1 hq => ?_)
  · obtain ⟨v, s1, -, e, -⟩ := hq
    cases e
  · obtain ⟨v, s1, h2, e, rfl⟩ := hq
    cases e
    exact kk v s1 h2
theorem m_cSi1 {x0 : Value} {K : Int32 → Prop} (hh : M.2.2.2.2 = []) (hw : xCS M.1.cls idx M' 1) (hrm : (rest.map fun v => v.category).sum ≤ 8) (hdg : decode M.2.1 pc = .ok (.invokestatic idx, 3)) (hC : xC G l M' d 0 0 [x0] h (xQi h K))
    (kk : ∀ (v : Int32), K v → xF G l M (d + 1) 0 0 Q (pc + 3) lv (.int v :: rest) h) : xF G l M (d + 1) 0 0 Q pc lv (x0 :: rest) h := by
  refine x_cS (As := [x0]) hh hw rfl rfl hrm hdg hC ⟨Nat.le_refl _, Nat.le_refl _⟩ (fun E q h1 hq => ?_) (fun v h1 hq => ?_)
  · obtain ⟨v, -, e, -⟩ := hq
    cases e
  · obtain ⟨v, h2, e, rfl⟩ := hq
    cases e
    exact kk v h2
theorem m_cVl1 {x0 : Value} {K : Int64 → mS → Prop} (ha : mInj a) (hh : M.2.2.2.2 = []) (hw : xCV M.1.cls idx RX6 M' 1) (hrm : (rest.map fun v => v.category).sum ≤ 8) (hdg : decode M.2.1 pc = .ok (.invokevirtual idx, 3)) (hC : xC G l M' d 0 0 (.ref (a 51) :: [x0]) (mH G a s g) (mQl G a g K))
    (kk : ∀ (v : Int64) (s1 : mS), K v s1 → xF G l M (d + 1) 0 0 Q (pc + 3) lv (.long v :: rest) (mH G a s1 g)) : xF G l M (d + 1) 0 0 Q pc lv (x0 :: .ref (a 51) :: rest) (mH G a s g) := by
  refine m_cV (As := [x0]) ha hh hw rfl rfl hrm hdg hC (fun E q h1 hq => ?_) (fun v h1 hq => ?_)
  · obtain ⟨v, s1, -, e, -⟩ := hq
    cases e
  · obtain ⟨v, s1, h2, e, rfl⟩ := hq
    cases e
    exact kk v s1 h2
theorem m_cSl1 {x0 : Value} {K : Int64 → Prop} (hh : M.2.2.2.2 = []) (hw : xCS M.1.cls idx M' 1) (hrm : (rest.map fun v => v.category).sum ≤ 8) (hdg : decode M.2.1 pc = .ok (.invokestatic idx, 3)) (hC : xC G l M' d 0 0 [x0] h (xQl h K))
    (kk : ∀ (v : Int64), K v → xF G l M (d + 1) 0 0 Q (pc + 3) lv (.long v :: rest) h) : xF G l M (d + 1) 0 0 Q pc lv (x0 :: rest) h := by
  refine x_cS (As := [x0]) hh hw rfl rfl hrm hdg hC ⟨Nat.le_refl _, Nat.le_refl _⟩ (fun E q h1 hq => ?_) (fun v h1 hq => ?_)
  · obtain ⟨v, -, e, -⟩ := hq
    cases e
  · obtain ⟨v, h2, e, rfl⟩ := hq
    cases e
    exact kk v h2
theorem m_cVv1 {x0 : Value} {K : mS → Prop} (ha : mInj a) (hh : M.2.2.2.2 = []) (hw : xCV M.1.cls idx RX6 M' 1) (hrm : (rest.map fun v => v.category).sum ≤ 8) (hdg : decode M.2.1 pc = .ok (.invokevirtual idx, 3)) (hC : xC G l M' d 0 0 (.ref (a 51) :: [x0]) (mH G a s g) (mQv G a g K))
    (kk : ∀ (s1 : mS), K s1 → xF G l M (d + 1) 0 0 Q (pc + 3) lv rest (mH G a s1 g)) : xF G l M (d + 1) 0 0 Q pc lv (x0 :: .ref (a 51) :: rest) (mH G a s g) := by
  refine m_cV (As := [x0]) ha hh hw rfl rfl hrm hdg hC (fun E q h1 hq => ?_) (fun v h1 hq => ?_)
  · obtain ⟨s1, -, e, -⟩ := hq
    cases e
  · obtain ⟨s1, h2, e, rfl⟩ := hq
    cases e
    exact kk s1 h2
theorem m_cVi2 {x0 x1 : Value} {K : Int32 → mS → Prop} (ha : mInj a) (hh : M.2.2.2.2 = []) (hw : xCV M.1.cls idx RX6 M' 2) (hrm : (rest.map fun v => v.category).sum ≤ 8) (hdg : decode M.2.1 pc = .ok (.invokevirtual idx, 3)) (hC : xC G l M' d 0 0 (.ref (a 51) :: [x0, x1]) (mH G a s g) (mQi G a g K))
    (kk : ∀ (v : Int32) (s1 : mS), K v s1 → xF G l M (d + 1) 0 0 Q (pc + 3) lv (.int v :: rest) (mH G a s1 g)) : xF G l M (d + 1) 0 0 Q pc lv (x1 :: x0 :: .ref (a 51) :: rest) (mH G a s g) := by
  refine m_cV (As := [x0, x1]) ha hh hw rfl rfl hrm hdg hC (fun E q h1 hq => ?_) (fun v h1 hq => ?_)
  · obtain ⟨v, s1, -, e, -⟩ := hq
    cases e
  · obtain ⟨v, s1, h2, e, rfl⟩ := hq
    cases e
    exact kk v s1 h2
theorem m_cSi2 {x0 x1 : Value} {K : Int32 → Prop} (hh : M.2.2.2.2 = []) (hw : xCS M.1.cls idx M' 2) (hrm : (rest.map fun v => v.category).sum ≤ 8) (hdg : decode M.2.1 pc = .ok (.invokestatic idx, 3)) (hC : xC G l M' d 0 0 [x0, x1] h (xQi h K))
    (kk : ∀ (v : Int32), K v → xF G l M (d + 1) 0 0 Q (pc + 3) lv (.int v :: rest) h) : xF G l M (d + 1) 0 0 Q pc lv (x1 :: x0 :: rest) h := by
  refine x_cS (As := [x0, x1]) hh hw rfl rfl hrm hdg hC ⟨Nat.le_refl _, Nat.le_refl _⟩ (fun E q h1 hq => ?_) (fun v h1 hq => ?_)
  · obtain ⟨v, -, e, -⟩ := hq
    cases e
  · obtain ⟨v, h2, e, rfl⟩ := hq
    cases e
    exact kk v h2
theorem m_cVl2 {x0 x1 : Value} {K : Int64 → mS → Prop} (ha : mInj a) (hh : M.2.2.2.2 = []) (hw : xCV M.1.cls idx RX6 M' 2) (hrm : (rest.map fun v => v.category).sum ≤ 8) (hdg : decode M.2.1 pc = .ok (.invokevirtual idx, 3)) (hC : xC G l M' d 0 0 (.ref (a 51) :: [x0, x1]) (mH G a s g) (mQl G a g K))
    (kk : ∀ (v : Int64) (s1 : mS), K v s1 → xF G l M (d + 1) 0 0 Q (pc + 3) lv (.long v :: rest) (mH G a s1 g)) : xF G l M (d + 1) 0 0 Q pc lv (x1 :: x0 :: .ref (a 51) :: rest) (mH G a s g) := by
  refine m_cV (As := [x0, x1]) ha hh hw rfl rfl hrm hdg hC (fun E q h1 hq => ?_) (fun v h1 hq => ?_)
  · obtain ⟨v, s1, -, e, -⟩ := hq
    cases e
  · obtain ⟨v, s1, h2, e, rfl⟩ := hq
    cases e
    exact kk v s1 h2
theorem m_cSl2 {x0 x1 : Value} {K : Int64 → Prop} (hh : M.2.2.2.2 = []) (hw : xCS M.1.cls idx M' 2) (hrm : (rest.map fun v => v.category).sum ≤ 8) (hdg : decode M.2.1 pc = .ok (.invokestatic idx, 3)) (hC : xC G l M' d 0 0 [x0, x1] h (xQl h K))
    (kk : ∀ (v : Int64), K v → xF G l M (d + 1) 0 0 Q (pc + 3) lv (.long v :: rest) h) : xF G l M (d + 1) 0 0 Q pc lv (x1 :: x0 :: rest) h := by
  refine x_cS (As := [x0, x1]) hh hw rfl rfl hrm hdg hC ⟨Nat.le_refl _, Nat.le_refl _⟩ (fun E q h1 hq => ?_) (fun v h1 hq => ?_)
  · obtain ⟨v, -, e, -⟩ := hq
    cases e
  · obtain ⟨v, h2, e, rfl⟩ := hq
    cases e
    exact kk v h2
theorem m_cVv2 {x0 x1 : Value} {K : mS → Prop} (ha : mInj a) (hh : M.2.2.2.2 = []) (hw : xCV M.1.cls idx RX6 M' 2) (hrm : (rest.map fun v => v.category).sum ≤ 8) (hdg : decode M.2.1 pc = .ok (.invokevirtual idx, 3)) (hC : xC G l M' d 0 0 (.ref (a 51) :: [x0, x1]) (mH G a s g) (mQv G a g K))
    (kk : ∀ (s1 : mS), K s1 → xF G l M (d + 1) 0 0 Q (pc + 3) lv rest (mH G a s1 g)) : xF G l M (d + 1) 0 0 Q pc lv (x1 :: x0 :: .ref (a 51) :: rest) (mH G a s g) := by
  refine m_cV (As := [x0, x1]) ha hh hw rfl rfl hrm hdg hC (fun E q h1 hq => ?_) (fun v h1 hq => ?_)
  · obtain ⟨s1, -, e, -⟩ := hq
    cases e
  · obtain ⟨s1, h2, e, rfl⟩ := hq
    cases e
    exact kk s1 h2
theorem m_cVi3 {x0 x1 x2 : Value} {K : Int32 → mS → Prop} (ha : mInj a) (hh : M.2.2.2.2 = []) (hw : xCV M.1.cls idx RX6 M' 3) (hrm : (rest.map fun v => v.category).sum ≤ 8) (hdg : decode M.2.1 pc = .ok (.invokevirtual idx, 3)) (hC : xC G l M' d 0 0 (.ref (a 51) :: [x0, x1, x2]) (mH G a s g) (mQi G a g K))
    (kk : ∀ (v : Int32) (s1 : mS), K v s1 → xF G l M (d + 1) 0 0 Q (pc + 3) lv (.int v :: rest) (mH G a s1 g)) : xF G l M (d + 1) 0 0 Q pc lv (x2 :: x1 :: x0 :: .ref (a 51) :: rest) (mH G a s g) := by
  refine m_cV (As := [x0, x1, x2]) ha hh hw rfl rfl hrm hdg hC (fun E q h1 hq => ?_) (fun v h1 hq => ?_)
  · obtain ⟨v, s1, -, e, -⟩ := hq
    cases e
  · obtain ⟨v, s1, h2, e, rfl⟩ := hq
    cases e
    exact kk v s1 h2
theorem m_cSi3 {x0 x1 x2 : Value} {K : Int32 → Prop} (hh : M.2.2.2.2 = []) (hw : xCS M.1.cls idx M' 3) (hrm : (rest.map fun v => v.category).sum ≤ 8) (hdg : decode M.2.1 pc = .ok (.invokestatic idx, 3)) (hC : xC G l M' d 0 0 [x0, x1, x2] h (xQi h K))
    (kk : ∀ (v : Int32), K v → xF G l M (d + 1) 0 0 Q (pc + 3) lv (.int v :: rest) h) : xF G l M (d + 1) 0 0 Q pc lv (x2 :: x1 :: x0 :: rest) h := by
  refine x_cS (As := [x0, x1, x2]) hh hw rfl rfl hrm hdg hC ⟨Nat.le_refl _, Nat.le_refl _⟩ (fun E q h1 hq => ?_) (fun v h1 hq => ?_)
  · obtain ⟨v, -, e, -⟩ := hq
    cases e
  · obtain ⟨v, h2, e, rfl⟩ := hq
    cases e
    exact kk v h2
theorem m_cVl3 {x0 x1 x2 : Value} {K : Int64 → mS → Prop} (ha : mInj a) (hh : M.2.2.2.2 = []) (hw : xCV M.1.cls idx RX6 M' 3) (hrm : (rest.map fun v => v.category).sum ≤ 8) (hdg : decode M.2.1 pc = .ok (.invokevirtual idx, 3)) (hC : xC G l M' d 0 0 (.ref (a 51) :: [x0, x1, x2]) (mH G a s g) (mQl G a g K))
    (kk : ∀ (v : Int64) (s1 : mS), K v s1 → xF G l M (d + 1) 0 0 Q (pc + 3) lv (.long v :: rest) (mH G a s1 g)) : xF G l M (d + 1) 0 0 Q pc lv (x2 :: x1 :: x0 :: .ref (a 51) :: rest) (mH G a s g) := by
  refine m_cV (As := [x0, x1, x2]) ha hh hw rfl rfl hrm hdg hC (fun E q h1 hq => ?_) (fun v h1 hq => ?_)
  · obtain ⟨v, s1, -, e, -⟩ := hq
    cases e
  · obtain ⟨v, s1, h2, e, rfl⟩ := hq
    cases e
    exact kk v s1 h2
theorem m_cSl3 {x0 x1 x2 : Value} {K : Int64 → Prop} (hh : M.2.2.2.2 = []) (hw : xCS M.1.cls idx M' 3) (hrm : (rest.map fun v => v.category).sum ≤ 8) (hdg : decode M.2.1 pc = .ok (.invokestatic idx, 3)) (hC : xC G l M' d 0 0 [x0, x1, x2] h (xQl h K))
    (kk : ∀ (v : Int64), K v → xF G l M (d + 1) 0 0 Q (pc + 3) lv (.long v :: rest) h) : xF G l M (d + 1) 0 0 Q pc lv (x2 :: x1 :: x0 :: rest) h := by
  refine x_cS (As := [x0, x1, x2]) hh hw rfl rfl hrm hdg hC ⟨Nat.le_refl _, Nat.le_refl _⟩ (fun E q h1 hq => ?_) (fun v h1 hq => ?_)
  · obtain ⟨v, -, e, -⟩ := hq
    cases e
  · obtain ⟨v, h2, e, rfl⟩ := hq
    cases e
    exact kk v h2
theorem m_cVv3 {x0 x1 x2 : Value} {K : mS → Prop} (ha : mInj a) (hh : M.2.2.2.2 = []) (hw : xCV M.1.cls idx RX6 M' 3) (hrm : (rest.map fun v => v.category).sum ≤ 8) (hdg : decode M.2.1 pc = .ok (.invokevirtual idx, 3)) (hC : xC G l M' d 0 0 (.ref (a 51) :: [x0, x1, x2]) (mH G a s g) (mQv G a g K))
    (kk : ∀ (s1 : mS), K s1 → xF G l M (d + 1) 0 0 Q (pc + 3) lv rest (mH G a s1 g)) : xF G l M (d + 1) 0 0 Q pc lv (x2 :: x1 :: x0 :: .ref (a 51) :: rest) (mH G a s g) := by
  refine m_cV (As := [x0, x1, x2]) ha hh hw rfl rfl hrm hdg hC (fun E q h1 hq => ?_) (fun v h1 hq => ?_)
  · obtain ⟨s1, -, e, -⟩ := hq
    cases e
  · obtain ⟨s1, h2, e, rfl⟩ := hq
    cases e
    exact kk s1 h2
theorem m_cVi4 {x0 x1 x2 x3 : Value} {K : Int32 → mS → Prop} (ha : mInj a) (hh : M.2.2.2.2 = []) (hw : xCV M.1.cls idx RX6 M' 4) (hrm : (rest.map fun v => v.category).sum ≤ 8) (hdg : decode M.2.1 pc = .ok (.invokevirtual idx, 3)) (hC : xC G l M' d 0 0 (.ref (a 51) :: [x0, x1, x2, x3]) (mH G a s g) (mQi G a g K))
    (kk : ∀ (v : Int32) (s1 : mS), K v s1 → xF G l M (d + 1) 0 0 Q (pc + 3) lv (.int v :: rest) (mH G a s1 g)) : xF G l M (d + 1) 0 0 Q pc lv (x3 :: x2 :: x1 :: x0 :: .ref (a 51) :: rest) (mH G a s g) := by
  refine m_cV (As := [x0, x1, x2, x3]) ha hh hw rfl rfl hrm hdg hC (fun E q h1 hq => ?_) (fun v h1 hq => ?_)
  · obtain ⟨v, s1, -, e, -⟩ := hq
    cases e
  · obtain ⟨v, s1, h2, e, rfl⟩ := hq
    cases e
    exact kk v s1 h2
theorem m_cSi4 {x0 x1 x2 x3 : Value} {K : Int32 → Prop} (hh : M.2.2.2.2 = []) (hw : xCS M.1.cls idx M' 4) (hrm : (rest.map fun v => v.category).sum ≤ 8) (hdg : decode M.2.1 pc = .ok (.invokestatic idx, 3)) (hC : xC G l M' d 0 0 [x0, x1, x2, x3] h (xQi h K))
    (kk : ∀ (v : Int32), K v → xF G l M (d + 1) 0 0 Q (pc + 3) lv (.int v :: rest) h) : xF G l M (d + 1) 0 0 Q pc lv (x3 :: x2 :: x1 :: x0 :: rest) h := by
  refine x_cS (As := [x0, x1, x2, x3]) hh hw rfl rfl hrm hdg hC ⟨Nat.le_refl _, Nat.le_refl _⟩ (fun E q h1 hq => ?_) (fun v h1 hq => ?_)
  · obtain ⟨v, -, e, -⟩ := hq
    cases e
  · obtain ⟨v, h2, e, rfl⟩ := hq
    cases e
    exact kk v h2
theorem m_cVl4 {x0 x1 x2 x3 : Value} {K : Int64 → mS → Prop} (ha : mInj a) (hh : M.2.2.2.2 = []) (hw : xCV M.1.cls idx RX6 M' 4) (hrm : (rest.map fun v => v.category).sum ≤ 8) (hdg : decode M.2.1 pc = .ok (.invokevirtual idx, 3)) (hC : xC G l M' d 0 0 (.ref (a 51) :: [x0, x1, x2, x3]) (mH G a s g) (mQl G a g K))
    (kk : ∀ (v : Int64) (s1 : mS), K v s1 → xF G l M (d + 1) 0 0 Q (pc + 3) lv (.long v :: rest) (mH G a s1 g)) : xF G l M (d + 1) 0 0 Q pc lv (x3 :: x2 :: x1 :: x0 :: .ref (a 51) :: rest) (mH G a s g) := by
  refine m_cV (As := [x0, x1, x2, x3]) ha hh hw rfl rfl hrm hdg hC (fun E q h1 hq => ?_) (fun v h1 hq => ?_)
  · obtain ⟨v, s1, -, e, -⟩ := hq
    cases e
  · obtain ⟨v, s1, h2, e, rfl⟩ := hq
    cases e
    exact kk v s1 h2
theorem m_cSl4 {x0 x1 x2 x3 : Value} {K : Int64 → Prop} (hh : M.2.2.2.2 = []) (hw : xCS M.1.cls idx M' 4) (hrm : (rest.map fun v => v.category).sum ≤ 8) (hdg : decode M.2.1 pc = .ok (.invokestatic idx, 3)) (hC : xC G l M' d 0 0 [x0, x1, x2, x3] h (xQl h K))
    (kk : ∀ (v : Int64), K v → xF G l M (d + 1) 0 0 Q (pc + 3) lv (.long v :: rest) h) : xF G l M (d + 1) 0 0 Q pc lv (x3 :: x2 :: x1 :: x0 :: rest) h := by
  refine x_cS (As := [x0, x1, x2, x3]) hh hw rfl rfl hrm hdg hC ⟨Nat.le_refl _, Nat.le_refl _⟩ (fun E q h1 hq => ?_) (fun v h1 hq => ?_)
  · obtain ⟨v, -, e, -⟩ := hq
    cases e
  · obtain ⟨v, h2, e, rfl⟩ := hq
    cases e
    exact kk v h2
theorem m_cVv4 {x0 x1 x2 x3 : Value} {K : mS → Prop} (ha : mInj a) (hh : M.2.2.2.2 = []) (hw : xCV M.1.cls idx RX6 M' 4) (hrm : (rest.map fun v => v.category).sum ≤ 8) (hdg : decode M.2.1 pc = .ok (.invokevirtual idx, 3)) (hC : xC G l M' d 0 0 (.ref (a 51) :: [x0, x1, x2, x3]) (mH G a s g) (mQv G a g K))
    (kk : ∀ (s1 : mS), K s1 → xF G l M (d + 1) 0 0 Q (pc + 3) lv rest (mH G a s1 g)) : xF G l M (d + 1) 0 0 Q pc lv (x3 :: x2 :: x1 :: x0 :: .ref (a 51) :: rest) (mH G a s g) := by
  refine m_cV (As := [x0, x1, x2, x3]) ha hh hw rfl rfl hrm hdg hC (fun E q h1 hq => ?_) (fun v h1 hq => ?_)
  · obtain ⟨s1, -, e, -⟩ := hq
    cases e
  · obtain ⟨s1, h2, e, rfl⟩ := hq
    cases e
    exact kk s1 h2
theorem m_cVi5 {x0 x1 x2 x3 x4 : Value} {K : Int32 → mS → Prop} (ha : mInj a) (hh : M.2.2.2.2 = []) (hw : xCV M.1.cls idx RX6 M' 5) (hrm : (rest.map fun v => v.category).sum ≤ 8) (hdg : decode M.2.1 pc = .ok (.invokevirtual idx, 3)) (hC : xC G l M' d 0 0 (.ref (a 51) :: [x0, x1, x2, x3, x4]) (mH G a s g) (mQi G a g K))
    (kk : ∀ (v : Int32) (s1 : mS), K v s1 → xF G l M (d + 1) 0 0 Q (pc + 3) lv (.int v :: rest) (mH G a s1 g)) : xF G l M (d + 1) 0 0 Q pc lv (x4 :: x3 :: x2 :: x1 :: x0 :: .ref (a 51) :: rest) (mH G a s g) := by
  refine m_cV (As := [x0, x1, x2, x3, x4]) ha hh hw rfl rfl hrm hdg hC (fun E q h1 hq => ?_) (fun v h1 hq => ?_)
  · obtain ⟨v, s1, -, e, -⟩ := hq
    cases e
  · obtain ⟨v, s1, h2, e, rfl⟩ := hq
    cases e
    exact kk v s1 h2
theorem m_cSi5 {x0 x1 x2 x3 x4 : Value} {K : Int32 → Prop} (hh : M.2.2.2.2 = []) (hw : xCS M.1.cls idx M' 5) (hrm : (rest.map fun v => v.category).sum ≤ 8) (hdg : decode M.2.1 pc = .ok (.invokestatic idx, 3)) (hC : xC G l M' d 0 0 [x0, x1, x2, x3, x4] h (xQi h K))
    (kk : ∀ (v : Int32), K v → xF G l M (d + 1) 0 0 Q (pc + 3) lv (.int v :: rest) h) : xF G l M (d + 1) 0 0 Q pc lv (x4 :: x3 :: x2 :: x1 :: x0 :: rest) h := by
  refine x_cS (As := [x0, x1, x2, x3, x4]) hh hw rfl rfl hrm hdg hC ⟨Nat.le_refl _, Nat.le_refl _⟩ (fun E q h1 hq => ?_) (fun v h1 hq => ?_)
  · obtain ⟨v, -, e, -⟩ := hq
    cases e
  · obtain ⟨v, h2, e, rfl⟩ := hq
    cases e
    exact kk v h2
theorem m_cVl5 {x0 x1 x2 x3 x4 : Value} {K : Int64 → mS → Prop} (ha : mInj a) (hh : M.2.2.2.2 = []) (hw : xCV M.1.cls idx RX6 M' 5) (hrm : (rest.map fun v => v.category).sum ≤ 8) (hdg : decode M.2.1 pc = .ok (.invokevirtual idx, 3)) (hC : xC G l M' d 0 0 (.ref (a 51) :: [x0, x1, x2, x3, x4]) (mH G a s g) (mQl G a g K))
    (kk : ∀ (v : Int64) (s1 : mS), K v s1 → xF G l M (d + 1) 0 0 Q (pc + 3) lv (.long v :: rest) (mH G a s1 g)) : xF G l M (d + 1) 0 0 Q pc lv (x4 :: x3 :: x2 :: x1 :: x0 :: .ref (a 51) :: rest) (mH G a s g) := by
  refine m_cV (As := [x0, x1, x2, x3, x4]) ha hh hw rfl rfl hrm hdg hC (fun E q h1 hq => ?_) (fun v h1 hq => ?_)
  · obtain ⟨v, s1, -, e, -⟩ := hq
    cases e
  · obtain ⟨v, s1, h2, e, rfl⟩ := hq
    cases e
    exact kk v s1 h2
theorem m_cSl5 {x0 x1 x2 x3 x4 : Value} {K : Int64 → Prop} (hh : M.2.2.2.2 = []) (hw : xCS M.1.cls idx M' 5) (hrm : (rest.map fun v => v.category).sum ≤ 8) (hdg : decode M.2.1 pc = .ok (.invokestatic idx, 3)) (hC : xC G l M' d 0 0 [x0, x1, x2, x3, x4] h (xQl h K))
    (kk : ∀ (v : Int64), K v → xF G l M (d + 1) 0 0 Q (pc + 3) lv (.long v :: rest) h) : xF G l M (d + 1) 0 0 Q pc lv (x4 :: x3 :: x2 :: x1 :: x0 :: rest) h := by
  refine x_cS (As := [x0, x1, x2, x3, x4]) hh hw rfl rfl hrm hdg hC ⟨Nat.le_refl _, Nat.le_refl _⟩ (fun E q h1 hq => ?_) (fun v h1 hq => ?_)
  · obtain ⟨v, -, e, -⟩ := hq
    cases e
  · obtain ⟨v, h2, e, rfl⟩ := hq
    cases e
    exact kk v h2
theorem m_cVv5 {x0 x1 x2 x3 x4 : Value} {K : mS → Prop} (ha : mInj a) (hh : M.2.2.2.2 = []) (hw : xCV M.1.cls idx RX6 M' 5) (hrm : (rest.map fun v => v.category).sum ≤ 8) (hdg : decode M.2.1 pc = .ok (.invokevirtual idx, 3)) (hC : xC G l M' d 0 0 (.ref (a 51) :: [x0, x1, x2, x3, x4]) (mH G a s g) (mQv G a g K))
    (kk : ∀ (s1 : mS), K s1 → xF G l M (d + 1) 0 0 Q (pc + 3) lv rest (mH G a s1 g)) : xF G l M (d + 1) 0 0 Q pc lv (x4 :: x3 :: x2 :: x1 :: x0 :: .ref (a 51) :: rest) (mH G a s g) := by
  refine m_cV (As := [x0, x1, x2, x3, x4]) ha hh hw rfl rfl hrm hdg hC (fun E q h1 hq => ?_) (fun v h1 hq => ?_)
  · obtain ⟨s1, -, e, -⟩ := hq
    cases e
  · obtain ⟨s1, h2, e, rfl⟩ := hq
    cases e
    exact kk s1 h2
theorem x_topi {k n : Nat} {x : Int32} (kk : ∀ y : Int32, y = x → xF G l M d k n Q pc lv (.int y :: rest) h) : xF G l M d k n Q pc lv (.int x :: rest) h := kk x rfl
end MC
