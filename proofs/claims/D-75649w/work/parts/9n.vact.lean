set_option maxRecDepth 100000
/-! ===== the system's acts; all clauses, with more room ===== -/
def isAct (x : Nat) (s : tM) (M : Nat → Prop) (a : Nat) (c : cO) : Prop := M a ∧ tO s 17 a ∧ (tR s a 6 = x ∧ (c.2.1 = none → tR s a 1 = 0 ∧ tR s a 2 = 0)) ∧ (c.1 = 22 ∨ c.1 = 23 ∨ c.1 = 24 ∨ c.1 = 25) ∧ tI s a 0 = c.1 - 22 ∧ ((c.1 = 24 ∨ c.1 = 25) → c.2.1 = none) ∧ ((c.1 = 22 ∨ c.1 = 23) → ¬ c.2.1 = none) ∧ (∀ D, c.2.1 = some D → isSum s M true x 60 (tR s a 1) D.1 ∧ isSum s M true x 60 (tR s a 2) D.2) ∧ tI s a 4 = c.2.2.1 ∧ (1 ≤ c.2.2.1 ∧ c.2.2.1 ≤ 20) ∧ (c.2.2.2 = none → tR s a 3 = 0) ∧ ∀ D, c.2.2.2 = some D → ¬ tR s a 3 = 0 ∧ isTest s M true x 30 (tR s a 3) D
theorem isAct_fr {x : Nat} {s s' : tM} {M M' : Nat → Prop} {a : Nat} {c : cO} (h : mFr M s s') (hM : ∀ a, M a → M' a) (hc : isAct x s M a c) : isAct x s' M' a c := by
  obtain ⟨ha, o, h1, h2, h3, h4, h5, h6, h7, h8, h9, h10⟩ := hc
  have hf := h a ha
  have tI' : ∀ j, tI s' a j = tI s a j := fun j => congrFun hf.2.1 j
  have tR' : ∀ j, tR s' a j = tR s a j := fun j => congrFun hf.2.2 j
  unfold isAct
  rw [tI', tI', tR', tR', tR', tR']
  exact ⟨hM a ha, mFr_O h ha o, h1, h2, h3, h4, h5, fun D hD => ⟨isSum_fr h hM _ _ _ (h6 D hD).1, isSum_fr h hM _ _ _ (h6 D hD).2⟩, h7, h8, h9, fun D hD => ⟨(h10 D hD).1, isTest_fr h hM _ _ _ (h10 D hD).2⟩⟩
/-- what a reading of a clause must meet -/
def okC8 {α : Type} (N : tP) (io : Bool) (rd x ta pl wd rw t h9 : Nat) (tp : Nat → Int32) (n : Nat) (IC : tM → (Nat → Prop) → Nat → α → Prop) (s1 s : tM) (c i : Nat) (r : pR (Nat × Nat × α)) (k m : Nat) (Kr : tM → Prop) (Kx : String → Nat → tM → Prop) : Prop := (∀ e, r = .inl e → 2 * (e - i) + 2 ≤ k ∧ 8 * (e - i) + 8 ≤ m ∧ XKr N rd pl rw tp n Kx s1 e) ∧ ∀ z, r = .inr z → 2 * (z.1 - i) ≤ k ∧ 8 * (z.1 - i) ≤ m ∧ ∀ s', CSt N io rd x ta pl wd rw t h9 tp n s1 s' z.1 z.2.1 → (∀ j, j < c → tR s' rw j = tR s rw j) → mFr (NW N s1 s) s s' → IC s' (NW N s1 s') (tR s' rw c) z.2.2 → Kr s'
section RA8
variable {N : tP} {io : Bool} {rd x ta pl wd rw t h9 p q : Nat} {tp : Nat → Int32} {n : Nat} {s s1 s2 s' : tM} {i l d : Nat}
/-- all clauses -/
theorem v_readL8 (hN : 402 ≤ N.1) (hn : n ≤ 400) (hb : ∀ k, k < 400 → byT (tp k)) (hpw : pl ≠ rw) {α : Type} {IC : tM → (Nat → Prop) → Nat → α → Prop} (hIC : ∀ {s s' : tM} {M M' : Nat → Prop} {a : Nat} {c : α}, mFr M s s' → (∀ a, M a → M' a) → IC s M a c → IC s' M' a c) (r1 : s1.1 rd ≠ none ∧ s1.1 pl ≠ none ∧ s1.1 rw ≠ none) {item : Nat → Nat → pR (Nat × Nat × α)} (hM : pMc (tokT tp n) item) (hF : ∀ s i l c k m Kr Kx, CSt N io rd x ta pl wd rw t h9 tp n s1 s i l → l ≤ 50 → i ≤ tokT tp n → c < 12 → okC8 N io rd x ta pl wd rw t h9 tp n IC s1 s c i (item i l) k m Kr Kx → v_U_read N rd (nI c) k m s Kr Kx) {Kr : Int32 → tM → Prop} {Kx : String → Nat → tM → Prop} : ∀ (f u : Nat) (s : tM) (i l c k m : Nat) (acc : List α), f + c = 12 → c < 12 → f < u → CSt N io rd x ta pl wd rw t h9 tp n s1 s i l → i ≤ tokT tp n → l ≤ 50 → acc.length = c → (∀ j (hj : j < acc.length), IC s (NW N s1 s) (tR s rw j) acc[j]) → 2 * (tokT tp n - i) + 2 ≤ k → 8 * (tokT tp n - i) + 8 ≤ m → (∀ e, pAll (cdT tp n) (tokT tp n) item f c i l acc = .inl e → XKr N rd pl rw tp n Kx s1 e) → (∀ cs, pAll (cdT tp n) (tokT tp n) item f c i l acc = .inr cs → ∀ s' i' l', 1 ≤ cs.length → cs.length ≤ 12 → CSt N io rd x ta pl wd rw t h9 tp n s1 s' i' l' → (∀ j (hj : j < cs.length), IC s' (NW N s1 s') (tR s' rw j) cs[j]) → Kr (nI cs.length) s') → v_X7_readAll_6 N rd Kr Kx (fun x104 k106 n107 s105 => (tE s105 7 18 rd ∧ (tO s105 0 (tR s105 rd 7) ∧ ((¬ (tI s105 rd 0) = (tI s105 (tR s105 rd 7) 15) → (∃ c113 c114 : Nat, c113 ≤ k106 ∧ c114 ≤ n107 ∧ (v_X7_must N rd 0 c113 c114 s105 (fun s112 => (Kr x104 s112)) Kx))) ∧ ((tI s105 rd 0) = (tI s105 (tR s105 rd 7) 15) → (∃ c119 c120 : Nat, c119 ≤ k106 ∧ c120 ≤ n107 ∧ (v_X7_must N rd 1 c119 c120 s105 (fun s118 => (Kr x104 s118)) Kx))))))) u (nI c) k m s
  | _, 0, _, _, _, _, _, _, _, _, _, h, _, _, _, _, _, _, _, _, _ => absurd h (Nat.not_lt_zero _)
  | 0, _ + 1, _, _, _, c, _, _, _, h1, h2, _, _, _, _, _, _, _, _, _, _ => absurd h1 (by omega)
  | f + 1, u + 1, s, i, l, c, k, m, acc, hfc, hc, hu, hC, hi, hl, hacc, hA, hk, hm, hL1, hL2 => by
    have hz : ∀ k, tokT tp n ≤ k → cdT tp n k = 0 := fun k hk => cdT_z hn k hk
    have hE := PS0_E hC.2.1
    have hmi := hM i l hi
    have epA : pAll (cdT tp n) (tokT tp n) item (f + 1) c i l acc = pb (item i l) fun z => if cdT tp n z.1 = 159 then (if c + 1 = 12 then .inl (z.1 + 1) else pAll (cdT tp n) (tokT tp n) item f (c + 1) (z.1 + 1) z.2.1 (acc ++ [z.2.2])) else if z.1 < tokT tp n then .inl z.1 else .inr (acc ++ [z.2.2]) := rfl
    rw [epA] at hL1 hL2
    unfold v_X7_readAll_6
    rw [show (12 : Int32) = nI 12 from rfl, nI_lle (by omega) (by omega)]
    refine ⟨fun z => absurd z (by omega), fun _ => ?_⟩
    unfold v_X7_readAll_18
    refine ⟨0, 0, Nat.zero_le _, Nat.zero_le _, hE, v_must1 ?_⟩
    cases e1 : item i l with
    | inl e =>
      have := hmi.1 e e1
      refine ⟨k - 0, m - 0, Nat.le_refl _, Nat.le_refl _, hF s i l c _ _ _ _ hC hl hi hc ⟨fun e' he => ?_, fun z hz => ?_⟩⟩
      · rw [e1] at he
        cases he
        exact ⟨by omega, by omega, hL1 e (by rw [e1]; rfl)⟩
      · rw [e1] at hz
        cases hz
    | inr z =>
      have hz1 := hmi.2 z e1
      have er2 : ∀ {g : Nat × Nat × α → pR (List α)}, pb (.inr z) g = g z := rfl
      rw [e1, er2] at hL1 hL2
      refine ⟨2 * (z.1 - i), 8 * (z.1 - i), by omega, by omega, hF s i l c _ _ _ _ hC hl hi hc ⟨fun e' he => ?_, fun z' hz' => ?_⟩⟩
      · rw [e1] at he
        cases he
      · rw [e1] at hz'
        cases hz'
        refine ⟨Nat.le_refl _, Nat.le_refl _, fun s3 C3 k3 m3 i3 x1 ex1 => ?_⟩
        rw [nI_1] at ex1
        rw [ex1]
        obtain ⟨F3, H3, W3, D3, N3⟩ := C3
        have hlen : (acc ++ [z.2.2]).length = c + 1 := by rw [List.length_append, hacc]; rfl
        have nk : ∀ a, NW N s1 s a → NW N s1 s3 a := fun a ha => ⟨ha.1, ha.2.1, by
          rw [(m3 a ha).1]
          exact ha.2.2⟩
        have hA3 : ∀ j (hj : j < (acc ++ [z.2.2]).length), IC s3 (NW N s1 s3) (tR s3 rw j) (acc ++ [z.2.2])[j] := fun j hj => by
          by_cases ej : j < acc.length
          · rw [List.getElem_append_left ej, k3 j (by omega)]
            exact hIC m3 nk (hA j ej)
          · have ej2 : j = acc.length := by omega
            subst ej2
            have e5 : (acc ++ [z.2.2])[acc.length] = z.2.2 := by simp
            rw [e5, hacc]
            exact i3
        refine ⟨PS0_E H3, v_acceptP hN hn hb H3 D3 (by decide) (fun cc => ⟨fun z => absurd rfl z, fun _ => ?_⟩) (fun cc s4 F4 D4 => ⟨fun _ => ?_, fun z => absurd z (by decide)⟩)⟩
        · have cc : ¬ cdT tp n z.1 = 159 := cc
          rw [if_neg cc] at hL1 hL2
          obtain ⟨t1, t2, t3, t4, t5⟩ := PS0_T H3
          have hle := tokP_le (tp := tp) (n := n) z.1
          have hTk := tokT_iff (tp := tp) hn z.1
          dsimp only
          rw [H3.2.1, t5, D3.1.1, nI_eq (by omega) (by omega)]
          refine ⟨PS0_E H3, t1, fun ne => ?_, fun eq => ?_⟩
          · rw [if_pos (hTk.mpr (by omega))] at hL1
            exact ⟨1, 7, by omega, by omega, v_must0 H3 D3 (Nat.le_refl _) (Nat.le_refl _) (XKr_p (hL1 _ rfl) F3)⟩
          · rw [if_neg (fun y => by have := hTk.mp y; omega)] at hL2
            refine ⟨0, 0, Nat.zero_le _, Nat.zero_le _, v_must1 ?_⟩
            rw [← hlen]
            exact hL2 _ rfl s3 z.1 z.2.1 (by omega) (by omega) ⟨F3, H3, W3, D3, N3⟩ hA3
        · have cc : cdT tp n z.1 = 159 := cc
          rw [if_pos cc] at hL1 hL2
          have zT : z.1 < tokT tp n := cd_lt (cd := cdT tp n) hz cc (by decide)
          have H4 := PS0_f H3 F4
          have F14 := FRr_p F3 F4
          have r9 : tR s4 rd 9 = h9 := (congrFun ((F4.1 rd (Or.inl (PS0_rd H3).1)).2.2.2 (PS0_rd H3).2.2.1) 9).trans N3
          have rk : ∀ j, tR s4 rw j = tR s3 rw j := fun j => congrFun ((F4.1 rw (Or.inl (by rw [W3.2.1.1]; intro z; cases z))).2.2.2 hpw.symm) j
          by_cases c12 : c + 1 = 12
          · rw [if_pos c12] at hL1
            rw [c12]
            obtain ⟨u, rfl⟩ : ∃ v, u = v + 1 := ⟨u - 1, by omega⟩
            show v_X7_readAll_6 N rd Kr Kx _ (u + 1) (nI 12) _ _ s4
            unfold v_X7_readAll_6
            refine ⟨fun _ => ?_, fun z => absurd (by decide) z⟩
            unfold v_X7_readAll_18
            exact ⟨1, 7, by omega, by omega, PS0_E H4, v_must0 H4 D4 (Nat.le_refl _) (Nat.le_refl _) (XKr_p (hL1 _ rfl) F14)⟩
          · rw [if_neg c12] at hL1 hL2
            refine v_readL8 (Kr := Kr) (Kx := Kx) (IC := IC) hN hn hb hpw hIC r1 hM hF f u s4 (z.1 + 1) z.2.1 (c + 1) _ _ (acc ++ [z.2.2]) (by omega) (by omega) (by omega) ⟨F14, H4, RWo_f H3 W3 F4, D4, r9⟩ zT (hz1.2.2.2 hl) hlen (fun j hj => ?_) (by omega) (by omega) hL1 hL2
            rw [rk j]
            exact hIC (NW_m F4 r1.1 r1.2.1) (fun a ha => (NWr F3 F4).1 ha) (hA3 j hj)
end RA8
