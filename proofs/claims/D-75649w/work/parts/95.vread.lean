set_option maxRecDepth 100000
/-! ===== the system's reader: what stands, what a call of it keeps; must, number, open, close ===== -/
def kC (io : Bool) : Nat := if io = true then 18 else 7
def wdI (io : Bool) : List Nat := if io = true then [8, 36, 37, 38, 39, 1, 2] else [0, 1, 2, 3, 4, 5, 6, 7, 8, 9]
/-- what a reader keeps -/
def PS0 (N : tP) (io : Bool) (rd x ta pl wd : Nat) (tp : Nat → Int32) (n : Nat) (s : tM) : Prop := tO s (kC io) rd ∧ tR s rd 7 = x ∧ tR s rd 5 = pl ∧ tR s rd 6 = wd ∧ (io = true → tR s rd 9 = x) ∧ tA s 7 50 pl ∧ (tA s 9 (wdI io).length wd ∧ ∀ w, w < (wdI io).length → tR s wd w = N.2.2 ((wdI io).getD w 0)) ∧ TPo s x ta tp n
/-- where a reader stands: its token, its leaves, its depth, its pile -/
def PSd (rd : Nat) (tp : Nat → Int32) (n : Nat) (s : tM) (i l d p : Nat) : Prop := TKo s rd tp n i ∧ tI s rd 2 = nI l ∧ tI s rd 3 = nI d ∧ tI s rd 4 = nI p
/-- what a call of a reader keeps -/
def FRp (N : tP) (rd pl p : Nat) (s s' : tM) : Prop := (∀ a, (s.1 a ≠ none ∨ a = N.2.2 200) → s'.1 a = s.1 a ∧ (a ≠ rd → s'.2.1 a = s.2.1 a) ∧ s'.2.2.1 a = s.2.2.1 a ∧ (a ≠ pl → s'.2.2.2 a = s.2.2.2 a)) ∧ ∀ j, j < p → tR s' pl j = tR s pl j
/-- the cells made since -/
def NW (N : tP) (s s' : tM) (a : Nat) : Prop := s.1 a = none ∧ a ≠ N.2.2 200 ∧ s'.1 a ≠ none
section FR
variable {N : tP} {io : Bool} {rd x ta pl wd p q : Nat} {tp : Nat → Int32} {n : Nat} {s s' s2 : tM}
theorem FR_r : FRp N rd pl p s s := ⟨fun _ _ => ⟨rfl, fun _ => rfl, rfl, fun _ => rfl⟩, fun _ _ => rfl⟩
theorem FR_k (h : FRp N rd pl p s s') {a : Nat} (ha : s.1 a ≠ none ∨ a = N.2.2 200) : s'.1 a ≠ none ∨ a = N.2.2 200 := ha.elim (fun z => Or.inl (by rw [(h.1 a (Or.inl z)).1]; exact z)) Or.inr
theorem FR_t {p' : Nat} (h : FRp N rd pl p s s') (h2 : FRp N rd pl p' s' s2) (hp : p ≤ p') : FRp N rd pl p s s2 := ⟨fun a ha => by
  obtain ⟨a1, a2, a3, a4⟩ := h.1 a ha
  obtain ⟨b1, b2, b3, b4⟩ := h2.1 a (FR_k h ha)
  exact ⟨b1.trans a1, fun z => (b2 z).trans (a2 z), b3.trans a3, fun z => (b4 z).trans (a4 z)⟩, fun j hj => (h2.2 j (by omega)).trans (h.2 j hj)⟩
theorem FR_p {p' : Nat} (h : FRp N rd pl p s s') (hp : p' ≤ p) : FRp N rd pl p' s s' := ⟨h.1, fun j hj => h.2 j (by omega)⟩
theorem FR_n (h : FRp N rd pl p s s') {c : Nat ⊕ (Nat × Nat)} (hq : s.1 q = none) (h2 : ¬ q = N.2.2 200) (h3 : q ≠ pl) : FRp N rd pl p s (tNew s' q c) := ⟨fun a ha => by
  obtain ⟨a1, a2, a3, a4⟩ := h.1 a ha
  have hne : a ≠ q := fun z => ha.elim (fun y => y (z ▸ hq)) (fun y => h2 (z ▸ y))
  exact ⟨(if_neg hne).trans a1, fun z => (funext fun j => if_neg hne).trans (a2 z), (funext fun j => if_neg hne).trans a3, fun z => (funext fun j => if_neg hne).trans (a4 z)⟩, fun j hj => (if_neg fun z => h3 z.symm).trans (h.2 j hj)⟩
theorem FR_I (h : FRp N rd pl p s s') {j : Nat} {v : Int32} (hq : (s.1 q = none ∧ ¬ q = N.2.2 200) ∨ q = rd) : FRp N rd pl p s (tsI s' q j v) := ⟨fun a ha => by
  obtain ⟨a1, a2, a3, a4⟩ := h.1 a ha
  refine ⟨a1, fun z => (funext fun i => if_neg fun y => ?_).trans (a2 z), a3, a4⟩
  rcases hq with ⟨h1, h2⟩ | h1
  · exact ha.elim (fun w => w (y.1 ▸ h1)) (fun w => h2 (y.1 ▸ w))
  · exact z (y.1.trans h1), h.2⟩
theorem FR_R (h : FRp N rd pl p s s') {j v : Nat} (hq : s.1 q = none) (h2 : ¬ q = N.2.2 200) (h3 : q ≠ pl) : FRp N rd pl p s (tsR s' q j v) := ⟨fun a ha => by
  obtain ⟨a1, a2, a3, a4⟩ := h.1 a ha
  have hne : a ≠ q := fun z => ha.elim (fun y => y (z ▸ hq)) (fun y => h2 (z ▸ y))
  exact ⟨a1, a2, a3, fun z => (funext fun i => if_neg fun y => hne y.1).trans (a4 z)⟩, fun i hi => (if_neg fun y => h3 y.1.symm).trans (h.2 i hi)⟩
theorem FR_pl (h : FRp N rd pl p s s') {j v : Nat} (hj : p ≤ j) : FRp N rd pl p s (tsR s' pl j v) := ⟨fun a ha => by
  obtain ⟨a1, a2, a3, a4⟩ := h.1 a ha
  exact ⟨a1, a2, a3, fun z => (funext fun i => if_neg fun y => z y.1).trans (a4 z)⟩, fun i hi => (if_neg fun y => by omega).trans (h.2 i hi)⟩
theorem FR_w (h : FRp N rd pl p s s') {f t : Nat} : FRp N rd pl p s (rdW s' rd f t) := FR_I (FR_I h (Or.inr rfl)) (Or.inr rfl)
theorem NW_f {p' : Nat} (h : FRp N rd pl p s s') (hs : FRp N rd pl p' s' s2) {a : Nat} : (NW N s s' a → NW N s s2 a) ∧ (NW N s' s2 a → NW N s s2 a) := by
  refine ⟨fun z => ⟨z.1, z.2.1, ?_⟩, fun z => ⟨?_, z.2.1, z.2.2⟩⟩
  · rw [(hs.1 a (Or.inl z.2.2)).1]
    exact z.2.2
  · refine Classical.byContradiction fun y => ?_
    have := (h.1 a (Or.inl y)).1
    rw [z.1] at this
    exact y this.symm
theorem NW_m (hs : FRp N rd pl p s' s2) (hrd : s.1 rd ≠ none) (hpl : s.1 pl ≠ none) : mFr (NW N s s') s' s2 := fun a ha => by
  obtain ⟨a1, a2, a3, a4⟩ := hs.1 a (Or.inl ha.2.2)
  exact ⟨a1, a2 (fun z => hrd (z ▸ ha.1)), a4 (fun z => hpl (z ▸ ha.1))⟩
theorem PS0_E (h : PS0 N io rd x ta pl wd tp n s) : tE s 7 18 rd := by
  unfold PS0 kC at h
  cases io with
  | true => exact Or.inr h.1
  | false => exact Or.inl h.1
theorem PS0_rd (h : PS0 N io rd x ta pl wd tp n s) : s.1 rd ≠ none ∧ s.1 pl ≠ none ∧ rd ≠ pl ∧ rd ≠ x ∧ rd ≠ ta ∧ pl ≠ x ∧ pl ≠ ta ∧ pl ≠ wd := by
  have hE := PS0_E h
  obtain ⟨h1, -, -, -, -, h6, ⟨h7, -⟩, h8⟩ := h
  have c : ∀ {c1 : Nat} {t1 : Nat × Nat} {a b : Nat}, s.1 a = some (.inl c1) → s.1 b = some (.inr t1) → a ≠ b := fun h1 h2 z => by
    subst z
    rw [h1] at h2
    cases h2
  have nn : ∀ {a : Nat} {c : Nat ⊕ (Nat × Nat)}, s.1 a = some c → s.1 a ≠ none := fun e z => by
    rw [e] at z
    cases z
  refine ⟨nn h1.1, nn h6.1, c h1.1 h6.1, tE_ne hE h8.1 (by decide) (by decide), tE_nA hE h8.2.2.1, (c h8.1.1 h6.1).symm, fun z => ?_, fun z => ?_⟩
  · subst z
    have := h6.1.symm.trans h8.2.2.1.1
    cases this
  · subst z
    have := h6.1.symm.trans h7.1
    cases this
theorem PS0_f (h : PS0 N io rd x ta pl wd tp n s) (hf : FRp N rd pl p s s') : PS0 N io rd x ta pl wd tp n s' := by
  obtain ⟨r1, r2, r3, r4, r5, r6, r7, r8⟩ := PS0_rd h
  obtain ⟨h1, h2, h3, h4, h5, h6, ⟨h7, h7'⟩, ⟨t1, t2, t3, t4, t5⟩⟩ := h
  have al : ∀ {c : Nat ⊕ (Nat × Nat)} {a : Nat}, s.1 a = some c → (s.1 a ≠ none ∨ a = N.2.2 200) := fun e => Or.inl (by rw [e]; intro z; cases z)
  have frd := hf.1 rd (Or.inl r1)
  have fx := hf.1 x (al t1.1)
  have ft := hf.1 ta (al t3.1)
  have fw := hf.1 wd (al h7.1)
  have rr : ∀ j, tR s' rd j = tR s rd j := fun j => congrFun (frd.2.2.2 r3) j
  refine ⟨⟨frd.1.trans h1.1, h1.2⟩, (rr 7).trans h2, (rr 5).trans h3, (rr 6).trans h4, fun z => (rr 9).trans (h5 z), ⟨(hf.1 pl (Or.inl r2)).1.trans h6.1, h6.2⟩, ⟨⟨fw.1.trans h7.1, h7.2⟩, fun w hw => (congrFun (fw.2.2.2 r8.symm) w).trans (h7' w hw)⟩, ⟨fx.1.trans t1.1, t1.2⟩, (congrFun (fx.2.2.2 r6.symm) 14).trans t2, ⟨ft.1.trans t3.1, t3.2⟩, fun k hk => (congrFun (ft.2.1 r5.symm) k).trans (t4 k hk), (congrFun (fx.2.1 r4.symm) 15).trans t5⟩
theorem PS0_T (h : PS0 N io rd x ta pl wd tp n s) : TPo s x ta tp n := h.2.2.2.2.2.2.2
theorem PS0_R (h : PS0 N io rd x ta pl wd tp n s) : RDo s rd x := ⟨PS0_E h, h.2.1⟩
theorem PSd_w {i l d p i' : Nat} (h : PSd rd tp n s i l d p) : PSd rd tp n (rdW s rd (tokP tp n i') (toP tp n i')) i' l d p := ⟨TKo_w, (rdW_o fun z => by have := z.2; omega).trans h.2.1, (rdW_o fun z => by have := z.2; omega).trans h.2.2.1, (rdW_o fun z => by have := z.2; omega).trans h.2.2.2⟩
theorem PSd_q {i l d p : Nat} (h : PSd rd tp n s i l d p) (he : s'.2.1 rd = s.2.1 rd) : PSd rd tp n s' i l d p := by
  unfold PSd TKo tI at *
  rw [he]
  exact h
/-- what a wrong text makes -/
def XK (N : tP) (rd pl p : Nat) (tp : Nat → Int32) (n : Nat) (Kx : String → Nat → tM → Prop) (s : tM) (e : Nat) : Prop := ∀ s' q, FRp N rd pl p s s' → tO s' 8 q → tI s' q 6 = plT tp n e → Kx "CounterDesk$Wrong" q s'
theorem XK_t {Kx : String → Nat → tM → Prop} {e p' : Nat} (h : XK N rd pl p tp n Kx s e) (hf : FRp N rd pl p s s') (hp : p ≤ p') : XK N rd pl p' tp n Kx s' e := fun s2 q h1 h2 h3 => h s2 q (FR_t hf h1 hp) h2 h3
theorem v_must1 {k m : Nat} {Kr : tM → Prop} {Kx : String → Nat → tM → Prop} (h : Kr s) : v_X7_must N rd 1 k m s Kr Kx := by
  unfold v_X7_must
  exact ⟨fun _ => h, fun z => absurd z (by decide)⟩
theorem v_must0 (h0 : PS0 N io rd x ta pl wd tp n s) {i l d p : Nat} (hd : PSd rd tp n s i l d p) {k m : Nat} (hk : 1 ≤ k) (hm : 7 ≤ m) {Kr : tM → Prop} {Kx : String → Nat → tM → Prop} (h : XK N rd pl p tp n Kx s i) : v_X7_must N rd 0 k m s Kr Kx := by
  obtain ⟨r1, r2, r3, -⟩ := PS0_rd h0
  have hE := PS0_E h0
  unfold v_X7_must
  refine ⟨fun z => absurd rfl z, fun _ => ⟨hk, hm, fun q hq hq0 hq2 s1 e1 => ?_⟩⟩
  have nq : rd ≠ q := fun z => r1 (z ▸ hq)
  have np : q ≠ pl := fun z => r2 (z ▸ hq)
  have o1 : tO s1 8 q := by
    rw [e1]
    exact ⟨if_pos rfl, hq0⟩
  have F1 : FRp N rd pl p s s1 := e1 ▸ FR_n FR_r hq hq2 np
  have hrd : tI s1 rd 0 = nI (tokP tp n i) := by
    rw [e1]
    exact (if_neg nq).trans hd.1.1
  have hE1 : tE s1 7 18 rd := PS0_E (PS0_f h0 F1)
  rw [hrd]
  refine ⟨hE1, ?_⟩
  unfold v_X9_init v_J7_init_2 v_J6_init_3
  refine ⟨o1, o1, o1, fun s2 e2 f1 s3 e3 f2 s4 e4 => ⟨fun _ s5 e5 s6 e6 s7 e7 => ⟨fun z => absurd rfl z, fun _ s8 e8 => ?_⟩, fun z => absurd rfl z⟩⟩
  have F8 : FRp N rd pl p s s8 := by
    rw [e8, e7, e6, e5, e4, e3, e2]
    exact FR_R (FR_R (FR_R (FR_R (FR_R (FR_R (FR_R F1 hq hq2 np) hq hq2 np) hq hq2 np) hq hq2 np) hq hq2 np) hq hq2 np) hq hq2 np
  have o8 : tO s8 8 q := by
    rw [e8, e7, e6, e5, e4, e3, e2]
    exact o1
  refine ⟨o8, fun s9 e9 => ?_⟩
  have o9 : tO s9 8 q := by
    rw [e9]
    exact o8
  refine ⟨o9, h s9 q (e9 ▸ FR_I F8 (Or.inl ⟨hq, hq2⟩)) o9 ?_⟩
  rw [e9]
  exact if_pos ⟨rfl, rfl⟩
end FR
