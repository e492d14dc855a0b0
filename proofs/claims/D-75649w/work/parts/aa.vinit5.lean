set_option maxRecDepth 100000
/-! ===== the constructor, role by role ===== -/
section MJ
variable {N : tP} {s0 s : tM} {x0 : Nat} {K : tM → Prop}
theorem v_X0_initS (hN : 17 ≤ N.1) (h : PC N s0 (Rt 0) (fun _ => x0) [(0, 8)] [(0, 11), (0, 13), (0, 27)] (fun _ => False) s0 0 s) (hK : ∀ s' L t1 t2 sQ, PC N s0 (Rt 19) L [] [] (fun a => a = t1 ∨ a = t2) sQ t1 s' → L 0 = x0 → tO sQ 5 t1 → tA sQ 6 0 t2 → tR sQ t1 0 = t2 → K s') : v_X0_init N x0 3000 60000 s K := by
  have rt0 : ∀ {t : Nat}, Rt t 0 := ⟨by decide, by show sg 0 ≤ _; exact Nat.zero_le _⟩
  unfold v_X0_init
  have l0 : (fun _ : Nat => x0) 0 = x0 := rfl
  refine ⟨h.ox (by first | exact rt0 | exact Or.inl rt0 | exact Or.inl (Or.inl rt0)) l0, ?_⟩
  refine ⟨by decide, by decide, fun q1 a2 b3 d4 s5 e6 => ?_⟩
  obtain ⟨L8, h7, u9, v10⟩ := h.add' (r := 40) (c := .inl 1) (q := q1) (PD' := (0, 0) :: [(0, 8)]) (PI' := [(40, 6), (0, 11), (0, 13), (0, 27)]) (Rt_n (u := 1) rfl (by decide)) rfl a2 b3 d4 rt0 List.mem_cons_self (fun _ hx => List.mem_cons_of_mem _ hx) (fun _ hx => List.mem_cons_of_mem _ hx) (fun j hj => by
    unfold iv0
    rw [if_neg (by omega), if_neg (by omega), if_neg (fun z => hj (by rw [z.2]; exact List.mem_cons_self)), if_neg (by omega)]) ⟨by decide, by decide⟩
  rw [← e6] at h7
  refine ⟨20, 100, by decide, by decide, ?_⟩
  rw [← u9]
  refine v_dkS h7 (Or.inr rfl) (fun x hx z => z.elim (fun z => by have := r0_0 z; omega) (by omega)) (fun p hp => by simp at hp; rcases hp with rfl | rfl <;> rfl) rfl (Nat.le_refl _) (Nat.le_refl _) (fun s11 L12 h13 v14 => ⟨?_, fun s15 e16 => ?_⟩)
  · exact h13.ox (by first | exact rt0 | exact Or.inl rt0 | exact Or.inl (Or.inl rt0)) ((v14 0 (Or.inl rt0)).trans ((v10 0 rt0).trans l0)) 
  have h17 := h13.set (PD' := [(0, 8)]) (q := 40) (r := 0) (j := 0) (Or.inl (Or.inr rfl)) (by decide) rfl (fun x hx => by
    by_cases e : x = (0, 0)
    · exact Or.inl e
    · exact Or.inr fun z => (List.mem_cons.mp z).elim e hx)
  have l1 : L12 0 = x0 := (v14 0 (Or.inl rt0)).trans ((v10 0 rt0).trans l0)
  rw [v14 40 (Or.inr rfl), l1, ← e16] at h17
  have h18 : PC N s0 (Rt 1) L12 [(0, 8)] [(0, 11), (0, 13), (0, 27)] (fun _ => False) s0 0 s15 := h17.eqv fun r => (Rt_s nw_1 r).trans ⟨fun z => z.elim (fun z => Or.inl (Or.inl z)) (fun z => z.elim (fun z => Or.inl (Or.inr z)) Or.inr), fun z => z.elim (fun z => z.elim Or.inl (fun z => Or.inr (Or.inl z))) (fun z => Or.inr (Or.inr z))⟩
  refine ⟨by decide, by decide, fun q19 a20 b21 d22 s23 e24 => ⟨?_, fun s25 e26 => ?_⟩⟩
  · rw [e24]
    exact ⟨(if_neg fun e => h18.al (r := 0) rt0 (by rw [l1, e]; exact a20)).trans (h18.ox (by first | exact rt0 | exact Or.inl rt0 | exact Or.inl (Or.inl rt0)) l1).1, (h18.ox (by first | exact rt0 | exact Or.inl rt0 | exact Or.inl (Or.inl rt0)) l1).2⟩
  obtain ⟨L28, h27, u29, v30⟩ := h18.ad (r := 1) (p := 0) (j := 1) (c := .inr (4, 2)) (q := q19) (Rt_n (u := 2) rfl (by decide)) (by decide) rfl a20 b21 d22 rfl rt0 (fun j => iv0_z (by decide)) (by simp) (by decide)
  rw [l1, ← e24, ← e26] at h27
  have l2 : L28 0 = x0 := (v30 0 rt0).trans l1
  have h31 := h27.eqv (Rt_s nw_2)
  refine ⟨by decide, by decide, fun q32 a33 b34 d35 s36 e37 => ?_⟩
  obtain ⟨L39, h38, u40, v41⟩ := h31.add' (r := 2) (c := .inl 3) (q := q32) (PD' := (0, 2) :: [(0, 8)]) (PI' := [(0, 11), (0, 13), (0, 27)]) (Rt_n (u := 3) rfl (by decide)) rfl a33 b34 d35 rt0 List.mem_cons_self (fun _ hx => List.mem_cons_of_mem _ hx) (fun _ hx => hx) (fun j _ => iv0_z (by decide)) ⟨by decide, by decide⟩
  rw [← e37] at h38
  refine ⟨50, 500, by decide, by decide, ?_⟩
  rw [← u40]
  refine v_stepsS (r1 := 2) (rr := 31) (B := 100) (Or.inl ⟨rfl, rfl, rfl⟩) h38 (Or.inr rfl) (fun z => z.elim (Rt_n (u := 3) rfl (by decide)) (by omega)) (fun i hi => ⟨fun z => z.elim (Rt_n ((nw_3 (100 + i)).mpr (by omega)).2 (by decide)) (by omega), fun z => z.elim (Rt_n ((nw_3 (200 + (100 + i))).mpr (by omega)).2 (by decide)) (by omega), fun z => z.elim (Rt_n ((nw_3 (400 + (100 + i))).mpr (by omega)).2 (by decide)) (by omega)⟩) (fun p hp => by simp at hp; rcases hp with rfl | rfl <;> rfl) (by omega) (Nat.le_refl _) (Nat.le_refl _) (fun s42 L43 h44 v45 => ⟨?_, fun s46 e47 => ?_⟩)
  · exact h44.ox (by first | exact rt0 | exact Or.inl rt0 | exact Or.inl (Or.inl rt0)) ((v45 0 (Or.inl rt0)).trans ((v41 0 rt0).trans l2)) 
  have h48 := h44.set (PD' := [(0, 8)]) (q := 2) (r := 0) (j := 2) (Or.inl (Or.inr rfl)) (by decide) rfl (fun x hx => by
    by_cases e : x = (0, 2)
    · exact Or.inl e
    · exact Or.inr fun z => (List.mem_cons.mp z).elim e hx)
  have l3 : L43 0 = x0 := (v45 0 (Or.inl rt0)).trans ((v41 0 rt0).trans l2)
  rw [v45 2 (Or.inr rfl), l3, ← e47] at h48
  have h49 : PC N s0 (Rt 3) L43 [(0, 8)] [(0, 11), (0, 13), (0, 27)] (fun _ => False) s0 0 s46 := h48.eqv fun r => (Rt_s nw_3 r).trans ⟨fun z => z.elim (fun z => Or.inl (Or.inl z)) (fun z => z.elim (fun z => Or.inl (Or.inr z)) Or.inr), fun z => z.elim (fun z => z.elim Or.inl (fun z => Or.inr (Or.inl z))) (fun z => Or.inr (Or.inr z))⟩
  refine ⟨by decide, by decide, fun q50 a51 b52 d53 s54 e55 => ?_⟩
  obtain ⟨L57, h56, u58, v59⟩ := h49.add' (r := 3) (c := .inl 3) (q := q50) (PD' := (0, 3) :: [(0, 8)]) (PI' := [(0, 11), (0, 13), (0, 27)]) (Rt_n (u := 4) rfl (by decide)) rfl a51 b52 d53 rt0 List.mem_cons_self (fun _ hx => List.mem_cons_of_mem _ hx) (fun _ hx => hx) (fun j _ => iv0_z (by decide)) ⟨by decide, by decide⟩
  rw [← e55] at h56
  refine ⟨50, 500, by decide, by decide, ?_⟩
  rw [← u58]
  refine v_stepsS (r1 := 3) (rr := 32) (B := 120) (Or.inr ⟨rfl, rfl, rfl⟩) h56 (Or.inr rfl) (fun z => z.elim (Rt_n (u := 4) rfl (by decide)) (by omega)) (fun i hi => ⟨fun z => z.elim (Rt_n ((nw_4 (120 + i)).mpr (by omega)).2 (by decide)) (by omega), fun z => z.elim (Rt_n ((nw_4 (200 + (120 + i))).mpr (by omega)).2 (by decide)) (by omega), fun z => z.elim (Rt_n ((nw_4 (400 + (120 + i))).mpr (by omega)).2 (by decide)) (by omega)⟩) (fun p hp => by simp at hp; rcases hp with rfl | rfl <;> rfl) (by omega) (Nat.le_refl _) (Nat.le_refl _) (fun s60 L61 h62 v63 => ⟨?_, fun s64 e65 => ?_⟩)
  · exact h62.ox (by first | exact rt0 | exact Or.inl rt0 | exact Or.inl (Or.inl rt0)) ((v63 0 (Or.inl rt0)).trans ((v59 0 rt0).trans l3)) 
  have h66 := h62.set (PD' := [(0, 8)]) (q := 3) (r := 0) (j := 3) (Or.inl (Or.inr rfl)) (by decide) rfl (fun x hx => by
    by_cases e : x = (0, 3)
    · exact Or.inl e
    · exact Or.inr fun z => (List.mem_cons.mp z).elim e hx)
  have l4 : L61 0 = x0 := (v63 0 (Or.inl rt0)).trans ((v59 0 rt0).trans l3)
  rw [v63 3 (Or.inr rfl), l4, ← e65] at h66
  have h67 : PC N s0 (Rt 4) L61 [(0, 8)] [(0, 11), (0, 13), (0, 27)] (fun _ => False) s0 0 s64 := h66.eqv fun r => (Rt_s nw_4 r).trans ⟨fun z => z.elim (fun z => Or.inl (Or.inl z)) (fun z => z.elim (fun z => Or.inl (Or.inr z)) Or.inr), fun z => z.elim (fun z => z.elim Or.inl (fun z => Or.inr (Or.inl z))) (fun z => Or.inr (Or.inr z))⟩
  refine ⟨by decide, by decide, fun q68 a69 b70 d71 s72 e73 => ?_⟩
  obtain ⟨L75, h74, u76, v77⟩ := h67.add' (r := 4) (c := .inl 2) (q := q68) (PD' := (0, 4) :: [(0, 8)]) (PI' := [(0, 11), (0, 13), (0, 27)]) (Rt_n (u := 5) rfl (by decide)) rfl a69 b70 d71 rt0 List.mem_cons_self (fun _ hx => List.mem_cons_of_mem _ hx) (fun _ hx => hx) (fun j _ => iv0_z (by decide)) ⟨by decide, by decide⟩
  rw [← e73] at h74
  refine ⟨2, 24, by decide, by decide, ?_⟩
  rw [← u76]
  refine v_bkS h74 (b := 4) (Or.inl rfl) (Or.inr rfl) (fun z => z.elim (Rt_n (u := 5) rfl (by decide)) (by omega)) (fun z => z.elim (Rt_n (u := 5) rfl (by decide)) (by omega)) (fun j => by simp) (Nat.le_refl _) (Nat.le_refl _) (fun s78 L79 h80 v81 => ⟨?_, fun s82 e83 => ?_⟩)
  · exact h80.ox (by first | exact rt0 | exact Or.inl rt0 | exact Or.inl (Or.inl rt0)) ((v81 0 (Or.inl rt0)).trans ((v77 0 rt0).trans l4)) 
  have h84 := h80.set (PD' := [(0, 8)]) (q := 4) (r := 0) (j := 4) (Or.inl (Or.inr rfl)) (by decide) rfl (fun x hx => by
    by_cases e : x = (0, 4)
    · exact Or.inl e
    · exact Or.inr fun z => (List.mem_cons.mp z).elim e hx)
  have l5 : L79 0 = x0 := (v81 0 (Or.inl rt0)).trans ((v77 0 rt0).trans l4)
  rw [v81 4 (Or.inr rfl), l5, ← e83] at h84
  have h85 : PC N s0 (Rt 5) L79 [(0, 8)] [(0, 11), (0, 13), (0, 27)] (fun _ => False) s0 0 s82 := h84.eqv fun r => (Rt_s nw_5 r).trans ⟨fun z => z.elim (fun z => Or.inl (Or.inl z)) (fun z => z.elim (fun z => Or.inl (Or.inr z)) Or.inr), fun z => z.elim (fun z => z.elim Or.inl (fun z => Or.inr (Or.inl z))) (fun z => Or.inr (Or.inr z))⟩
  refine ⟨by decide, by decide, fun q86 a87 b88 d89 s90 e91 => ?_⟩
  obtain ⟨L93, h92, u94, v95⟩ := h85.add' (r := 5) (c := .inl 2) (q := q86) (PD' := (0, 5) :: [(0, 8)]) (PI' := [(0, 11), (0, 13), (0, 27)]) (Rt_n (u := 6) rfl (by decide)) rfl a87 b88 d89 rt0 List.mem_cons_self (fun _ hx => List.mem_cons_of_mem _ hx) (fun _ hx => hx) (fun j _ => iv0_z (by decide)) ⟨by decide, by decide⟩
  rw [← e91] at h92
  refine ⟨2, 24, by decide, by decide, ?_⟩
  rw [← u94]
  refine v_bkS h92 (b := 5) (Or.inr (Or.inl rfl)) (Or.inr rfl) (fun z => z.elim (Rt_n (u := 6) rfl (by decide)) (by omega)) (fun z => z.elim (Rt_n (u := 6) rfl (by decide)) (by omega)) (fun j => by simp) (Nat.le_refl _) (Nat.le_refl _) (fun s96 L97 h98 v99 => ⟨?_, fun s100 e101 => ?_⟩)
  · exact h98.ox (by first | exact rt0 | exact Or.inl rt0 | exact Or.inl (Or.inl rt0)) ((v99 0 (Or.inl rt0)).trans ((v95 0 rt0).trans l5)) 
  have h102 := h98.set (PD' := [(0, 8)]) (q := 5) (r := 0) (j := 5) (Or.inl (Or.inr rfl)) (by decide) rfl (fun x hx => by
    by_cases e : x = (0, 5)
    · exact Or.inl e
    · exact Or.inr fun z => (List.mem_cons.mp z).elim e hx)
  have l6 : L97 0 = x0 := (v99 0 (Or.inl rt0)).trans ((v95 0 rt0).trans l5)
  rw [v99 5 (Or.inr rfl), l6, ← e101] at h102
  have h103 : PC N s0 (Rt 6) L97 [(0, 8)] [(0, 11), (0, 13), (0, 27)] (fun _ => False) s0 0 s100 := h102.eqv fun r => (Rt_s nw_6 r).trans ⟨fun z => z.elim (fun z => Or.inl (Or.inl z)) (fun z => z.elim (fun z => Or.inl (Or.inr z)) Or.inr), fun z => z.elim (fun z => z.elim Or.inl (fun z => Or.inr (Or.inl z))) (fun z => Or.inr (Or.inr z))⟩
  refine ⟨by decide, by decide, fun q104 a105 b106 d107 s108 e109 => ?_⟩
  obtain ⟨L111, h110, u112, v113⟩ := h103.add' (r := 6) (c := .inl 4) (q := q104) (PD' := (0, 6) :: [(0, 8)]) (PI' := [(0, 11), (0, 13), (0, 27)]) (Rt_n (u := 7) rfl (by decide)) rfl a105 b106 d107 rt0 List.mem_cons_self (fun _ hx => List.mem_cons_of_mem _ hx) (fun _ hx => hx) (fun j _ => iv0_z (by decide)) ⟨by decide, by decide⟩
  rw [← e109] at h110
  refine ⟨1, 10, by decide, by decide, ?_⟩
  rw [← u112]
  refine v_askS h110 (r := 6) (rr := 33) (Or.inl ⟨rfl, rfl⟩) (Or.inr rfl) (fun z => z.elim (Rt_n (u := 7) rfl (by decide)) (by omega)) (fun j => by simp) (Nat.le_refl _) (Nat.le_refl _) (fun s114 L115 h116 v117 => ⟨?_, fun s118 e119 => ?_⟩)
  · exact h116.ox (by first | exact rt0 | exact Or.inl rt0 | exact Or.inl (Or.inl rt0)) ((v117 0 (Or.inl rt0)).trans ((v113 0 rt0).trans l6)) 
  have h120 := h116.set (PD' := [(0, 8)]) (q := 6) (r := 0) (j := 6) (Or.inl (Or.inr rfl)) (by decide) rfl (fun x hx => by
    by_cases e : x = (0, 6)
    · exact Or.inl e
    · exact Or.inr fun z => (List.mem_cons.mp z).elim e hx)
  have l7 : L115 0 = x0 := (v117 0 (Or.inl rt0)).trans ((v113 0 rt0).trans l6)
  rw [v117 6 (Or.inr rfl), l7, ← e119] at h120
  have h121 : PC N s0 (Rt 7) L115 [(0, 8)] [(0, 11), (0, 13), (0, 27)] (fun _ => False) s0 0 s118 := h120.eqv fun r => (Rt_s nw_7 r).trans ⟨fun z => z.elim (fun z => Or.inl (Or.inl z)) (fun z => z.elim (fun z => Or.inl (Or.inr z)) Or.inr), fun z => z.elim (fun z => z.elim Or.inl (fun z => Or.inr (Or.inl z))) (fun z => Or.inr (Or.inr z))⟩
  refine ⟨by decide, by decide, fun q122 a123 b124 d125 s126 e127 => ?_⟩
  obtain ⟨L129, h128, u130, v131⟩ := h121.add' (r := 7) (c := .inl 4) (q := q122) (PD' := (0, 7) :: [(0, 8)]) (PI' := [(0, 11), (0, 13), (0, 27)]) (Rt_n (u := 8) rfl (by decide)) rfl a123 b124 d125 rt0 List.mem_cons_self (fun _ hx => List.mem_cons_of_mem _ hx) (fun _ hx => hx) (fun j _ => iv0_z (by decide)) ⟨by decide, by decide⟩
  rw [← e127] at h128
  refine ⟨1, 10, by decide, by decide, ?_⟩
  rw [← u130]
  refine v_askS h128 (r := 7) (rr := 34) (Or.inr ⟨rfl, rfl⟩) (Or.inr rfl) (fun z => z.elim (Rt_n (u := 8) rfl (by decide)) (by omega)) (fun j => by simp) (Nat.le_refl _) (Nat.le_refl _) (fun s132 L133 h134 v135 => ⟨?_, fun s136 e137 => ?_⟩)
  · exact h134.ox (by first | exact rt0 | exact Or.inl rt0 | exact Or.inl (Or.inl rt0)) ((v135 0 (Or.inl rt0)).trans ((v131 0 rt0).trans l7)) 
  have h138 := h134.set (PD' := [(0, 8)]) (q := 7) (r := 0) (j := 7) (Or.inl (Or.inr rfl)) (by decide) rfl (fun x hx => by
    by_cases e : x = (0, 7)
    · exact Or.inl e
    · exact Or.inr fun z => (List.mem_cons.mp z).elim e hx)
  have l8 : L133 0 = x0 := (v135 0 (Or.inl rt0)).trans ((v131 0 rt0).trans l7)
  rw [v135 7 (Or.inr rfl), l8, ← e137] at h138
  have h139 : PC N s0 (Rt 8) L133 [(0, 8)] [(0, 11), (0, 13), (0, 27)] (fun _ => False) s0 0 s136 := h138.eqv fun r => (Rt_s nw_8 r).trans ⟨fun z => z.elim (fun z => Or.inl (Or.inl z)) (fun z => z.elim (fun z => Or.inl (Or.inr z)) Or.inr), fun z => z.elim (fun z => z.elim Or.inl (fun z => Or.inr (Or.inl z))) (fun z => Or.inr (Or.inr z))⟩
  refine ⟨by decide, by decide, fun q1t a1t b1t d1t s1t e1t => ⟨by decide, by decide, fun q2t a2t b2t d2t s2t e2t => ?_⟩⟩
  obtain ⟨g1t, n1t⟩ := h139.addQ (c := .inl 5) a1t d1t
  rw [← e1t] at g1t
  obtain ⟨g2t, n2t⟩ := g1t.addQ (c := .inr (6, 0)) a2t d2t
  rw [← e2t] at g2t
  have z1t : s0.1 q1t = none := ext_fr h139.1.1 a1t
  have nqt : q1t ≠ q2t := fun z => by
    rw [← z, e1t] at a2t
    have : (if q1t = q1t then some (Sum.inl 5) else _) = none := a2t
    rw [if_pos rfl] at this
    cases this
  have o1t : tO s2t 5 q1t := ⟨by rw [e2t]; refine (if_neg nqt).trans ?_; rw [e1t]; exact if_pos rfl, b1t⟩
  have o2t : tA s2t 6 0 q2t := ⟨by rw [e2t]; exact if_pos rfl, b2t⟩
  unfold v_X5_init
  refine ⟨o1t, o1t, fun s3t e3t => ⟨?_, fun s4t e4t => ?_⟩⟩
  · have := (g2t.wQ (j := 0) (v := q2t) z1t d1t n1t).ox (by first | exact rt0 | exact Or.inl rt0 | exact Or.inl (Or.inl rt0)) l8
    rw [← e3t] at this
    exact this
  have g3t := g2t.wQ (j := 0) (v := q2t) z1t d1t n1t
  rw [← e3t] at g3t
  have g4t := g3t.s8 (PD' := []) (tx' := q1t) rt0 (fun x hx => by
    by_cases e : x = (0, 8)
    · exact Or.inl e
    · exact Or.inr fun z => (List.mem_cons.mp z).elim e hx)
  rw [l8, ← e4t] at g4t
  have o3t : tO s4t 5 q1t := by rw [e4t, e3t]; exact o1t
  have o4t : tA s4t 6 0 q2t := by rw [e4t, e3t]; exact o2t
  have r3t : tR s4t q1t 0 = q2t := by
    rw [e4t]
    refine (if_neg fun z => absurd z.2 (by decide)).trans ?_
    rw [e3t]
    exact if_pos ⟨rfl, rfl⟩
  have g5t := g4t.Qs (Q' := fun a => a = q1t ∨ a = q2t) (fun a ha => ha.elim (fun z => by rw [z]; exact ⟨(by rw [o3t.1]; intro y; cases y), n1t⟩) (fun z => by rw [z]; exact ⟨(by rw [o4t.1]; intro y; cases y), n2t⟩))
  refine ⟨by decide, by decide, fun q140 a141 b142 d143 s144 e145 => ⟨?_, fun s146 e147 => ?_⟩⟩
  · rw [e145]
    exact ⟨(if_neg fun e => g5t.al (r := 0) rt0 (by rw [l8, e]; exact a141)).trans (g5t.ox (by first | exact rt0 | exact Or.inl rt0 | exact Or.inl (Or.inl rt0)) l8).1, (g5t.ox (by first | exact rt0 | exact Or.inl rt0 | exact Or.inl (Or.inl rt0)) l8).2⟩
  obtain ⟨L149, h148, u150, v151⟩ := g5t.ad (r := 9) (p := 0) (j := 9) (c := .inr (0, 7)) (q := q140) (Rt_n (u := 9) rfl (by decide)) (by decide) rfl a141 b142 d143 rfl rt0 (fun j => iv0_z (by decide)) (by simp) (by decide)
  rw [l8, ← e145, ← e147] at h148
  have l9 : L149 0 = x0 := (v151 0 rt0).trans l8
  have h152 := h148.eqv (Rt_s nw_9)
  refine fun s5t e5t s6t e6t => ?_
  have g6t := h152.wI (PI' := [(0, 13), (0, 27)]) (r := 0) (j := 11) (v := -1) rt0 rfl (fun x hx => by
    by_cases e : x = (0, 11)
    · exact Or.inl e
    · exact Or.inr fun z => (List.mem_cons.mp z).elim e hx)
  rw [l9, ← e5t] at g6t
  have g7t := g6t.wI (PI' := [(0, 27)]) (r := 0) (j := 13) (v := -1) rt0 rfl (fun x hx => by
    by_cases e : x = (0, 13)
    · exact Or.inl e
    · exact Or.inr fun z => (List.mem_cons.mp z).elim e hx)
  rw [l9, ← e6t] at g7t
  refine ⟨by decide, by decide, fun q153 a154 b155 d156 s157 e158 => ⟨?_, fun s159 e160 => ?_⟩⟩
  · rw [e158]
    exact ⟨(if_neg fun e => g7t.al (r := 0) rt0 (by rw [l9, e]; exact a154)).trans (g7t.ox (by first | exact rt0 | exact Or.inl rt0 | exact Or.inl (Or.inl rt0)) l9).1, (g7t.ox (by first | exact rt0 | exact Or.inl rt0 | exact Or.inl (Or.inl rt0)) l9).2⟩
  obtain ⟨L162, h161, u163, v164⟩ := g7t.ad (r := 14) (p := 0) (j := 14) (c := .inr (2, 400)) (q := q153) (Rt_n (u := 10) rfl (by decide)) (by decide) rfl a154 b155 d156 rfl rt0 (fun j => iv0_z (by decide)) (by simp) (by decide)
  rw [l9, ← e158, ← e160] at h161
  have l10 : L162 0 = x0 := (v164 0 rt0).trans l9
  have h165 := h161.eqv (Rt_s nw_10)
  refine ⟨by decide, by decide, fun q166 a167 b168 d169 s170 e171 => ?_⟩
  obtain ⟨L176, h175, u177, v178⟩ := PC.mk3L h165 (PD' := [(0, 16)]) (q := q166) (rp := 16) (ra := 600) (rc := 1000) (t0 := 13) (n0 := 12) (tP := 12) (M := 26) (t1 := 3) (n1 := 25) rfl (fun i hi => (p600 i hi).1) (fun i b hi hb => (p1000 i hi b hb).1) (fun i hi => (p600 i hi).2.1) (fun i b hi hb => (p1000 i hi b hb).2) (Rt_n (u := 11) rfl (by decide)) (fun i hi => Rt_n (p600 i hi).2.2 (by decide)) (fun x h1 h2 => Rt_n ((nw_11 x).mpr (by omega)).2 (by decide)) ⟨by decide, by decide⟩ rt0 List.mem_cons_self (fun _ hx => by cases hx) (fun r j hr z => by simp at z; omega) (fun r j hr => iv0_z ⟨by omega, by omega, by omega⟩) ⟨by decide, by decide, by decide⟩ b168 d169 12 (Nat.le_refl _) (fun j hj => a167 j (by omega))
  rw [← e171] at h175
  refine ⟨h175.ox (by first | exact rt0 | exact Or.inl rt0 | exact Or.inl (Or.inl rt0)) ((v178 0 rt0).trans l10), fun s179 e180 => ?_⟩
  have h181 := h175.set (PD' := []) (q := 16) (r := 0) (j := 16) (Or.inr (Or.inl rfl)) (by decide) rfl (fun x hx => by
    by_cases e : x = (0, 16)
    · exact Or.inl e
    · exact Or.inr fun z => (List.mem_cons.mp z).elim e hx)
  have l11 : L176 0 = x0 := (v178 0 rt0).trans l10
  rw [u177, l11, ← e180] at h181
  have h182 := h181.eqv (Rt_s nw_11)
  refine ⟨by decide, by decide, fun q183 a184 b185 d186 s187 e188 => ?_⟩
  obtain ⟨L193, h192, u194, v195⟩ := PC.mk3L h182 (PD' := [(0, 17)]) (q := q183) (rp := 17) (ra := 620) (rc := 1400) (t0 := 14) (n0 := 12) (tP := 11) (M := 26) (t1 := 0) (n1 := 25) rfl (fun i hi => (p620 i hi).1) (fun i b hi hb => (p1400 i hi b hb).1) (fun i hi => (p620 i hi).2.1) (fun i b hi hb => (p1400 i hi b hb).2) (Rt_n (u := 12) rfl (by decide)) (fun i hi => Rt_n (p620 i hi).2.2 (by decide)) (fun x h1 h2 => Rt_n ((nw_12 x).mpr (by omega)).2 (by decide)) ⟨by decide, by decide⟩ rt0 List.mem_cons_self (fun _ hx => by cases hx) (fun r j hr z => by simp at z; omega) (fun r j hr => iv0_z ⟨by omega, by omega, by omega⟩) ⟨by decide, by decide, by decide⟩ b185 d186 12 (Nat.le_refl _) (fun j hj => a184 j (by omega))
  rw [← e188] at h192
  refine ⟨h192.ox (by first | exact rt0 | exact Or.inl rt0 | exact Or.inl (Or.inl rt0)) ((v195 0 rt0).trans l11), fun s196 e197 => ?_⟩
  have h198 := h192.set (PD' := []) (q := 17) (r := 0) (j := 17) (Or.inr (Or.inl rfl)) (by decide) rfl (fun x hx => by
    by_cases e : x = (0, 17)
    · exact Or.inl e
    · exact Or.inr fun z => (List.mem_cons.mp z).elim e hx)
  have l12 : L193 0 = x0 := (v195 0 rt0).trans l11
  rw [u194, l12, ← e197] at h198
  have h199 := h198.eqv (Rt_s nw_12)
  refine ⟨by decide, by decide, fun q200 a201 b202 d203 s204 e205 => ?_⟩
  obtain ⟨L210, h209, u211, v212⟩ := PC.mk3L h199 (PD' := [(0, 18)]) (q := q200) (rp := 18) (ra := 640) (rc := 1800) (t0 := 14) (n0 := 12) (tP := 11) (M := 26) (t1 := 0) (n1 := 25) rfl (fun i hi => (p640 i hi).1) (fun i b hi hb => (p1800 i hi b hb).1) (fun i hi => (p640 i hi).2.1) (fun i b hi hb => (p1800 i hi b hb).2) (Rt_n (u := 13) rfl (by decide)) (fun i hi => Rt_n (p640 i hi).2.2 (by decide)) (fun x h1 h2 => Rt_n ((nw_13 x).mpr (by omega)).2 (by decide)) ⟨by decide, by decide⟩ rt0 List.mem_cons_self (fun _ hx => by cases hx) (fun r j hr z => by simp at z; omega) (fun r j hr => iv0_z ⟨by omega, by omega, by omega⟩) ⟨by decide, by decide, by decide⟩ b202 d203 12 (Nat.le_refl _) (fun j hj => a201 j (by omega))
  rw [← e205] at h209
  refine ⟨h209.ox (by first | exact rt0 | exact Or.inl rt0 | exact Or.inl (Or.inl rt0)) ((v212 0 rt0).trans l12), fun s213 e214 => ?_⟩
  have h215 := h209.set (PD' := []) (q := 18) (r := 0) (j := 18) (Or.inr (Or.inl rfl)) (by decide) rfl (fun x hx => by
    by_cases e : x = (0, 18)
    · exact Or.inl e
    · exact Or.inr fun z => (List.mem_cons.mp z).elim e hx)
  have l13 : L210 0 = x0 := (v212 0 rt0).trans l12
  rw [u211, l13, ← e214] at h215
  have h216 := h215.eqv (Rt_s nw_13)
  refine ⟨by decide, by decide, fun q217 a218 b219 d220 s221 e222 => ?_⟩
  obtain ⟨L224, h223, u225, -, v226⟩ := PC.mkL h216 (PD' := [(0, 19)]) (q := q217) (rp := 19) (rb := 660) (t0 := 11) (n0 := 13) (t1 := 0) (n1 := 26) rfl (fun i hi => (p660 i hi).1) (fun i hi => (p660 i hi).2.1) (Rt_n (u := 14) rfl (by decide)) (fun i hi => Rt_n (p660 i hi).2.2 (by decide)) (by decide) rt0 List.mem_cons_self (fun _ hx => by cases hx) (fun j z => by simp at z) (fun r j hr => iv0_z ⟨by omega, by omega, by omega⟩) ⟨by decide, by decide, by decide⟩ b219 d220 13 (Nat.le_refl _) (fun j hj => a218 j (by omega))
  rw [← e222] at h223
  refine ⟨h223.ox (by first | exact rt0 | exact Or.inl rt0 | exact Or.inl (Or.inl rt0)) ((v226 0 rt0).trans l13), fun s227 e228 => ?_⟩
  have h229 := h223.set (PD' := []) (q := 19) (r := 0) (j := 19) (Or.inr (Or.inl rfl)) (by decide) rfl (fun x hx => by
    by_cases e : x = (0, 19)
    · exact Or.inl e
    · exact Or.inr fun z => (List.mem_cons.mp z).elim e hx)
  have l14 : L224 0 = x0 := (v226 0 rt0).trans l13
  rw [u225, l14, ← e228] at h229
  have h230 := h229.eqv (Rt_s nw_14)
  refine ⟨by decide, by decide, fun q231 a232 b233 d234 s235 e236 => ?_⟩
  obtain ⟨L238, h237, u239, -, v240⟩ := PC.mkL h230 (PD' := [(0, 20)]) (q := q231) (rp := 20) (rb := 680) (t0 := 11) (n0 := 13) (t1 := 0) (n1 := 26) rfl (fun i hi => (p680 i hi).1) (fun i hi => (p680 i hi).2.1) (Rt_n (u := 15) rfl (by decide)) (fun i hi => Rt_n (p680 i hi).2.2 (by decide)) (by decide) rt0 List.mem_cons_self (fun _ hx => by cases hx) (fun j z => by simp at z) (fun r j hr => iv0_z ⟨by omega, by omega, by omega⟩) ⟨by decide, by decide, by decide⟩ b233 d234 13 (Nat.le_refl _) (fun j hj => a232 j (by omega))
  rw [← e236] at h237
  refine ⟨h237.ox (by first | exact rt0 | exact Or.inl rt0 | exact Or.inl (Or.inl rt0)) ((v240 0 rt0).trans l14), fun s241 e242 => ?_⟩
  have h243 := h237.set (PD' := []) (q := 20) (r := 0) (j := 20) (Or.inr (Or.inl rfl)) (by decide) rfl (fun x hx => by
    by_cases e : x = (0, 20)
    · exact Or.inl e
    · exact Or.inr fun z => (List.mem_cons.mp z).elim e hx)
  have l15 : L238 0 = x0 := (v240 0 rt0).trans l14
  rw [u239, l15, ← e242] at h243
  have h244 := h243.eqv (Rt_s nw_15)
  refine ⟨by decide, by decide, fun q245 a246 b247 d248 s249 e250 => ?_⟩
  obtain ⟨L252, h251, u253, -, v254⟩ := PC.mkL h244 (PD' := [(0, 21)]) (q := q245) (rp := 21) (rb := 700) (t0 := 11) (n0 := 13) (t1 := 0) (n1 := 26) rfl (fun i hi => (p700 i hi).1) (fun i hi => (p700 i hi).2.1) (Rt_n (u := 16) rfl (by decide)) (fun i hi => Rt_n (p700 i hi).2.2 (by decide)) (by decide) rt0 List.mem_cons_self (fun _ hx => by cases hx) (fun j z => by simp at z) (fun r j hr => iv0_z ⟨by omega, by omega, by omega⟩) ⟨by decide, by decide, by decide⟩ b247 d248 13 (Nat.le_refl _) (fun j hj => a246 j (by omega))
  rw [← e250] at h251
  refine ⟨h251.ox (by first | exact rt0 | exact Or.inl rt0 | exact Or.inl (Or.inl rt0)) ((v254 0 rt0).trans l15), fun s255 e256 => ?_⟩
  have h257 := h251.set (PD' := []) (q := 21) (r := 0) (j := 21) (Or.inr (Or.inl rfl)) (by decide) rfl (fun x hx => by
    by_cases e : x = (0, 21)
    · exact Or.inl e
    · exact Or.inr fun z => (List.mem_cons.mp z).elim e hx)
  have l16 : L252 0 = x0 := (v254 0 rt0).trans l15
  rw [u253, l16, ← e256] at h257
  have h258 := h257.eqv (Rt_s nw_16)
  refine ⟨by decide, by decide, fun q259 a260 b261 d262 s263 e264 => ?_⟩
  obtain ⟨L266, h265, u267, -, v268⟩ := PC.mkL h258 (PD' := [(0, 22)]) (q := q259) (rp := 22) (rb := 720) (t0 := 15) (n0 := 13) (t1 := 1) (n1 := 26) rfl (fun i hi => (p720 i hi).1) (fun i hi => (p720 i hi).2.1) (Rt_n (u := 17) rfl (by decide)) (fun i hi => Rt_n (p720 i hi).2.2 (by decide)) (by decide) rt0 List.mem_cons_self (fun _ hx => by cases hx) (fun j z => by simp at z) (fun r j hr => iv0_z ⟨by omega, by omega, by omega⟩) ⟨by decide, by decide, by decide⟩ b261 d262 13 (Nat.le_refl _) (fun j hj => a260 j (by omega))
  rw [← e264] at h265
  refine ⟨h265.ox (by first | exact rt0 | exact Or.inl rt0 | exact Or.inl (Or.inl rt0)) ((v268 0 rt0).trans l16), fun s269 e270 => ?_⟩
  have h271 := h265.set (PD' := []) (q := 22) (r := 0) (j := 22) (Or.inr (Or.inl rfl)) (by decide) rfl (fun x hx => by
    by_cases e : x = (0, 22)
    · exact Or.inl e
    · exact Or.inr fun z => (List.mem_cons.mp z).elim e hx)
  have l17 : L266 0 = x0 := (v268 0 rt0).trans l16
  rw [u267, l17, ← e270] at h271
  have h272 := h271.eqv (Rt_s nw_17)
  refine ⟨by decide, by decide, fun q273 a274 b275 d276 s277 e278 => ⟨?_, fun s279 e280 => ?_⟩⟩
  · rw [e278]
    exact ⟨(if_neg fun e => h272.al (r := 0) rt0 (by rw [l17, e]; exact a274)).trans (h272.ox (by first | exact rt0 | exact Or.inl rt0 | exact Or.inl (Or.inl rt0)) l17).1, (h272.ox (by first | exact rt0 | exact Or.inl rt0 | exact Or.inl (Or.inl rt0)) l17).2⟩
  obtain ⟨L282, h281, u283, v284⟩ := h272.ad (r := 23) (p := 0) (j := 23) (c := .inr (0, 12)) (q := q273) (Rt_n (u := 18) rfl (by decide)) (by decide) rfl a274 b275 d276 rfl rt0 (fun j => iv0_z (by decide)) (by simp) (by decide)
  rw [l17, ← e278, ← e280] at h281
  have l18 : L282 0 = x0 := (v284 0 rt0).trans l17
  have h285 := h281.eqv (Rt_s nw_18)
  refine ⟨by decide, by decide, fun q286 a287 b288 d289 s290 e291 => ?_⟩
  obtain ⟨L293, h292, u294, v295⟩ := h285.add' (r := 26) (c := .inl 2) (q := q286) (PD' := (0, 26) :: []) (PI' := [(0, 27)]) (Rt_n (u := 19) rfl (by decide)) rfl a287 b288 d289 rt0 List.mem_cons_self (fun _ hx => List.mem_cons_of_mem _ hx) (fun _ hx => hx) (fun j _ => iv0_z (by decide)) ⟨by decide, by decide⟩
  rw [← e291] at h292
  refine ⟨2, 24, by decide, by decide, ?_⟩
  rw [← u294]
  refine v_bkS h292 (b := 26) (Or.inr (Or.inr (Or.inl rfl))) (Or.inr rfl) (fun z => z.elim (Rt_n (u := 19) rfl (by decide)) (by omega)) (fun z => z.elim (Rt_n (u := 19) rfl (by decide)) (by omega)) (fun j => by simp) (Nat.le_refl _) (Nat.le_refl _) (fun s296 L297 h298 v299 => ⟨?_, fun s300 e301 => ?_⟩)
  · exact h298.ox (by first | exact rt0 | exact Or.inl rt0 | exact Or.inl (Or.inl rt0)) ((v299 0 (Or.inl rt0)).trans ((v295 0 rt0).trans l18)) 
  have h302 := h298.set (PD' := []) (q := 26) (r := 0) (j := 26) (Or.inl (Or.inr rfl)) (by decide) rfl (fun x hx => by
    by_cases e : x = (0, 26)
    · exact Or.inl e
    · exact Or.inr fun z => (List.mem_cons.mp z).elim e hx)
  have l19 : L297 0 = x0 := (v299 0 (Or.inl rt0)).trans ((v295 0 rt0).trans l18)
  rw [v299 26 (Or.inr rfl), l19, ← e301] at h302
  have h303 : PC N s0 (Rt 19) L297 [] [(0, 27)] (fun a => a = q1t ∨ a = q2t) s4t q1t s300 := h302.eqv fun r => (Rt_s nw_19 r).trans ⟨fun z => z.elim (fun z => Or.inl (Or.inl z)) (fun z => z.elim (fun z => Or.inl (Or.inr z)) Or.inr), fun z => z.elim (fun z => z.elim Or.inl (fun z => Or.inr (Or.inl z))) (fun z => Or.inr (Or.inr z))⟩
  intro s7t e7t
  have g8t := h303.wI (PI' := []) (r := 0) (j := 27) (v := -1) rt0 rfl (fun x hx => by
    by_cases e : x = (0, 27)
    · exact Or.inl e
    · exact Or.inr fun z => (List.mem_cons.mp z).elim e hx)
  rw [l19, ← e7t] at g8t
  refine hK s7t _ q1t q2t s4t g8t l19 o3t o4t r3t
end MJ
