set_option maxRecDepth 100000
/-! ===== strings that are constants ===== -/
section JS
variable {G : xG} {l : Launch} {M M' : xM} {d k n mc ms : Nat} {Q Q' : xR → xH → Prop} {pc : Nat} {lv : xLs} {st rest : List Value} {h : xH} {idx i : Nat}
theorem x_nret {x : Int32} {ty : FieldType} (hdg : decode M.2.1 pc = .ok (.ireturn, 1)) (hr : M.2.2.2.1 = some ty) (hn : narrow ty (.int x) = .int x) (hq : Q (.inl (some (.int x))) h) : xF G l M d k n Q pc lv [.int x] h := by
  intro p e R s m args below meth c H locs cells slots ls F hL hc hs hR hS
  exact x_end hq hR hS hc hs fun q1 q2 => W.zret F.1 F.2.1 (F.2.2.1.trans hr) hn q1 q2 hdg F.2.2.2.2.2.2.1
theorem x_i2c {x v : Int32} (hdg : decode M.2.1 pc = .ok (.i2c, 1)) (hv : (x.toUInt32 % 65536).toInt32 = v) (kk : xF G l M d k n Q (pc + 1) lv (.int v :: rest) h) : xF G l M d k n Q pc lv (.int x :: rest) h := by
  intro p e R s m args below meth c H locs cells slots ls F hL hc hs hR hS
  exact lv_i2c F.1 F.2.1 hdg hv (kk p e R s m args below meth c H locs cells slots ls F hL hc hs hR hS)
theorem x_gsCS (hw : Cond.fieldLink M.1.cls idx "java/lang/String" "COMPACT_STRINGS" "Z" ∈ lw_all) (hdg : decode M.2.1 pc = .ok (.getstatic idx, 3)) (kk : xF G l M d k n Q (pc + 3) lv (.int 1 :: rest) h) : xF G l M d k n Q pc lv rest h := by
  intro p e R s m args below meth c H locs cells slots ls F hL hc hs hR hS
  exact va_gets F.1 F.2.1 F.2.2.2.2.2.2.2.2.2.2.1.2.2.2.2.2.2.1 hS F.2.2.2.2.1 (F.2.2.2.2.2.1 _ hw) (fun _ hx => hx) hdg (kk p e R s m args below meth c H locs cells slots ls F hL hc hs hR hS)
theorem x_gsE (hw : Cond.fieldLink M.1.cls idx "java/util/ArrayList" "DEFAULTCAPACITY_EMPTY_ELEMENTDATA" "[Ljava/lang/Object;" ∈ lw_all) (hdg : decode M.2.1 pc = .ok (.getstatic idx, 3)) (kk : xF G l M d k n Q (pc + 3) lv (.ref (G.2.2.1 200) :: rest) h) : xF G l M d k n Q pc lv rest h := by
  intro p e R s m args below meth c H locs cells slots ls F hL hc hs hR hS
  exact va_gets F.1 F.2.1 F.2.2.2.2.2.2.2.2.2.2.1.2.2.2.2.2.2.2.1 hS F.2.2.2.2.1 (F.2.2.2.2.2.1 _ hw) (fun _ hx => hx) hdg (kk p e R s m args below meth c H locs cells slots ls F hL hc hs hR hS)
/-- a static field that holds null or a reference that nobody looks at -/
theorem x_gsQ {C nm ds : String} (hZ : ∀ U : State, xKs G U → va_Zq C nm ds (xA G) U U.heap) (hw : Cond.fieldLink M.1.cls idx C nm ds ∈ lw_all) (hdg : decode M.2.1 pc = .ok (.getstatic idx, 3)) (kk : ∀ x : Nat, xF G l M d k n Q (pc + 3) lv (rfv x :: rest) h) : xF G l M d k n Q pc lv rest h := by
  intro p e R s m args below meth c H locs cells slots ls F hL hc hs hR hS
  rcases hZ s F.2.2.2.2.2.2.2.2.2.2.1.2.2.2.2 with hz | ⟨t, hz⟩
  · exact va_gets F.1 F.2.1 hz hS F.2.2.2.2.1 (F.2.2.2.2.2.1 _ hw) (fun _ hx => hx) hdg (kk 0 p e R s m args below meth c H locs cells slots ls F hL hc hs hR hS)
  · exact va_gets F.1 F.2.1 hz hS F.2.2.2.2.1 (F.2.2.2.2.2.1 _ hw) (fun _ hx => hx) hdg (kk (t + 1) p e R s m args below meth c H locs cells slots ls F hL hc hs hR hS)
theorem x_sCoder (hi : i < 40) (hw : Cond.fieldLink M.1.cls idx "java/lang/String" "coder" "B" ∈ lw_all) (hdg : decode M.2.1 pc = .ok (.getfield idx, 3)) (kk : xF G l M d k n Q (pc + 3) lv (.int 0 :: rest) h) : xF G l M d k n Q pc lv (.ref (G.2.2.1 i) :: rest) h := by
  intro p e R s m args below meth c H locs cells slots ls F hL hc hs hR hS
  exact vk_getf F.1 F.2.1 (F.2.2.2.2.2.2.2.2.2.2.1.2.2.2.2.2.1.1 i hi).2.1 hS F.2.2.2.2.1 (F.2.2.2.2.2.1 _ hw) (fun _ hx => hx) hdg (kk p e R s m args below meth c H locs cells slots ls F hL hc hs hR hS)
theorem x_sValue (hi : i < 40) (hw : Cond.fieldLink M.1.cls idx "java/lang/String" "value" "[B" ∈ lw_all) (hdg : decode M.2.1 pc = .ok (.getfield idx, 3)) (kk : xF G l M d k n Q (pc + 3) lv (.ref (G.2.2.1 (100 + i)) :: rest) h) : xF G l M d k n Q pc lv (.ref (G.2.2.1 i) :: rest) h := by
  intro p e R s m args below meth c H locs cells slots ls F hL hc hs hR hS
  exact vk_getf F.1 F.2.1 (F.2.2.2.2.2.2.2.2.2.2.1.2.2.2.2.2.1.1 i hi).2.2.1 hS F.2.2.2.2.1 (F.2.2.2.2.2.1 _ hw) (fun _ hx => hx) hdg (kk p e R s m args below meth c H locs cells slots ls F hL hc hs hR hS)
theorem x_sLen (hi : i < 40) (hdg : decode M.2.1 pc = .ok (.arraylength, 1)) (kk : xF G l M d k n Q (pc + 1) lv (.int (Int32.ofNat (xlen.getD i 0)) :: rest) h) : xF G l M d k n Q pc lv (.ref (G.2.2.1 (100 + i)) :: rest) h := by
  intro p e R s m args below meth c H locs cells slots ls F hL hc hs hR hS
  exact va_tlen F.1 F.2.1 (F.2.2.2.2.2.2.2.2.2.2.1.2.2.2.2.2.1.1 i hi).2.2.2 hS rfl hdg (kk p e R s m args below meth c H locs cells slots ls F hL hc hs hR hS)
theorem x_sByte {z : Int32} (hi : i < 40) (hz : vp_in z (xlen.getD i 0)) (hdg : decode M.2.1 pc = .ok (.baload, 1)) (kk : xF G l M d k n Q (pc + 1) lv (.int ((xbyt.getD i []).getD z.toNatClampNeg 0) :: rest) h) : xF G l M d k n Q pc lv (.int z :: .ref (G.2.2.1 (100 + i)) :: rest) h := by
  intro p e R s m args below meth c H locs cells slots ls F hL hc hs hR hS
  exact va_tb F.1 F.2.1 (F.2.2.2.2.2.2.2.2.2.2.1.2.2.2.2.2.1.1 i hi).2.2.2 hS hz rfl hdg (kk p e R s m args below meth c H locs cells slots ls F hL hc hs hR hS)
/-- a call on a string constant -/
theorem x_cVs {ar : Nat} {As : List Value} (hh : M.2.2.2.2 = []) (hw : xCV M.1.cls idx "java/lang/String" M' ar) (hi : i < 40) (har : As.length = ar) (hst : st = As.reverse ++ .ref (G.2.2.1 i) :: rest) (hrm : (rest.map fun v => v.category).sum ≤ 8) (hdg : decode M.2.1 pc = .ok (.invokevirtual idx, 3)) (hC : xC G l M' d mc ms (.ref (G.2.2.1 i) :: As) h Q') (hm : mc ≤ k ∧ ms ≤ n)
    (kx : ∀ (E : String) (q : Addr) (h1 : xH), Q' (.inr (E, q)) h1 → Q (.inr (E, q)) h1)
    (kk : ∀ (v : Option Value) (h1 : xH), Q' (.inl v) h1 → xF G l M (d + 1) (k - mc) (n - ms) Q (pc + 3) lv (v.toList ++ rest) h1) : xF G l M (d + 1) k n Q pc lv st h := by
  intro p e R s m args below meth c H locs cells slots ls F hL hc hs hR hS
  obtain ⟨w1, w2, w3, w4, w5, w6, w7, w8⟩ := hw
  have cw : CallW R s args M.1.cls "java/lang/String" idx M'.1 M'.2.1 M'.2.2.1 M'.2.2.2.1 (xws M') (xrm d mc ms) mc ms ar := cwV ar F.2.2.2.2.2.1 (lw_app (by
    intro w hw
    simp only [List.mem_cons, List.not_mem_nil, or_false] at hw
    rcases hw with e | e | e | e
    · rw [e]; exact w1
    · rw [e]; exact w2
    · rw [e]; exact w3
    · rw [e]; exact w4) (xws_good w5)) (xws_eq w6) rfl rfl w7 (x_room F.2.2.2.2.2.2.2.2.1 F.2.2.2.2.2.2.2.2.2.1 w8)
  have hr := vx_runV (rest := rest) (below := below) (e := e) (meth := meth) (locs := locs) (cells := cells) (slots := slots) (g := F0 m pc ls st) ⟨F.1, F.2.1, F.2.2.2.1, F.2.2.2.2.1, F.2.2.2.2.2.1⟩ hC cw ⟨xPc.blind, vk_recv F.2.2.2.2.2.2.2.2.2.2.1.2.2.2.2.2.1 hi hS, xPc.callee F hR hS⟩ rfl har hL.1 hst (lv_room hrm) hdg ⟨by omega, by omega⟩
  exact x_goes hh F hL hc hs hm hr hS kx kk
end JS
theorem s_byte : ∀ i, i < 40 → ∀ j, j < 8 → (((xbyt.getD i []).getD j 0 &&& 255).toUInt32 % 65536).toInt32 = (xbyt.getD i []).getD j 0 &&& 255 ∧ narrow .char (.int ((xbyt.getD i []).getD j 0 &&& 255)) = .int ((xbyt.getD i []).getD j 0 &&& 255) := by decide +kernel
theorem s_len8 : ∀ i, i < 40 → xlen.getD i 0 < 8 ∧ (Int32.ofNat (xlen.getD i 0) >>> (0 &&& 31)) = Int32.ofNat (xlen.getD i 0) ∧ (Int32.ofNat (xlen.getD i 0)).toInt = xlen.getD i 0 := by decide +kernel
theorem e_p_check {G : xG} {l : Launch} {d : Nat} {h : xH} {Q : xR → xH → Prop} {x y : Int32} {f : Nat} (hxy : ¬ x < 0 ∧ x < y) (hd : 1 ≤ d) (hq : Q (.inl (some (.int x))) h) : xC G l kJ5_checkIndex d 0 0 [.int x, .int y, rfv f] h Q := by
  obtain ⟨d, rfl⟩ : ∃ z, d = z + 1 := ⟨d - 1, by omega⟩
  refine t_start rfl (by decide +kernel) (by simp [rfv_c, xct_i]) (lv := [some (.int x), some (.int y), some (rfv f)]) (by simp [lv_args, xLv, rfv_c, xct_i]) ?_
  refine x_iload_0 dJ5_checkIndex_0 ?_
  refine x_if_lt 9 dJ5_checkIndex_1 (by decide) (fun c => absurd c hxy.1) (fun c => ?_)
  refine x_iload_0 dJ5_checkIndex_4 ?_
  refine x_iload_1 dJ5_checkIndex_5 ?_
  refine x_icmp_lt 16 dJ5_checkIndex_6 (by decide) (fun c => ?_) (fun c => absurd hxy.2 c)
  refine x_iload_0 dJ5_checkIndex_16 ?_
  exact x_iret dJ5_checkIndex_17 rfl hq
section JC
variable {G : xG} {l : Launch} {d : Nat} {h : xH} {Q : xR → xH → Prop} {i : Nat}
theorem e_s_coder (hi : i < 40) (hd : 1 ≤ d) (hq : Q (.inl (some (.int 0))) h) : xC G l kJ11_coder d 0 0 [.ref (G.2.2.1 i)] h Q := by
  obtain ⟨d, rfl⟩ : ∃ z, d = z + 1 := ⟨d - 1, by omega⟩
  refine t_start rfl (by decide +kernel) (by simp [Value.category]) (lv := [some (.ref (G.2.2.1 i))]) (by simp [lv_args, xLv, Value.category]) ?_
  refine x_gsCS q861 dJ11_coder_0 ?_
  refine x_if_eq 13 dJ11_coder_3 (by decide) (fun c => absurd c (by decide)) (fun c => ?_)
  refine x_aload_0 dJ11_coder_6 ?_
  refine x_sCoder hi q2359 dJ11_coder_7 ?_
  refine x_goto 14 dJ11_coder_10 (by decide) ?_
  exact x_nret dJ11_coder_14 rfl rfl hq
theorem e_s_isLatin1 (hi : i < 40) (hd : 1 ≤ d) (hq : Q (.inl (some (.int 1))) h) : xC G l kJ11_isLatin1 d 0 0 [.ref (G.2.2.1 i)] h Q := by
  obtain ⟨d, rfl⟩ : ∃ z, d = z + 1 := ⟨d - 1, by omega⟩
  refine t_start rfl (by decide +kernel) (by simp [Value.category]) (lv := [some (.ref (G.2.2.1 i))]) (by simp [lv_args, xLv, Value.category]) ?_
  refine x_gsCS q861 dJ11_isLatin1_0 ?_
  refine x_if_eq 17 dJ11_isLatin1_3 (by decide) (fun c => absurd c (by decide)) (fun c => ?_)
  refine x_aload_0 dJ11_isLatin1_6 ?_
  refine x_sCoder hi q2359 dJ11_isLatin1_7 ?_
  refine x_if_ne 17 dJ11_isLatin1_10 (by decide) (fun c => absurd rfl c) (fun c => ?_)
  refine x_iconst (v := 1) dJ11_isLatin1_13 (by decide) ?_
  refine x_goto 18 dJ11_isLatin1_14 (by decide) ?_
  exact x_zret1 dJ11_isLatin1_18 rfl hq
theorem e_s_length (hi : i < 40) (hd : 2 ≤ d) (hq : Q (.inl (some (.int (Int32.ofNat (xlen.getD i 0))))) h) : xC G l kJ11_length d 0 0 [.ref (G.2.2.1 i)] h Q := by
  obtain ⟨d, rfl⟩ : ∃ z, d = z + 1 := ⟨d - 1, by omega⟩
  refine t_start rfl (by decide +kernel) (by simp [Value.category]) (lv := [some (.ref (G.2.2.1 i))]) (by simp [lv_args, xLv, Value.category]) ?_
  refine x_aload_0 dJ11_length_0 ?_
  refine x_sValue hi q2358 dJ11_length_1 ?_
  refine x_sLen hi dJ11_length_4 ?_
  refine x_aload_0 dJ11_length_5 ?_
  refine x_cVs (As := []) rfl cv_J11_335 hi rfl rfl (by simp [Value.category]) dJ11_length_6 (e_s_coder (Q := xQi h (fun v => v = 0)) hi (by omega) ⟨0, rfl, rfl, rfl⟩) ⟨Nat.le_refl _, Nat.le_refl _⟩ (fun E q h1 hx => ?_) (fun v h1 hx => ?_)
  · obtain ⟨v, -, e, -⟩ := hx
    cases e
  obtain ⟨v, rfl, e, rfl⟩ := hx
  cases e
  refine x_ishr dJ11_length_9 ?_
  rw [(s_len8 i hi).2.1]
  exact x_iret dJ11_length_10 rfl hq
theorem e_s_check {x y : Int32} (hxy : ¬ x < 0 ∧ x < y) (hd : 2 ≤ d) (hq : Q (.inl none) h) : xC G l kJ11_checkIndex d 0 0 [.int x, .int y] h Q := by
  obtain ⟨d, rfl⟩ : ∃ z, d = z + 1 := ⟨d - 1, by omega⟩
  refine t_start rfl (by decide +kernel) (by simp [Value.category]) (lv := [some (.int x), some (.int y)]) (by simp [lv_args, xLv, Value.category]) ?_
  refine x_iload_0 dJ11_checkIndex_0 ?_
  refine x_iload_1 dJ11_checkIndex_1 ?_
  refine x_gsQ (fun U hU => hU.2.2.2.2.2.2.2.1) q877 dJ11_checkIndex_2 (fun f => ?_)
  refine t_cPi (As := [.int x, .int y, rfv f]) (K := fun v => v = x) rfl cs_J11_1059 rfl rfl (by simp) dJ11_checkIndex_5 (e_p_check hxy (by omega) ⟨x, rfl, rfl, rfl⟩) (fun v hv => ?_)
  refine x_pop dJ11_checkIndex_8 rfl ?_
  exact x_vret dJ11_checkIndex_9 rfl hq
theorem e_l_charAt {z : Int32} (hi : i < 40) (hz : vp_in z (xlen.getD i 0)) (hd : 3 ≤ d) (hq : Q (.inl (some (.int ((xbyt.getD i []).getD z.toNatClampNeg 0 &&& 255)))) h) : xC G l kJ12_charAt d 0 0 [.ref (G.2.2.1 (100 + i)), .int z] h Q := by
  obtain ⟨d, rfl⟩ : ∃ z, d = z + 1 := ⟨d - 1, by omega⟩
  have hz0 : ¬ z < 0 := fun q => hz (Or.inl q)
  have hz1 : z.toNatClampNeg < xlen.getD i 0 := Nat.not_le.mp fun q => hz (Or.inr q)
  have h8 := s_len8 i hi
  have hlt : z < Int32.ofNat (xlen.getD i 0) := by
    rw [Int32.lt_iff_toInt_lt, h8.2.2, nn_toInt hz0]
    omega
  refine t_start rfl (by decide +kernel) (by simp [Value.category]) (lv := [some (.ref (G.2.2.1 (100 + i))), some (.int z)]) (by simp [lv_args, xLv, Value.category]) ?_
  refine x_iload_1 dJ12_charAt_0 ?_
  refine x_aload_0 dJ12_charAt_1 ?_
  refine x_sLen hi dJ12_charAt_2 ?_
  refine x_cS (As := [.int z, .int (Int32.ofNat (xlen.getD i 0))]) (Q' := fun r h1 => r = .inl none ∧ h1 = h) rfl cs_J12_9 rfl rfl (by simp) dJ12_charAt_3 (e_s_check ⟨hz0, hlt⟩ (by omega) ⟨rfl, rfl⟩) ⟨Nat.le_refl _, Nat.le_refl _⟩ (fun E q h1 hx => by cases hx.1) (fun v h1 hx => ?_)
  obtain ⟨e, rfl⟩ := hx
  cases e
  refine x_aload_0 dJ12_charAt_6 ?_
  refine x_iload_1 dJ12_charAt_7 ?_
  refine x_sByte hi hz dJ12_charAt_8 ?_
  refine x_sipush (v := 255) dJ12_charAt_9 (by decide) ?_
  refine x_iand dJ12_charAt_12 ?_
  have hb := s_byte i hi z.toNatClampNeg (by omega)
  refine x_i2c dJ12_charAt_13 hb.1 ?_
  exact x_nret dJ12_charAt_14 rfl hb.2 hq
theorem e_s_charAt {z : Int32} (hi : i < 40) (hz : vp_in z (xlen.getD i 0)) (hd : 4 ≤ d) (hq : Q (.inl (some (.int ((xbyt.getD i []).getD z.toNatClampNeg 0 &&& 255)))) h) : xC G l kJ11_charAt d 0 0 [.ref (G.2.2.1 i), .int z] h Q := by
  obtain ⟨d, rfl⟩ : ∃ z, d = z + 1 := ⟨d - 1, by omega⟩
  refine t_start rfl (by decide +kernel) (by simp [Value.category]) (lv := [some (.ref (G.2.2.1 i)), some (.int z)]) (by simp [lv_args, xLv, Value.category]) ?_
  refine x_aload_0 dJ11_charAt_0 ?_
  refine x_cVs (As := []) rfl cv_J11_492 hi rfl rfl (by simp) dJ11_charAt_1 (e_s_isLatin1 (Q := xQi h (fun v => v = 1)) hi (by omega) ⟨1, rfl, rfl, rfl⟩) ⟨Nat.le_refl _, Nat.le_refl _⟩ (fun E q h1 hx => ?_) (fun v h1 hx => ?_)
  · obtain ⟨v, -, e, -⟩ := hx
    cases e
  obtain ⟨v, rfl, e, rfl⟩ := hx
  cases e
  refine x_if_eq 16 dJ11_charAt_4 (by decide) (fun c => absurd c (by decide)) (fun c => ?_)
  refine x_aload_0 dJ11_charAt_7 ?_
  refine x_sValue hi q2358 dJ11_charAt_8 ?_
  refine x_iload_1 dJ11_charAt_11 ?_
  refine t_cPi (As := [.ref (G.2.2.1 (100 + i)), .int z]) (K := fun v => v = (xbyt.getD i []).getD z.toNatClampNeg 0 &&& 255) rfl cs_J11_495 rfl rfl (by simp) dJ11_charAt_12 (e_l_charAt hi hz (by omega) ⟨_, rfl, rfl, rfl⟩) (fun v hv => ?_)
  subst hv
  have hj : z.toNatClampNeg < 8 := by
    have h1 := (s_len8 i hi).1
    have h2 : ¬ xlen.getD i 0 ≤ z.toNatClampNeg := fun q => hz (Or.inr q)
    omega
  exact x_nret dJ11_charAt_15 rfl (s_byte i hi _ hj).2 hq
end JC
/-! what the decompiled text says -/
def v_J11_length (N : tP) (x0 : Nat) (s : tM) (Kr : Int32 → tM → Prop) : Prop := ∃ i, i < 40 ∧ x0 = N.2.2 i ∧ Kr (Int32.ofNat (xlen.getD i 0)) s
def v_J11_charAt (N : tP) (x0 : Nat) (x1 : Int32) (s : tM) (Kr : Int32 → tM → Prop) : Prop := ∃ i, i < 40 ∧ x0 = N.2.2 i ∧ vp_in x1 (xlen.getD i 0) ∧ Kr ((xbyt.getD i []).getD x1.toNatClampNeg 0 &&& 255) s
section JT
variable {G : xG} {l : Launch} {M M' : xM} {d k n : Nat} {Q : xR → xH → Prop} {pc : Nat} {lv : xLs} {st rest : List Value} {g : xH} {m : tM} {idx : Nat}
theorem t_sLen {x0 : Nat} {N : tP} {K : Int32 → tM → Prop} (hh : M.2.2.2.2 = []) (hw : xCV M.1.cls idx "java/lang/String" kJ11_length 0) (hN : tNs G N) (hd : 2 ≤ d) (h : v_J11_length N x0 m K) (hrm : (rest.map fun v => v.category).sum ≤ 8) (hdg : decode M.2.1 pc = .ok (.invokevirtual idx, 3))
    (kk : ∀ v m1, K v m1 → xF G l M (d + 1) k n Q (pc + 3) lv (.int v :: rest) (tH G g m1)) : xF G l M (d + 1) k n Q pc lv (rfv x0 :: rest) (tH G g m) := by
  obtain ⟨i, hi, rfl, hK⟩ := h
  rw [hN i]
  refine x_cVs (As := []) hh hw hi rfl rfl hrm hdg (e_s_length (Q := xQi (tH G g m) (fun v => v = Int32.ofNat (xlen.getD i 0))) hi hd ⟨_, rfl, rfl, rfl⟩) ⟨Nat.zero_le _, Nat.zero_le _⟩ (fun E q h1 hx => ?_) (fun v h1 hx => ?_)
  · obtain ⟨v, -, e, -⟩ := hx
    cases e
  obtain ⟨v, rfl, e, rfl⟩ := hx
  cases e
  exact kk _ _ hK
theorem t_sCh {x0 : Nat} {x1 : Int32} {N : tP} {K : Int32 → tM → Prop} (hh : M.2.2.2.2 = []) (hw : xCV M.1.cls idx "java/lang/String" kJ11_charAt 1) (hN : tNs G N) (hd : 4 ≤ d) (h : v_J11_charAt N x0 x1 m K) (hrm : (rest.map fun v => v.category).sum ≤ 8) (hdg : decode M.2.1 pc = .ok (.invokevirtual idx, 3))
    (kk : ∀ v m1, K v m1 → xF G l M (d + 1) k n Q (pc + 3) lv (.int v :: rest) (tH G g m1)) : xF G l M (d + 1) k n Q pc lv (.int x1 :: rfv x0 :: rest) (tH G g m) := by
  obtain ⟨i, hi, rfl, hz, hK⟩ := h
  rw [hN i]
  refine x_cVs (As := [.int x1]) hh hw hi rfl rfl hrm hdg (e_s_charAt (Q := xQi (tH G g m) (fun v => v = (xbyt.getD i []).getD x1.toNatClampNeg 0 &&& 255)) hi hz hd ⟨_, rfl, rfl, rfl⟩) ⟨Nat.zero_le _, Nat.zero_le _⟩ (fun E q h1 hx => ?_) (fun v h1 hx => ?_)
  · obtain ⟨v, -, e, -⟩ := hx
    cases e
  obtain ⟨v, rfl, e, rfl⟩ := hx
  cases e
  exact kk _ _ hK
theorem t_aastS {a z : Nat} {i : Int32} {N : tP} (hN : tNs G N) (hz : z < 40) (hdg : decode M.2.1 pc = .ok (.aastore, 1)) (ho : tX m 9 a i)
    (kk : xF G l M d k n Q (pc + 1) lv st (tH G g (tsR m a i.toNatClampNeg (N.2.2 z)))) : xF G l M d k n Q pc lv (rfv (N.2.2 z) :: .int i :: rfv a :: st) (tH G g m) := by
  obtain ⟨E, C, T, N0, ht, h4, h99, hcl, has⟩ := st_9_23
  rw [hN z] at kk ⊢
  generalize hv0 : G.2.2.1 z = v at kk ⊢
  obtain ⟨N, ho, hin⟩ := ho
  obtain ⟨a, rfl⟩ := Nat.exists_eq_succ_of_ne_zero ho.2
  intro p e R s m₀ args below meth c H locs cells slots ls F hL hc hs hR hS
  have hK := F.2.2.2.2.2.2.2.2.2.2.1
  obtain ⟨hA, hcell⟩ := hR a _ (tH_O h4 h99 ho)
  have hka : va_K G.1 xcl [(G.2.1 9, .object E)] s := ⟨hK.1.1, fun j q hj => by
    cases j with
    | zero => cases hj; exact hK.1.2.1 9 _ ht
    | succ j => simp at hj⟩
  have hrecv : ∃ cellV : Cell, H[v]? = some cellV ∧ cellV.vm.isStatics = false ∧ s.vm.findClass C = some cellV.cls := by
    cases hcl
    subst hv0
    exact vk_recv hK.2.2.2.2.2.1 hz hS
  have hasg : ∀ comp c0 : ClassId, s.vm.findClass E = some comp → s.vm.findClass C = some c0 → s.vm.assignable c0 comp = true := by
    rcases has with e1 | e1
    · subst e1
      exact vb_asgS
    · exact vb_asgC (hK.2.2.1 _ e1)
  have hlt : i.toNatClampNeg < N := Nat.not_le.mp fun q => hin (Or.inr q)
  have hi0 : ¬ i < 0 := fun q => hin (Or.inl q)
  obtain ⟨cellV, g1, g2, g3⟩ := hrecv
  obtain ⟨kA, comp, k1, k2, k3, -⟩ := (hK.1.2.1 9 _ ht).2
  have hcls := (hK.1.1 23 _ hcl).2
  obtain ⟨kC, hkC, -⟩ := hcls.2
  have hcv : cellV.cls = G.1.1 23 := Option.some.inj (g3.symm.trans hcls.1)
  obtain ⟨kcomp, hkcomp⟩ : ∃ kc : Class, s.vm.classes[comp]? = some kc := by
    obtain ⟨k9, h9, -⟩ := Vm.findClass_spec k3
    exact ⟨k9, h9⟩
  refine W.aast F.1 F.2.1 hcell (fun q h => by cases h) (fun h => by cases h) k1 k2 rfl hkcomp ⟨hi0, by show _ < (arrV _ _ _).slots.size; rw [arrV_size]; exact hlt⟩ g1 (fun q h => by rw [h] at g2; cases g2) (by rw [hcv]; exact hkC) (hasg _ _ k3 g3) rfl rfl hdg fun H1 e z oq => ?_
  refine kk p _ R s m₀ args below meth c H1 _ cells slots ls F hL hc hs ?_ (hS.put z oq hA)
  rw [← tH_upR2 h4 h99 ho]
  refine hR.set hA ?_ oq
  show H1[a]? = some (vp_cell _ _)
  rw [e, vp_cell_q, vp_cell_q, arrV_store]
  congr 2
  funext q
  by_cases hq : q = i.toNatClampNeg
  · subst hq
    simp [updV, va_up, va_rf]
  · simp [updV, va_up, hq]
end JT
