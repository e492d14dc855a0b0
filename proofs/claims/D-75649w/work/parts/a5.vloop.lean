set_option maxRecDepth 100000
/-! ===== the law: its loop ===== -/
section LL
variable {N : tP} {s : tM} {x0 x1 x2 : Nat} {x3 : Int32} {K : Nat → Nat → tM → Prop} {R : Int32 → Nat → Nat → tM → Prop} {k n : Nat}
theorem RXo.o (hX : RXo N s x1 x2) : tO s 0 x1 := by
  obtain ⟨L, M, rfl, hX, -⟩ := hX
  exact hX.S.o (r := 0) rfl
theorem lb_208 (hN : nOK N) (h0 : x0 = N.2.2 202) (h1 : vp_in (x3 + 1) (N.2.2 203 - 1)) (h2 : vp_in (x3 + 2) (N.2.2 203 - 1)) (h3 : vp_in (x3 + 3) (N.2.2 203 - 1)) (h4 : vp_in (x3 + 4) (N.2.2 203 - 1)) (h5 : vp_in (x3 + 5) (N.2.2 203 - 1)) (hX : RXo N s x1 x2) (hk : 820 ≤ k) (hn : 3400 ≤ n) (hR : ∀ k' n' s', k - 820 ≤ k' → n - 3400 ≤ n' → RXo N s' x1 x2 → R (x3 + 6) k' n' s') : v_L2_law_208 N x0 x1 x2 x3 (fun v _ => v = 1) K R k n s := by
  unfold v_L2_law_208
  exact ⟨h0, h1, h2, hX.o, op_note hX (K := fun s' => ∀ x : Int32, x = x3 + 6 → R x k n s') (fun s' hX' x hx => hx ▸ hR k n s' (by omega) (by omega) hX') _ _⟩
theorem lb_241 (hN : nOK N) (h0 : x0 = N.2.2 202) (h1 : vp_in (x3 + 1) (N.2.2 203 - 1)) (h2 : vp_in (x3 + 2) (N.2.2 203 - 1)) (h3 : vp_in (x3 + 3) (N.2.2 203 - 1)) (h4 : vp_in (x3 + 4) (N.2.2 203 - 1)) (h5 : vp_in (x3 + 5) (N.2.2 203 - 1)) (hX : RXo N s x1 x2) (hk : 820 ≤ k) (hn : 3400 ≤ n) (hR : ∀ k' n' s', k - 820 ≤ k' → n - 3400 ≤ n' → RXo N s' x1 x2 → R (x3 + 6) k' n' s') : v_L2_law_241 N x0 x1 x2 x3 (fun v _ => v = 1) K R k n s := by
  unfold v_L2_law_241
  exact ⟨h0, h1, h2, hX.o, op_of hN hX (K := fun s' => ∀ x : Int32, x = x3 + 6 → R x k n s') (fun s' hX' x hx => hx ▸ hR k n s' (by omega) (by omega) hX') _ _⟩
theorem lb_274 (hN : nOK N) (h0 : x0 = N.2.2 202) (h1 : vp_in (x3 + 1) (N.2.2 203 - 1)) (h2 : vp_in (x3 + 2) (N.2.2 203 - 1)) (h3 : vp_in (x3 + 3) (N.2.2 203 - 1)) (h4 : vp_in (x3 + 4) (N.2.2 203 - 1)) (h5 : vp_in (x3 + 5) (N.2.2 203 - 1)) (hX : RXo N s x1 x2) (hk : 820 ≤ k) (hn : 3400 ≤ n) (hR : ∀ k' n' s', k - 820 ≤ k' → n - 3400 ≤ n' → RXo N s' x1 x2 → R (x3 + 6) k' n' s') : v_L2_law_274 N x0 x1 x2 x3 (fun v _ => v = 1) K R k n s := by
  unfold v_L2_law_274
  exact ⟨h0, h1, h2, hX.o, op_at hX (K := fun s' => ∀ x : Int32, x = x3 + 6 → R x k n s') (fun s' hX' x hx => hx ▸ hR k n s' (by omega) (by omega) hX') _ _⟩
theorem lb_307 (hN : nOK N) (h0 : x0 = N.2.2 202) (h1 : vp_in (x3 + 1) (N.2.2 203 - 1)) (h2 : vp_in (x3 + 2) (N.2.2 203 - 1)) (h3 : vp_in (x3 + 3) (N.2.2 203 - 1)) (h4 : vp_in (x3 + 4) (N.2.2 203 - 1)) (h5 : vp_in (x3 + 5) (N.2.2 203 - 1)) (hX : RXo N s x1 x2) (hk : 820 ≤ k) (hn : 3400 ≤ n) (hR : ∀ k' n' s', k - 820 ≤ k' → n - 3400 ≤ n' → RXo N s' x1 x2 → R (x3 + 6) k' n' s') : v_L2_law_307 N x0 x1 x2 x3 (fun v _ => v = 1) K R k n s := by
  unfold v_L2_law_307
  exact ⟨h0, h1, hX.o, op_all hN hX (K := fun s' => ∀ x : Int32, x = x3 + 6 → R x k n s') (fun s' hX' x hx => hx ▸ hR k n s' (by omega) (by omega) hX') _⟩
theorem lb_330 (hN : nOK N) (h0 : x0 = N.2.2 202) (h1 : vp_in (x3 + 1) (N.2.2 203 - 1)) (h2 : vp_in (x3 + 2) (N.2.2 203 - 1)) (h3 : vp_in (x3 + 3) (N.2.2 203 - 1)) (h4 : vp_in (x3 + 4) (N.2.2 203 - 1)) (h5 : vp_in (x3 + 5) (N.2.2 203 - 1)) (hX : RXo N s x1 x2) (hk : 820 ≤ k) (hn : 3400 ≤ n) (hR : ∀ k' n' s', k - 820 ≤ k' → n - 3400 ≤ n' → RXo N s' x1 x2 → R (x3 + 6) k' n' s') : v_L2_law_330 N x0 x1 x2 x3 (fun v _ => v = 1) K R k n s := by
  unfold v_L2_law_330
  exact ⟨h0, h1, h2, hX.o, op_terms hX (K := fun s' => ∀ x : Int32, x = x3 + 6 → R x k n s') (fun s' hX' x hx => hx ▸ hR k n s' (by omega) (by omega) hX') _ _⟩
theorem lb_363 (hN : nOK N) (h0 : x0 = N.2.2 202) (h1 : vp_in (x3 + 1) (N.2.2 203 - 1)) (h2 : vp_in (x3 + 2) (N.2.2 203 - 1)) (h3 : vp_in (x3 + 3) (N.2.2 203 - 1)) (h4 : vp_in (x3 + 4) (N.2.2 203 - 1)) (h5 : vp_in (x3 + 5) (N.2.2 203 - 1)) (hX : RXo N s x1 x2) (hk : 820 ≤ k) (hn : 3400 ≤ n) (hR : ∀ k' n' s', k - 820 ≤ k' → n - 3400 ≤ n' → RXo N s' x1 x2 → R (x3 + 6) k' n' s') : v_L2_law_363 N x0 x1 x2 x3 (fun v _ => v = 1) K R k n s := by
  unfold v_L2_law_363
  exact ⟨h0, h1, h2, h3, h4, h5, hX.o, op_feed hN hX (K := fun s' => ∀ x : Int32, x = x3 + 6 → R x k n s') (fun s' hX' x hx => hx ▸ hR k n s' (by omega) (by omega) hX') _ _ _ _ _⟩
theorem lb_426 (hN : nOK N) (h0 : x0 = N.2.2 202) (h1 : vp_in (x3 + 1) (N.2.2 203 - 1)) (h2 : vp_in (x3 + 2) (N.2.2 203 - 1)) (h3 : vp_in (x3 + 3) (N.2.2 203 - 1)) (h4 : vp_in (x3 + 4) (N.2.2 203 - 1)) (h5 : vp_in (x3 + 5) (N.2.2 203 - 1)) (hX : RXo N s x1 x2) (hk : 820 ≤ k) (hn : 3400 ≤ n) (hR : ∀ k' n' s', k - 820 ≤ k' → n - 3400 ≤ n' → RXo N s' x1 x2 → R (x3 + 6) k' n' s') : v_L2_law_426 N x0 x1 x2 x3 (fun v _ => v = 1) K R k n s := by
  unfold v_L2_law_426
  exact ⟨h0, h1, hX.o, op_end hX (K := fun s' => ∀ x : Int32, x = x3 + 6 → R x k n s') (fun s' hX' x hx => hx ▸ hR k n s' (by omega) (by omega) hX') _⟩
theorem lb_449 (hN : nOK N) (h0 : x0 = N.2.2 202) (h1 : vp_in (x3 + 1) (N.2.2 203 - 1)) (h2 : vp_in (x3 + 2) (N.2.2 203 - 1)) (h3 : vp_in (x3 + 3) (N.2.2 203 - 1)) (h4 : vp_in (x3 + 4) (N.2.2 203 - 1)) (h5 : vp_in (x3 + 5) (N.2.2 203 - 1)) (hX : RXo N s x1 x2) (hk : 820 ≤ k) (hn : 3400 ≤ n) (hR : ∀ k' n' s', k - 820 ≤ k' → n - 3400 ≤ n' → RXo N s' x1 x2 → R (x3 + 6) k' n' s') : v_L2_law_449 N x0 x1 x2 x3 (fun v _ => v = 1) K R k n s := by
  unfold v_L2_law_449
  exact ⟨4, 470, by omega, by omega, hX.o, op_row hN hX (K := fun s' => ∀ x : Int32, x = x3 + 6 → R x (k - 4) (n - 470) s') (fun s' hX' x hx => hx ▸ hR (k - 4) (n - 470) s' (by omega) (by omega) hX') (Nat.le_refl _) (Nat.le_refl _)⟩
theorem lb_462 (hN : nOK N) (h0 : x0 = N.2.2 202) (h1 : vp_in (x3 + 1) (N.2.2 203 - 1)) (h2 : vp_in (x3 + 2) (N.2.2 203 - 1)) (h3 : vp_in (x3 + 3) (N.2.2 203 - 1)) (h4 : vp_in (x3 + 4) (N.2.2 203 - 1)) (h5 : vp_in (x3 + 5) (N.2.2 203 - 1)) (hX : RXo N s x1 x2) (hk : 820 ≤ k) (hn : 3400 ≤ n) (hR : ∀ k' n' s', k - 820 ≤ k' → n - 3400 ≤ n' → RXo N s' x1 x2 → R (x3 + 6) k' n' s') : v_L2_law_462 N x0 x1 x2 x3 (fun v _ => v = 1) K R k n s := by
  unfold v_L2_law_462
  exact ⟨hX.o, op_blots hX (K := fun s' => ∀ x : Int32, x = x3 + 6 → R x k n s') (fun s' hX' x hx => hx ▸ hR k n s' (by omega) (by omega) hX')⟩
theorem lb_475 (hN : nOK N) (h0 : x0 = N.2.2 202) (h1 : vp_in (x3 + 1) (N.2.2 203 - 1)) (h2 : vp_in (x3 + 2) (N.2.2 203 - 1)) (h3 : vp_in (x3 + 3) (N.2.2 203 - 1)) (h4 : vp_in (x3 + 4) (N.2.2 203 - 1)) (h5 : vp_in (x3 + 5) (N.2.2 203 - 1)) (hX : RXo N s x1 x2) (hk : 820 ≤ k) (hn : 3400 ≤ n) (hR : ∀ k' n' s', k - 820 ≤ k' → n - 3400 ≤ n' → RXo N s' x1 x2 → R (x3 + 6) k' n' s') : v_L2_law_475 N x0 x1 x2 x3 (fun v _ => v = 1) K R k n s := by
  unfold v_L2_law_475
  exact ⟨820, 1720, by omega, by omega, hX.o, op_law hN hX (K := fun s' => ∀ x : Int32, x = x3 + 6 → R x (k - 820) (n - 1720) s') (fun s' hX' x hx => hx ▸ hR (k - 820) (n - 1720) s' (by omega) (by omega) hX') (Nat.le_refl _) (Nat.le_refl _)⟩
theorem lb_488 (hN : nOK N) (h0 : x0 = N.2.2 202) (h1 : vp_in (x3 + 1) (N.2.2 203 - 1)) (h2 : vp_in (x3 + 2) (N.2.2 203 - 1)) (h3 : vp_in (x3 + 3) (N.2.2 203 - 1)) (h4 : vp_in (x3 + 4) (N.2.2 203 - 1)) (h5 : vp_in (x3 + 5) (N.2.2 203 - 1)) (hX : RXo N s x1 x2) (hk : 820 ≤ k) (hn : 3400 ≤ n) (hR : ∀ k' n' s', k - 820 ≤ k' → n - 3400 ≤ n' → RXo N s' x1 x2 → R (x3 + 6) k' n' s') : v_L2_law_488 N x0 x1 x2 x3 (fun v _ => v = 1) K R k n s := by
  unfold v_L2_law_488
  exact ⟨820, 3400, by omega, by omega, hX.o, op_orders hN hX (K := fun s' => ∀ x : Int32, x = x3 + 6 → R x (k - 820) (n - 3400) s') (fun s' hX' x hx => hx ▸ hR (k - 820) (n - 3400) s' (by omega) (by omega) hX') (Nat.le_refl _) (Nat.le_refl _)⟩
theorem lb_501 (hN : nOK N) (h0 : x0 = N.2.2 202) (h1 : vp_in (x3 + 1) (N.2.2 203 - 1)) (h2 : vp_in (x3 + 2) (N.2.2 203 - 1)) (h3 : vp_in (x3 + 3) (N.2.2 203 - 1)) (h4 : vp_in (x3 + 4) (N.2.2 203 - 1)) (h5 : vp_in (x3 + 5) (N.2.2 203 - 1)) (hX : RXo N s x1 x2) (hk : 820 ≤ k) (hn : 3400 ≤ n) (hR : ∀ k' n' s', k - 820 ≤ k' → n - 3400 ≤ n' → RXo N s' x1 x2 → R (x3 + 6) k' n' s') : v_L2_law_501 N x0 x1 x2 x3 (fun v _ => v = 1) K R k n s := by
  unfold v_L2_law_501
  exact ⟨hX.o, op_fault hX (K := fun s' => ∀ x : Int32, x = x3 + 6 → R x k n s') (fun s' hX' x hx => hx ▸ hR k n s' (by omega) (by omega) hX')⟩
theorem lb_514 (hN : nOK N) (h0 : x0 = N.2.2 202) (h1 : vp_in (x3 + 1) (N.2.2 203 - 1)) (h2 : vp_in (x3 + 2) (N.2.2 203 - 1)) (h3 : vp_in (x3 + 3) (N.2.2 203 - 1)) (h4 : vp_in (x3 + 4) (N.2.2 203 - 1)) (h5 : vp_in (x3 + 5) (N.2.2 203 - 1)) (hX : RXo N s x1 x2) (hk : 820 ≤ k) (hn : 3400 ≤ n) (hR : ∀ k' n' s', k - 820 ≤ k' → n - 3400 ≤ n' → RXo N s' x1 x2 → R (x3 + 6) k' n' s') : v_L2_law_514 N x0 x1 x2 x3 (fun v _ => v = 1) K R k n s := by
  unfold v_L2_law_514
  exact ⟨hX.o, op_stopped hX (K := fun s' => ∀ x : Int32, x = x3 + 6 → R x k n s') (fun s' hX' x hx => hx ▸ hR k n s' (by omega) (by omega) hX')⟩
theorem lb_527 (hN : nOK N) (h0 : x0 = N.2.2 202) (h1 : vp_in (x3 + 1) (N.2.2 203 - 1)) (h2 : vp_in (x3 + 2) (N.2.2 203 - 1)) (h3 : vp_in (x3 + 3) (N.2.2 203 - 1)) (h4 : vp_in (x3 + 4) (N.2.2 203 - 1)) (h5 : vp_in (x3 + 5) (N.2.2 203 - 1)) (hX : RXo N s x1 x2) (hk : 820 ≤ k) (hn : 3400 ≤ n) (hR : ∀ k' n' s', k - 820 ≤ k' → n - 3400 ≤ n' → RXo N s' x1 x2 → R (x3 + 6) k' n' s') : v_L2_law_527 N x0 x1 x2 x3 (fun v _ => v = 1) K R k n s := by
  unfold v_L2_law_527
  exact ⟨h0, h1, hX.o, op_force hX (K := fun s' => ∀ x : Int32, x = x3 + 6 → R x k n s') (fun s' hX' x hx => hx ▸ hR k n s' (by omega) (by omega) hX') _⟩
theorem lb_550 (hN : nOK N) (h0 : x0 = N.2.2 202) (h1 : vp_in (x3 + 1) (N.2.2 203 - 1)) (h2 : vp_in (x3 + 2) (N.2.2 203 - 1)) (h3 : vp_in (x3 + 3) (N.2.2 203 - 1)) (h4 : vp_in (x3 + 4) (N.2.2 203 - 1)) (h5 : vp_in (x3 + 5) (N.2.2 203 - 1)) (hX : RXo N s x1 x2) (hk : 820 ≤ k) (hn : 3400 ≤ n) (hR : ∀ k' n' s', k - 820 ≤ k' → n - 3400 ≤ n' → RXo N s' x1 x2 → R (x3 + 6) k' n' s') : v_L2_law_550 N x0 x1 x2 x3 (fun v _ => v = 1) K R k n s := by
  unfold v_L2_law_550
  exact ⟨h0, h1, h2, hX.o, op_set hN hX (K := fun s' => ∀ x : Int32, x = x3 + 6 → R x k n s') (fun s' hX' x hx => hx ▸ hR k n s' (by omega) (by omega) hX') _ _⟩
theorem lb_583 (hN : nOK N) (h0 : x0 = N.2.2 202) (h1 : vp_in (x3 + 1) (N.2.2 203 - 1)) (h2 : vp_in (x3 + 2) (N.2.2 203 - 1)) (h3 : vp_in (x3 + 3) (N.2.2 203 - 1)) (h4 : vp_in (x3 + 4) (N.2.2 203 - 1)) (h5 : vp_in (x3 + 5) (N.2.2 203 - 1)) (hX : RXo N s x1 x2) (hk : 820 ≤ k) (hn : 3400 ≤ n) (hR : ∀ k' n' s', k - 820 ≤ k' → n - 3400 ≤ n' → RXo N s' x1 x2 → R (x3 + 6) k' n' s') : v_L2_law_583 N x0 x1 x2 x3 (fun v _ => v = 1) K R k n s := by
  unfold v_L2_law_583
  exact ⟨h0, h1, h2, hX.o, op_shift hN hX (K := fun s' => ∀ x : Int32, x = x3 + 6 → R x k n s') (fun s' hX' x hx => hx ▸ hR k n s' (by omega) (by omega) hX') _ _⟩
theorem lb_616 (hN : nOK N) (h0 : x0 = N.2.2 202) (h1 : vp_in (x3 + 1) (N.2.2 203 - 1)) (h2 : vp_in (x3 + 2) (N.2.2 203 - 1)) (h3 : vp_in (x3 + 3) (N.2.2 203 - 1)) (h4 : vp_in (x3 + 4) (N.2.2 203 - 1)) (h5 : vp_in (x3 + 5) (N.2.2 203 - 1)) (hX : RXo N s x1 x2) (hk : 820 ≤ k) (hn : 3400 ≤ n) (hR : ∀ k' n' s', k - 820 ≤ k' → n - 3400 ≤ n' → RXo N s' x1 x2 → R (x3 + 6) k' n' s') : v_L2_law_616 N x0 x1 x2 x3 (fun v _ => v = 1) K R k n s := by
  unfold v_L2_law_616
  exact ⟨hX.o, op_swap hN hX (K := fun s' => ∀ x : Int32, x = x3 + 6 → R x k n s') (fun s' hX' x hx => hx ▸ hR k n s' (by omega) (by omega) hX')⟩
theorem lb_629 (hN : nOK N) (h0 : x0 = N.2.2 202) (h1 : vp_in (x3 + 1) (N.2.2 203 - 1)) (h2 : vp_in (x3 + 2) (N.2.2 203 - 1)) (h3 : vp_in (x3 + 3) (N.2.2 203 - 1)) (h4 : vp_in (x3 + 4) (N.2.2 203 - 1)) (h5 : vp_in (x3 + 5) (N.2.2 203 - 1)) (hX : RXo N s x1 x2) (hk : 820 ≤ k) (hn : 3400 ≤ n) (hR : ∀ k' n' s', k - 820 ≤ k' → n - 3400 ≤ n' → RXo N s' x1 x2 → R (x3 + 6) k' n' s') : v_L2_law_629 N x0 x1 x2 x3 (fun v _ => v = 1) K R k n s := by
  unfold v_L2_law_629
  exact ⟨hX.o, op_pass hN hX (K := fun s' => ∀ x : Int32, x = x3 + 6 → R x k n s') (fun s' hX' x hx => hx ▸ hR k n s' (by omega) (by omega) hX')⟩
theorem lb_642 (hN : nOK N) (h0 : x0 = N.2.2 202) (h1 : vp_in (x3 + 1) (N.2.2 203 - 1)) (h2 : vp_in (x3 + 2) (N.2.2 203 - 1)) (h3 : vp_in (x3 + 3) (N.2.2 203 - 1)) (h4 : vp_in (x3 + 4) (N.2.2 203 - 1)) (h5 : vp_in (x3 + 5) (N.2.2 203 - 1)) (hX : RXo N s x1 x2) (hk : 820 ≤ k) (hn : 3400 ≤ n) (hR : ∀ k' n' s', k - 820 ≤ k' → n - 3400 ≤ n' → RXo N s' x1 x2 → R (x3 + 6) k' n' s') : v_L2_law_642 N x0 x1 x2 x3 (fun v _ => v = 1) K R k n s := by
  unfold v_L2_law_642
  exact ⟨hX.o, op_undo hN hX (K := fun s' => ∀ x : Int32, x = x3 + 6 → R x k n s') (fun s' hX' x hx => hx ▸ hR k n s' (by omega) (by omega) hX')⟩
theorem lb_655 (hN : nOK N) (h0 : x0 = N.2.2 202) (h1 : vp_in (x3 + 1) (N.2.2 203 - 1)) (h2 : vp_in (x3 + 2) (N.2.2 203 - 1)) (h3 : vp_in (x3 + 3) (N.2.2 203 - 1)) (h4 : vp_in (x3 + 4) (N.2.2 203 - 1)) (h5 : vp_in (x3 + 5) (N.2.2 203 - 1)) (hX : RXo N s x1 x2) (hk : 820 ≤ k) (hn : 3400 ≤ n) (hR : ∀ k' n' s', k - 820 ≤ k' → n - 3400 ≤ n' → RXo N s' x1 x2 → R (x3 + 6) k' n' s') : v_L2_law_655 N x0 x1 x2 x3 (fun v _ => v = 1) K R k n s := by
  unfold v_L2_law_655
  exact ⟨h0, h1, hX.o, op_best hN hX (K := fun s' => ∀ x : Int32, x = x3 + 6 → R x k n s') (fun s' hX' x hx => hx ▸ hR k n s' (by omega) (by omega) hX') _⟩
theorem lb_678 (hN : nOK N) (h0 : x0 = N.2.2 202) (h1 : vp_in (x3 + 1) (N.2.2 203 - 1)) (h2 : vp_in (x3 + 2) (N.2.2 203 - 1)) (h3 : vp_in (x3 + 3) (N.2.2 203 - 1)) (h4 : vp_in (x3 + 4) (N.2.2 203 - 1)) (h5 : vp_in (x3 + 5) (N.2.2 203 - 1)) (hX : RXo N s x1 x2) (hk : 820 ≤ k) (hn : 3400 ≤ n) (hR : ∀ k' n' s', k - 820 ≤ k' → n - 3400 ≤ n' → RXo N s' x1 x2 → R (x3 + 6) k' n' s') : v_L2_law_678 N x0 x1 x2 x3 (fun v _ => v = 1) K R k n s := by
  unfold v_L2_law_678
  exact ⟨h0, h1, h2, hX.o, op_between hN hX (K := fun s' => ∀ x : Int32, x = x3 + 6 → R x k n s') (fun s' hX' x hx => hx ▸ hR k n s' (by omega) (by omega) hX') _ _⟩
theorem lb_711 (hN : nOK N) (h0 : x0 = N.2.2 202) (h1 : vp_in (x3 + 1) (N.2.2 203 - 1)) (h2 : vp_in (x3 + 2) (N.2.2 203 - 1)) (h3 : vp_in (x3 + 3) (N.2.2 203 - 1)) (h4 : vp_in (x3 + 4) (N.2.2 203 - 1)) (h5 : vp_in (x3 + 5) (N.2.2 203 - 1)) (hX : RXo N s x1 x2) (hk : 820 ≤ k) (hn : 3400 ≤ n) (hR : ∀ k' n' s', k - 820 ≤ k' → n - 3400 ≤ n' → RXo N s' x1 x2 → R (x3 + 6) k' n' s') : v_L2_law_711 N x0 x1 x2 x3 (fun v _ => v = 1) K R k n s := by
  unfold v_L2_law_711
  exact ⟨hX.o, op_richest hN hX (K := fun s' => ∀ x : Int32, x = x3 + 6 → R x k n s') (fun s' hX' x hx => hx ▸ hR k n s' (by omega) (by omega) hX')⟩
theorem lb_724 (hN : nOK N) (h0 : x0 = N.2.2 202) (h1 : vp_in (x3 + 1) (N.2.2 203 - 1)) (h2 : vp_in (x3 + 2) (N.2.2 203 - 1)) (h3 : vp_in (x3 + 3) (N.2.2 203 - 1)) (h4 : vp_in (x3 + 4) (N.2.2 203 - 1)) (h5 : vp_in (x3 + 5) (N.2.2 203 - 1)) (hX : RXo N s x1 x2) (hk : 820 ≤ k) (hn : 3400 ≤ n) (hR : ∀ k' n' s', k - 820 ≤ k' → n - 3400 ≤ n' → RXo N s' x1 x2 → R (x3 + 6) k' n' s') : v_L2_law_724 N x0 x1 x2 x3 (fun v _ => v = 1) K R k n s := by
  unfold v_L2_law_724
  exact ⟨hX.o, op_ways hN hX (K := fun s' => ∀ x : Int32, x = x3 + 6 → R x k n s') (fun s' hX' x hx => hx ▸ hR k n s' (by omega) (by omega) hX')⟩
theorem lb_738 (hN : nOK N) (h0 : x0 = N.2.2 202) (h1 : vp_in (x3 + 1) (N.2.2 203 - 1)) (h2 : vp_in (x3 + 2) (N.2.2 203 - 1)) (h3 : vp_in (x3 + 3) (N.2.2 203 - 1)) (h4 : vp_in (x3 + 4) (N.2.2 203 - 1)) (h5 : vp_in (x3 + 5) (N.2.2 203 - 1)) (hX : RXo N s x1 x2) (hk : 820 ≤ k) (hn : 3400 ≤ n) (hR : ∀ k' n' s', k - 820 ≤ k' → n - 3400 ≤ n' → RXo N s' x1 x2 → R (x3 + 6) k' n' s') : v_L2_law_738 N x0 x1 x2 x3 (fun v _ => v = 1) K R k n s := by
  unfold v_L2_law_738
  exact ⟨h0, h1, hX.o, op_mend hN hX (K := fun s' => ∀ x : Int32, x = x3 + 6 → R x k n s') (fun s' hX' x hx => hx ▸ hR k n s' (by omega) (by omega) hX') _⟩
theorem lb_761 (hN : nOK N) (h0 : x0 = N.2.2 202) (h1 : vp_in (x3 + 1) (N.2.2 203 - 1)) (h2 : vp_in (x3 + 2) (N.2.2 203 - 1)) (h3 : vp_in (x3 + 3) (N.2.2 203 - 1)) (h4 : vp_in (x3 + 4) (N.2.2 203 - 1)) (h5 : vp_in (x3 + 5) (N.2.2 203 - 1)) (hX : RXo N s x1 x2) (hk : 820 ≤ k) (hn : 3400 ≤ n) (hR : ∀ k' n' s', k - 820 ≤ k' → n - 3400 ≤ n' → RXo N s' x1 x2 → R (x3 + 6) k' n' s') : v_L2_law_761 N x0 x1 x2 x3 (fun v _ => v = 1) K R k n s := by
  unfold v_L2_law_761
  exact ⟨h0, h1, hX.o, op_compass hN hX (K := fun s' => ∀ x : Int32, x = x3 + 6 → R x k n s') (fun s' hX' x hx => hx ▸ hR k n s' (by omega) (by omega) hX') _⟩
theorem lb_784 (hN : nOK N) (h0 : x0 = N.2.2 202) (h1 : vp_in (x3 + 1) (N.2.2 203 - 1)) (h2 : vp_in (x3 + 2) (N.2.2 203 - 1)) (h3 : vp_in (x3 + 3) (N.2.2 203 - 1)) (h4 : vp_in (x3 + 4) (N.2.2 203 - 1)) (h5 : vp_in (x3 + 5) (N.2.2 203 - 1)) (hX : RXo N s x1 x2) (hk : 820 ≤ k) (hn : 3400 ≤ n) (hR : ∀ k' n' s', k - 820 ≤ k' → n - 3400 ≤ n' → RXo N s' x1 x2 → R (x3 + 6) k' n' s') : v_L2_law_784 N x0 x1 x2 x3 (fun v _ => v = 1) K R k n s := by
  unfold v_L2_law_784
  exact ⟨h0, h1, h2, hX.o, op_cheapest hN hX (K := fun s' => ∀ x : Int32, x = x3 + 6 → R x k n s') (fun s' hX' x hx => hx ▸ hR k n s' (by omega) (by omega) hX') _ _⟩
theorem lb_817 (hN : nOK N) (h0 : x0 = N.2.2 202) (h1 : vp_in (x3 + 1) (N.2.2 203 - 1)) (h2 : vp_in (x3 + 2) (N.2.2 203 - 1)) (h3 : vp_in (x3 + 3) (N.2.2 203 - 1)) (h4 : vp_in (x3 + 4) (N.2.2 203 - 1)) (h5 : vp_in (x3 + 5) (N.2.2 203 - 1)) (hX : RXo N s x1 x2) (hk : 820 ≤ k) (hn : 3400 ≤ n) (hR : ∀ k' n' s', k - 820 ≤ k' → n - 3400 ≤ n' → RXo N s' x1 x2 → R (x3 + 6) k' n' s') : v_L2_law_817 N x0 x1 x2 x3 (fun v _ => v = 1) K R k n s := by
  unfold v_L2_law_817
  exact ⟨h0, h1, h2, hX.o, op_canon hN hX (K := fun s' => ∀ x : Int32, x = x3 + 6 → R x k n s') (fun s' hX' x hx => hx ▸ hR k n s' (by omega) (by omega) hX') _ _⟩
theorem lb_850 (hN : nOK N) (h0 : x0 = N.2.2 202) (h1 : vp_in (x3 + 1) (N.2.2 203 - 1)) (h2 : vp_in (x3 + 2) (N.2.2 203 - 1)) (h3 : vp_in (x3 + 3) (N.2.2 203 - 1)) (h4 : vp_in (x3 + 4) (N.2.2 203 - 1)) (h5 : vp_in (x3 + 5) (N.2.2 203 - 1)) (hX : RXo N s x1 x2) (hk : 820 ≤ k) (hn : 3400 ≤ n) (hR : ∀ k' n' s', k - 820 ≤ k' → n - 3400 ≤ n' → RXo N s' x1 x2 → R (x3 + 6) k' n' s') : v_L2_law_850 N x0 x1 x2 x3 (fun v _ => v = 1) K R k n s := by
  unfold v_L2_law_850
  exact ⟨h0, h1, hX.o, op_parallels hN hX (K := fun s' => ∀ x : Int32, x = x3 + 6 → R x k n s') (fun s' hX' x hx => hx ▸ hR k n s' (by omega) (by omega) hX') _⟩
theorem lb_873 (hN : nOK N) (h0 : x0 = N.2.2 202) (h1 : vp_in (x3 + 1) (N.2.2 203 - 1)) (h2 : vp_in (x3 + 2) (N.2.2 203 - 1)) (h3 : vp_in (x3 + 3) (N.2.2 203 - 1)) (h4 : vp_in (x3 + 4) (N.2.2 203 - 1)) (h5 : vp_in (x3 + 5) (N.2.2 203 - 1)) (hX : RXo N s x1 x2) (hk : 820 ≤ k) (hn : 3400 ≤ n) (hR : ∀ k' n' s', k - 820 ≤ k' → n - 3400 ≤ n' → RXo N s' x1 x2 → R (x3 + 6) k' n' s') : v_L2_law_873 N x0 x1 x2 x3 (fun v _ => v = 1) K R k n s := by
  unfold v_L2_law_873
  exact ⟨h0, h1, h2, hX.o, op_heard hX (K := fun s' => ∀ x : Int32, x = x3 + 6 → R x k n s') (fun s' hX' x hx => hx ▸ hR k n s' (by omega) (by omega) hX') _ _⟩
theorem lb_906 (hN : nOK N) (h0 : x0 = N.2.2 202) (h1 : vp_in (x3 + 1) (N.2.2 203 - 1)) (h2 : vp_in (x3 + 2) (N.2.2 203 - 1)) (h3 : vp_in (x3 + 3) (N.2.2 203 - 1)) (h4 : vp_in (x3 + 4) (N.2.2 203 - 1)) (h5 : vp_in (x3 + 5) (N.2.2 203 - 1)) (hX : RXo N s x1 x2) (hk : 820 ≤ k) (hn : 3400 ≤ n) (hR : ∀ k' n' s', k - 820 ≤ k' → n - 3400 ≤ n' → RXo N s' x1 x2 → R (x3 + 6) k' n' s') : v_L2_law_906 N x0 x1 x2 x3 (fun v _ => v = 1) K R k n s := by
  unfold v_L2_law_906
  exact ⟨hX.o, op_forget hX (K := fun s' => ∀ x : Int32, x = x3 + 6 → R x k n s') (fun s' hX' x hx => hx ▸ hR k n s' (by omega) (by omega) hX')⟩
theorem lb_919 (hN : nOK N) (h0 : x0 = N.2.2 202) (h1 : vp_in (x3 + 1) (N.2.2 203 - 1)) (h2 : vp_in (x3 + 2) (N.2.2 203 - 1)) (h3 : vp_in (x3 + 3) (N.2.2 203 - 1)) (h4 : vp_in (x3 + 4) (N.2.2 203 - 1)) (h5 : vp_in (x3 + 5) (N.2.2 203 - 1)) (hX : RXo N s x1 x2) (hk : 820 ≤ k) (hn : 3400 ≤ n) (hR : ∀ k' n' s', k - 820 ≤ k' → n - 3400 ≤ n' → RXo N s' x1 x2 → R (x3 + 6) k' n' s') : v_L2_law_919 N x0 x1 x2 x3 (fun v _ => v = 1) K R k n s := by
  unfold v_L2_law_919
  exact ⟨hX.o, op_canBe hN hX (K := fun s' => ∀ x : Int32, x = x3 + 6 → R x k n s') (fun s' hX' x hx => hx ▸ hR k n s' (by omega) (by omega) hX')⟩
theorem lb_932 (hN : nOK N) (h0 : x0 = N.2.2 202) (h1 : vp_in (x3 + 1) (N.2.2 203 - 1)) (h2 : vp_in (x3 + 2) (N.2.2 203 - 1)) (h3 : vp_in (x3 + 3) (N.2.2 203 - 1)) (h4 : vp_in (x3 + 4) (N.2.2 203 - 1)) (h5 : vp_in (x3 + 5) (N.2.2 203 - 1)) (hX : RXo N s x1 x2) (hk : 820 ≤ k) (hn : 3400 ≤ n) (hR : ∀ k' n' s', k - 820 ≤ k' → n - 3400 ≤ n' → RXo N s' x1 x2 → R (x3 + 6) k' n' s') : v_L2_law_932 N x0 x1 x2 x3 (fun v _ => v = 1) K R k n s := by
  unfold v_L2_law_932
  exact ⟨h0, h1, hX.o, op_listen hN hX (K := fun s' => ∀ x : Int32, x = x3 + 6 → R x k n s') (fun s' hX' x hx => hx ▸ hR k n s' (by omega) (by omega) hX') _⟩
theorem lb_955 (hN : nOK N) (h0 : x0 = N.2.2 202) (h1 : vp_in (x3 + 1) (N.2.2 203 - 1)) (h2 : vp_in (x3 + 2) (N.2.2 203 - 1)) (h3 : vp_in (x3 + 3) (N.2.2 203 - 1)) (h4 : vp_in (x3 + 4) (N.2.2 203 - 1)) (h5 : vp_in (x3 + 5) (N.2.2 203 - 1)) (hX : RXo N s x1 x2) (hk : 820 ≤ k) (hn : 3400 ≤ n) (hR : ∀ k' n' s', k - 820 ≤ k' → n - 3400 ≤ n' → RXo N s' x1 x2 → R (x3 + 6) k' n' s') : v_L2_law_955 N x0 x1 x2 x3 (fun v _ => v = 1) K R k n s := by
  unfold v_L2_law_955
  exact ⟨h0, h1, h2, 1, 21, by omega, by omega, hX.o, op_few hN hX (K := fun s' => ∀ x : Int32, x = x3 + 6 → R x (k - 1) (n - 21) s') (fun s' hX' x hx => hx ▸ hR (k - 1) (n - 21) s' (by omega) (by omega) hX') (Nat.le_refl _) (Nat.le_refl _) _ _⟩
theorem lb_989 (hN : nOK N) (h0 : x0 = N.2.2 202) (h1 : vp_in (x3 + 1) (N.2.2 203 - 1)) (h2 : vp_in (x3 + 2) (N.2.2 203 - 1)) (h3 : vp_in (x3 + 3) (N.2.2 203 - 1)) (h4 : vp_in (x3 + 4) (N.2.2 203 - 1)) (h5 : vp_in (x3 + 5) (N.2.2 203 - 1)) (hX : RXo N s x1 x2) (hk : 820 ≤ k) (hn : 3400 ≤ n) (hR : ∀ k' n' s', k - 820 ≤ k' → n - 3400 ≤ n' → RXo N s' x1 x2 → R (x3 + 6) k' n' s') : v_L2_law_989 N x0 x1 x2 x3 (fun v _ => v = 1) K R k n s := by
  unfold v_L2_law_989
  exact ⟨h0, h1, hX.o, op_compare hN hX (K := fun s' => ∀ x : Int32, x = x3 + 6 → R x k n s') (fun s' hX' x hx => hx ▸ hR k n s' (by omega) (by omega) hX') _⟩
theorem lb_1012 (hN : nOK N) (h0 : x0 = N.2.2 202) (h1 : vp_in (x3 + 1) (N.2.2 203 - 1)) (h2 : vp_in (x3 + 2) (N.2.2 203 - 1)) (h3 : vp_in (x3 + 3) (N.2.2 203 - 1)) (h4 : vp_in (x3 + 4) (N.2.2 203 - 1)) (h5 : vp_in (x3 + 5) (N.2.2 203 - 1)) (hX : RXo N s x1 x2) (hk : 820 ≤ k) (hn : 3400 ≤ n) (hR : ∀ k' n' s', k - 820 ≤ k' → n - 3400 ≤ n' → RXo N s' x1 x2 → R (x3 + 6) k' n' s') : v_L2_law_1012 N x0 x1 x2 x3 (fun v _ => v = 1) K R k n s := by
  unfold v_L2_law_1012
  exact ⟨h0, h1, h2, 1, 1, by omega, by omega, hX.o, op_weeks hN hX (K := fun s' => ∀ x : Int32, x = x3 + 6 → R x (k - 1) (n - 1) s') (fun s' hX' x hx => hx ▸ hR (k - 1) (n - 1) s' (by omega) (by omega) hX') _ _ (Nat.le_refl _) (Nat.le_refl _)⟩
theorem lb_1045 (hN : nOK N) (h0 : x0 = N.2.2 202) (h1 : vp_in (x3 + 1) (N.2.2 203 - 1)) (h2 : vp_in (x3 + 2) (N.2.2 203 - 1)) (h3 : vp_in (x3 + 3) (N.2.2 203 - 1)) (h4 : vp_in (x3 + 4) (N.2.2 203 - 1)) (h5 : vp_in (x3 + 5) (N.2.2 203 - 1)) (hX : RXo N s x1 x2) (hk : 820 ≤ k) (hn : 3400 ≤ n) (hR : ∀ k' n' s', k - 820 ≤ k' → n - 3400 ≤ n' → RXo N s' x1 x2 → R (x3 + 6) k' n' s') : v_L2_law_1045 N x0 x1 x2 x3 (fun v _ => v = 1) K R k n s := by
  unfold v_L2_law_1045
  exact ⟨h0, h1, h2, hX.o, op_drawn hX (K := fun s' => ∀ x : Int32, x = x3 + 6 → R x k n s') (fun s' hX' x hx => hx ▸ hR k n s' (by omega) (by omega) hX') _ _⟩
theorem lb_1078 (hN : nOK N) (h0 : x0 = N.2.2 202) (h1 : vp_in (x3 + 1) (N.2.2 203 - 1)) (h2 : vp_in (x3 + 2) (N.2.2 203 - 1)) (h3 : vp_in (x3 + 3) (N.2.2 203 - 1)) (h4 : vp_in (x3 + 4) (N.2.2 203 - 1)) (h5 : vp_in (x3 + 5) (N.2.2 203 - 1)) (hX : RXo N s x1 x2) (hk : 820 ≤ k) (hn : 3400 ≤ n) (hR : ∀ k' n' s', k - 820 ≤ k' → n - 3400 ≤ n' → RXo N s' x1 x2 → R (x3 + 6) k' n' s') : v_L2_law_1078 N x0 x1 x2 x3 (fun v _ => v = 1) K R k n s := by
  unfold v_L2_law_1078
  exact ⟨h0, h1, 15, 77, by omega, by omega, hX.o, op_image hN hX (K := fun s' => ∀ x : Int32, x = x3 + 6 → R x (k - 15) (n - 77) s') (fun s' hX' x hx => hx ▸ hR (k - 15) (n - 77) s' (by omega) (by omega) hX') _ (Nat.le_refl _) (Nat.le_refl _)⟩
theorem lb_1101 (hN : nOK N) (h0 : x0 = N.2.2 202) (h1 : vp_in (x3 + 1) (N.2.2 203 - 1)) (h2 : vp_in (x3 + 2) (N.2.2 203 - 1)) (h3 : vp_in (x3 + 3) (N.2.2 203 - 1)) (h4 : vp_in (x3 + 4) (N.2.2 203 - 1)) (h5 : vp_in (x3 + 5) (N.2.2 203 - 1)) (hX : RXo N s x1 x2) (hk : 820 ≤ k) (hn : 3400 ≤ n) (hR : ∀ k' n' s', k - 820 ≤ k' → n - 3400 ≤ n' → RXo N s' x1 x2 → R (x3 + 6) k' n' s') : v_L2_law_1101 N x0 x1 x2 x3 (fun v _ => v = 1) K R k n s := by
  unfold v_L2_law_1101
  exact ⟨h0, h1, 15, 77, by omega, by omega, hX.o, op_back hN hX (K := fun s' => ∀ x : Int32, x = x3 + 6 → R x (k - 15) (n - 77) s') (fun s' hX' x hx => hx ▸ hR (k - 15) (n - 77) s' (by omega) (by omega) hX') _ (Nat.le_refl _) (Nat.le_refl _)⟩
theorem lb_1124 (hN : nOK N) (h0 : x0 = N.2.2 202) (h1 : vp_in (x3 + 1) (N.2.2 203 - 1)) (h2 : vp_in (x3 + 2) (N.2.2 203 - 1)) (h3 : vp_in (x3 + 3) (N.2.2 203 - 1)) (h4 : vp_in (x3 + 4) (N.2.2 203 - 1)) (h5 : vp_in (x3 + 5) (N.2.2 203 - 1)) (hX : RXo N s x1 x2) (hk : 820 ≤ k) (hn : 3400 ≤ n) (hR : ∀ k' n' s', k - 820 ≤ k' → n - 3400 ≤ n' → RXo N s' x1 x2 → R (x3 + 6) k' n' s') : v_L2_law_1124 N x0 x1 x2 x3 (fun v _ => v = 1) K R k n s := by
  unfold v_L2_law_1124
  exact ⟨h0, h1, hX.o, op_count hN hX (K := fun s' => ∀ x : Int32, x = x3 + 6 → R x k n s') (fun s' hX' x hx => hx ▸ hR k n s' (by omega) (by omega) hX') _⟩
theorem lb_1147 (hN : nOK N) (h0 : x0 = N.2.2 202) (h1 : vp_in (x3 + 1) (N.2.2 203 - 1)) (h2 : vp_in (x3 + 2) (N.2.2 203 - 1)) (h3 : vp_in (x3 + 3) (N.2.2 203 - 1)) (h4 : vp_in (x3 + 4) (N.2.2 203 - 1)) (h5 : vp_in (x3 + 5) (N.2.2 203 - 1)) (hX : RXo N s x1 x2) (hk : 820 ≤ k) (hn : 3400 ≤ n) (hR : ∀ k' n' s', k - 820 ≤ k' → n - 3400 ≤ n' → RXo N s' x1 x2 → R (x3 + 6) k' n' s') : v_L2_law_1147 N x0 x1 x2 x3 (fun v _ => v = 1) K R k n s := by
  unfold v_L2_law_1147
  exact ⟨hX.o, op_status hX (K := fun s' => ∀ x : Int32, x = x3 + 6 → R x k n s') (fun s' hX' x hx => hx ▸ hR k n s' (by omega) (by omega) hX')⟩
theorem v_L2_loop (hN : nOK N) (h0 : x0 = N.2.2 202) {len : Nat} (hl : N.2.2 203 - 1 = len) (hl2 : len ≤ 384) : ∀ (t j k n : Nat) (s : tM), len < 6 * j + 6 * t → 6 * j ≤ len → 820 * (64 - j) ≤ k → 3400 * (64 - j) ≤ n → RXo N s x1 x2 → v_L2_law_18 N x0 x1 x2 (fun v _ => v = 1) (fun _ _ _ => (1 : Int32) = 1) t (nI (6 * j)) k n s
  | 0, j, _, _, _, h, h2, _, _, _ => absurd h (by omega)
  | t + 1, j, k, n, s, ht, hj, hk, hn, hX => by
    have e6 : nI (6 * j) + 6 = nI (6 * (j + 1)) := by
      rw [show (6 : Int32) = nI 6 from rfl, nI_add]
      exact congrArg nI (by omega)
    have es : (Int32.ofNat len - 6).toInt = (len : Int) - 6 := by
      have := nI_toInt (n := len) (by omega)
      rw [i32_sub (by rw [show (Int32.ofNat len).toInt = (len : Int) from this, show (6 : Int32).toInt = 6 by decide]; omega) (by rw [show (Int32.ofNat len).toInt = (len : Int) from this, show (6 : Int32).toInt = 6 by decide]; omega), show (Int32.ofNat len).toInt = (len : Int) from this, show (6 : Int32).toInt = 6 by decide]
    unfold v_L2_law_18
    rw [hl]
    refine ⟨h0, fun _ => rfl, fun z => ⟨h0, vpk (by rw [i32_lt, es, nI_toInt (by omega)] at z; omega) (by omega), fun x hx => ?_⟩⟩
    rw [i32_lt, es, nI_toInt (by omega)] at z
    have vp : ∀ d, d < 6 → vp_in (nI (6 * j) + nI d) len := fun d hd => by
      rw [nI_add]
      exact vpk (by omega) (by omega)
    have v1 : vp_in (nI (6 * j) + 1) (N.2.2 203 - 1) := hl ▸ vp 1 (by decide)
    have v2 : vp_in (nI (6 * j) + 2) (N.2.2 203 - 1) := hl ▸ vp 2 (by decide)
    have v3 : vp_in (nI (6 * j) + 3) (N.2.2 203 - 1) := hl ▸ vp 3 (by decide)
    have v4 : vp_in (nI (6 * j) + 4) (N.2.2 203 - 1) := hl ▸ vp 4 (by decide)
    have v5 : vp_in (nI (6 * j) + 5) (N.2.2 203 - 1) := hl ▸ vp 5 (by decide)
    have hR : ∀ k' n' s', k - 820 ≤ k' → n - 3400 ≤ n' → RXo N s' x1 x2 → v_L2_law_18 N x0 x1 x2 (fun v _ => v = 1) (fun _ _ _ => (1 : Int32) = 1) t (nI (6 * j) + 6) k' n' s' := fun k' n' s' hk' hn' hX' => by
      rw [e6]
      exact v_L2_loop hN h0 hl hl2 t (j + 1) k' n' s' (by omega) (by omega) (by omega) (by omega) hX'
    have hk8 : 820 ≤ k := by omega
    have hn8 : 3400 ≤ n := by omega
    refine ⟨fun _ => lb_208 hN h0 v1 v2 v3 v4 v5 hX hk8 hn8 hR, fun _ => lb_241 hN h0 v1 v2 v3 v4 v5 hX hk8 hn8 hR, fun _ => lb_274 hN h0 v1 v2 v3 v4 v5 hX hk8 hn8 hR, fun _ => lb_307 hN h0 v1 v2 v3 v4 v5 hX hk8 hn8 hR, fun _ => lb_330 hN h0 v1 v2 v3 v4 v5 hX hk8 hn8 hR, fun _ => lb_363 hN h0 v1 v2 v3 v4 v5 hX hk8 hn8 hR, fun _ => lb_426 hN h0 v1 v2 v3 v4 v5 hX hk8 hn8 hR, fun _ => lb_449 hN h0 v1 v2 v3 v4 v5 hX hk8 hn8 hR, fun _ => lb_462 hN h0 v1 v2 v3 v4 v5 hX hk8 hn8 hR, fun _ => lb_475 hN h0 v1 v2 v3 v4 v5 hX hk8 hn8 hR, fun _ => lb_488 hN h0 v1 v2 v3 v4 v5 hX hk8 hn8 hR, fun _ => lb_501 hN h0 v1 v2 v3 v4 v5 hX hk8 hn8 hR, fun _ => lb_514 hN h0 v1 v2 v3 v4 v5 hX hk8 hn8 hR, fun _ => lb_527 hN h0 v1 v2 v3 v4 v5 hX hk8 hn8 hR, fun _ => lb_550 hN h0 v1 v2 v3 v4 v5 hX hk8 hn8 hR, fun _ => lb_583 hN h0 v1 v2 v3 v4 v5 hX hk8 hn8 hR, fun _ => lb_616 hN h0 v1 v2 v3 v4 v5 hX hk8 hn8 hR, fun _ => lb_629 hN h0 v1 v2 v3 v4 v5 hX hk8 hn8 hR, fun _ => lb_642 hN h0 v1 v2 v3 v4 v5 hX hk8 hn8 hR, fun _ => lb_655 hN h0 v1 v2 v3 v4 v5 hX hk8 hn8 hR, fun _ => lb_678 hN h0 v1 v2 v3 v4 v5 hX hk8 hn8 hR, fun _ => lb_711 hN h0 v1 v2 v3 v4 v5 hX hk8 hn8 hR, fun _ => lb_724 hN h0 v1 v2 v3 v4 v5 hX hk8 hn8 hR, fun _ => lb_738 hN h0 v1 v2 v3 v4 v5 hX hk8 hn8 hR, fun _ => lb_761 hN h0 v1 v2 v3 v4 v5 hX hk8 hn8 hR, fun _ => lb_784 hN h0 v1 v2 v3 v4 v5 hX hk8 hn8 hR, fun _ => lb_817 hN h0 v1 v2 v3 v4 v5 hX hk8 hn8 hR, fun _ => lb_850 hN h0 v1 v2 v3 v4 v5 hX hk8 hn8 hR, fun _ => lb_873 hN h0 v1 v2 v3 v4 v5 hX hk8 hn8 hR, fun _ => lb_906 hN h0 v1 v2 v3 v4 v5 hX hk8 hn8 hR, fun _ => lb_919 hN h0 v1 v2 v3 v4 v5 hX hk8 hn8 hR, fun _ => lb_932 hN h0 v1 v2 v3 v4 v5 hX hk8 hn8 hR, fun _ => lb_955 hN h0 v1 v2 v3 v4 v5 hX hk8 hn8 hR, fun _ => lb_989 hN h0 v1 v2 v3 v4 v5 hX hk8 hn8 hR, fun _ => lb_1012 hN h0 v1 v2 v3 v4 v5 hX hk8 hn8 hR, fun _ => lb_1045 hN h0 v1 v2 v3 v4 v5 hX hk8 hn8 hR, fun _ => lb_1078 hN h0 v1 v2 v3 v4 v5 hX hk8 hn8 hR, fun _ => lb_1101 hN h0 v1 v2 v3 v4 v5 hX hk8 hn8 hR, fun _ => lb_1124 hN h0 v1 v2 v3 v4 v5 hX hk8 hn8 hR, fun _ => lb_1147 hN h0 v1 v2 v3 v4 v5 hX hk8 hn8 hR, fun _ _ _ _ _ _ _ _ _ _ _ _ _ _ _ _ _ _ _ _ _ _ _ _ _ _ _ _ _ _ _ _ _ _ _ _ _ _ _ _ => fun x hx => ?_⟩
    rw [hx]
    exact hR k n s (by omega) (by omega) hX
end LL
