/-! X: steps and places between two places -/
section
variable {Q : Option Value → xw → Prop} {w : xw}
theorem x_absd {a c : Nat} (ha : a < 12) (hc : c < 12) (q : Q (some (.int (nI (adf c a)))) w) : V_J10_abs [.int (nI c - nI a)] w Q := by
  have e := co_abs a ha c hc
  refine e_J10_abs (r_J10_abs_0 ⟨fun h => ⟨trivial, ?_⟩, fun h => ⟨trivial, ?_⟩⟩)
  · rw [if_neg (Int32.not_lt.mpr h)] at e; rw [e]; exact q
  · rw [if_pos (Int32.not_le.mp h)] at e; rw [e]; exact q
set_option maxHeartbeats 2000000 in
theorem x_blays {b wd a c : Nat} (hs : XBs b w) (h0 : xI w b 0 = nI wd) (hw : 3 ≤ wd ∧ wd ≤ 7) (ha : a < 36 ∧ a / wd < 8) (hc : c < 36 ∧ c / wd < 8) (hi : xI w (b + 10 + a) c = 0) (hl : xL w (b + 47 + a) c = 0)
    (q : ∀ w', (xN w' = xN w ∧ xB w' = xB w ∧ xS w' = xS w ∧ xR w' = xR w) → (∀ i j, ¬ (i = b + 10 + a ∧ j = c) → xI w' i j = xI w i j) → (∀ i j, ¬ (i = b + 47 + a ∧ j = c) → xL w' i j = xL w i j) → xI w' (b + 10 + a) c = nI (stp wd a c) → xL w' (b + 47 + a) c = betG wd a c → Q none w') : V_X1_lays [.ref b, .int (nI a), .int (nI c)] w Q := by
  obtain ⟨⟨b1', b8, b83⟩, ⟨r4, r5, r6, r7, r8, r9, r10, r11⟩, b10, ⟨s9, m9⟩, s46, m46⟩ := hs
  have hax : a % wd < wd := Nat.mod_lt _ (by omega)
  have hcx : c % wd < wd := Nat.mod_lt _ (by omega)
  have nz : ¬ (nI wd = (0 : Int32)) := by rw [show (nI wd = (0 : Int32)) ↔ wd = 0 from n_eq (b := 0) (by omega) (by omega)]; omega
  have ra : bs_irem (nI a) (nI wd) = nI (a % wd) := n_rem (by omega) (by omega)
  have rc : bs_irem (nI c) (nI wd) = nI (c % wd) := n_rem (by omega) (by omega)
  have da : nI a / nI wd = nI (a / wd) := n_div (by omega) (by omega)
  have dc : nI c / nI wd = nI (c / wd) := n_div (by omega) (by omega)
  have adl : ∀ u v, u < 8 → v < 8 → adf u v < 8 := fun u v h1 h2 => by unfold adf; omega
  have ax := adl (c % wd) (a % wd) (by omega) (by omega)
  have ay := adl (c / wd) (a / wd) hc.2 ha.2
  refine e_X1_lays (r_X1_lays_0 ?_)
  rw [h0, ra, rc, da, dc]
  refine ⟨b1', nz, b1', nz, b1', nz, b1', nz, x_absd (by omega) (by omega) (r_X1_lays_33 (x_absd (by omega) (by omega) (r_X1_lays_38 (x_max (by omega) (by omega) (r_X1_lays_41 ?_)))))⟩
  obtain ⟨n, hn⟩ : ∃ n, n = max (adf (c % wd) (a % wd)) (adf (c / wd) (a / wd)) := ⟨_, rfl⟩
  have hn8 : n < 8 := by omega
  rw [← hn]
  have same : xN w = xN w ∧ xB w = xB w ∧ xS w = xS w ∧ xR w = xR w := ⟨rfl, rfl, rfl, rfl⟩
  have stop : stp wd a c = 0 → Q none w := fun h => by
    refine q w same (fun _ _ _ => rfl) (fun _ _ _ => rfl) (by rw [h]; exact hi) ?_
    unfold betG; rw [h]; exact hl
  -- the places between
  have loop : stp wd a c = n → (adf (c % wd) (a % wd) = 0 ∨ adf (c % wd) (a % wd) = n) → (adf (c / wd) (a / wd) = 0 ∨ adf (c / wd) (a / wd) = n) → n ≠ 0 → ∀ (m k : Nat) (w' : xw), k + m = n → 1 ≤ k → (xN w' = xN w ∧ xB w' = xB w ∧ xS w' = xS w ∧ xR w' = xR w) → (∀ i j, xI w' i j = xI (xUpI w (b + 10 + a) c (nI n)) i j) → (∀ i j, ¬ (i = b + 47 + a ∧ j = c) → xL w' i j = xL w i j) → xL w' (b + 47 + a) c = orB wd a c k → T_X1_lays Q 83 [some (.ref b), some (.int (nI a)), some (.int (nI c)), some (.int (nI (c % wd) - nI (a % wd))), some (.int (nI (c / wd) - nI (a / wd))), some (.int (nI n)), some (.int (nI k))] [] w' := by
    intro hst hx hy hn0 m
    induction m with
    | zero =>
      intro k w' hk k1 hf hI hL hO
      refine r_X1_lays_83 ⟨fun _ => ⟨rfl, q w' hf (fun i j hij => by rw [hI i j, x_uI, if_neg hij]) hL (by rw [hI, x_uI, if_pos ⟨rfl, rfl⟩, hst]) ?_⟩, fun z => absurd ((n_le (a := n) (b := k) (by omega) (by omega)).mpr (by omega)) z⟩
      unfold betG
      rw [hst, ← show k = n by omega]; exact hO
    | succ m ih =>
      intro k w' hk k1 hf hI hL hO
      obtain ⟨f1, f2, f3, f4⟩ := hf
      have i0 : xI w' b 0 = nI wd := by rw [hI, x_uI, if_neg (by omega)]; exact h0
      have st1 := co_step (a := a % wd) (b := c % wd) (n := n) (k := k) (by omega) (by omega) hn8 (by omega) hn0 hx
      have st2 := co_step (a := a / wd) (b := c / wd) (n := n) (k := k) (by omega) (by omega) hn8 (by omega) hn0 hy
      have pos : ((nI (a / wd) + ((nI (c / wd) - nI (a / wd)) / nI n) * nI k) * nI wd + nI (a % wd)) + ((nI (c % wd) - nI (a % wd)) / nI n) * nI k = nI (btw wd a c k) := by
        rw [st2, n_mul, Int32.add_assoc, st1, n_add]
        unfold btw
        rw [Nat.mul_comm]
      have hina : vp_in (nI a) (59, 36).2 := (n_in (a := a) (by omega)).mpr (by show a < 36; omega)
      have hinc : vp_in (nI c) (52, 36).2 := (n_in (a := c) (by omega)).mpr (by show c < 36; omega)
      have ma := m46 a ha.1
      have nn : ¬ (nI n = (0 : Int32)) := by rw [show (nI n = (0 : Int32)) ↔ n = 0 from n_eq (b := 0) (by omega) (by omega)]; exact hn0
      refine r_X1_lays_83 ?_
      simp only [f3, f4, r11, s46, n_tn (show a < 2147483648 by omega), n_tn (show c < 2147483648 by omega), ma.1, ma.2, i0, da, ra]
      rw [n_le (by omega) (by omega), pos, hO, show nI k + 1 = nI (k + 1) from n_add k 1]
      have eo : orB wd a c k ||| (1 <<< (Int32.toInt64 (nI (btw wd a c k)) &&& 63)) = orB wd a c (k + 1) := by
        show _ = if k = 0 then 0 else orB wd a c k ||| b1 (btw wd a c k)
        rw [if_neg (by omega)]; rfl
      rw [eo]
      refine ⟨fun z => by omega, fun _ => ⟨b1', by omega, ⟨by omega, by omega⟩, hina, by omega, by trivial, hinc, b1', nz, nn, b1', b1', nz, nn, by trivial, by omega, hinc, ih (k + 1) _ (by omega) (by omega) ⟨f1, f2, f3, f4⟩ (fun i j => hI i j) (fun i j hij => ?_) ?_⟩⟩
      · rw [x_uL, if_neg hij]; exact hL i j hij
      · rw [x_uL, if_pos ⟨rfl, rfl⟩]
  have m9a := m9 a ha.1
  have hina : vp_in (nI a) (58, 36).2 := (n_in (a := a) (by omega)).mpr (by show a < 36; omega)
  have hinc : vp_in (nI c) (51, 36).2 := (n_in (a := c) (by omega)).mpr (by show c < 36; omega)
  have estp : stp wd a c = if adf (c % wd) (a % wd) = 0 ∨ adf (c / wd) (a / wd) = 0 ∨ adf (c % wd) (a % wd) = adf (c / wd) (a / wd) then n else 0 := by unfold stp; rw [hn]
  have go : (adf (c % wd) (a % wd) = 0 ∨ adf (c / wd) (a / wd) = 0 ∨ adf (c % wd) (a % wd) = adf (c / wd) (a / wd)) → n ≠ 0 → T_X1_lays Q 83 [some (.ref b), some (.int (nI a)), some (.int (nI c)), some (.int (nI (c % wd) - nI (a % wd))), some (.int (nI (c / wd) - nI (a / wd))), some (.int (nI n)), some (.int (nI 1))] [] (xUpI w (b + 10 + a) c (nI n)) := fun hin hn0 => by
    rw [if_pos hin] at estp
    exact loop estp (by omega) (by omega) hn0 (n - 1) 1 _ (by omega) (Nat.le_refl _) ⟨rfl, rfl, rfl, rfl⟩ (fun _ _ => rfl) (fun _ _ _ => rfl) hl
  simp only [r10, s9, n_tn (show a < 2147483648 by omega), n_tn (show c < 2147483648 by omega), m9a.1, m9a.2]
  rw [show (nI n = (0 : Int32)) ↔ n = 0 from n_eq (b := 0) (by omega) (by omega), co_zero (a % wd) (by omega) (c % wd) (by omega), co_zero (a / wd) (by omega) (c / wd) (by omega)]
  refine ⟨fun z => ⟨by trivial, stop (by rw [estp]; split <;> omega)⟩, fun hn0 => ⟨fun z => ⟨b1', by omega, ⟨by omega, by omega⟩, hina, by omega, by trivial, by omega, hinc, go (Or.inl z) hn0⟩, fun zx => ⟨fun z => ⟨b1', by omega, ⟨by omega, by omega⟩, hina, by omega, by trivial, by omega, hinc, go (Or.inr (Or.inl z)) hn0⟩, fun zy => ?_⟩⟩⟩
  refine x_absd (by omega) (by omega) (r_X1_lays_61 (x_absd (by omega) (by omega) (r_X1_lays_66 ?_)))
  simp only [r10, s9, n_tn (show a < 2147483648 by omega), n_tn (show c < 2147483648 by omega), m9a.1, m9a.2]
  rw [n_eq (by omega) (by omega)]
  exact ⟨fun z => ⟨b1', by omega, ⟨by omega, by omega⟩, hina, by omega, by trivial, by omega, hinc, go (Or.inr (Or.inr z)) hn0⟩, fun z => ⟨by trivial, stop (by rw [estp, if_neg (by omega)])⟩⟩
end
