/-! X: a place's worth by the rules; steps and places between -/
section
variable {Q : Option Value → xw → Prop} {w : xw}
theorem j32 : ∀ n : Nat, n < 100 → Int64.toInt32 (jZ n) = nI n := by decide +kernel
theorem vl_run9 {x y e : Nat} {c : List Nat} {v : Int} (h : ∀ s, runC x y e c s = some (v :: s)) : vlC x y e c = v := by unfold vlC; rw [h []]
theorem x_bworth {P : Nat → Prop} {R : List (List Nat × List Nat)} {RL : List Nat} {b l D cap x y e : Nat} (hs2 : (xS w b).1 = 2) (hr5 : xR w b 5 = l) (hL : XLa RL l D cap w) (hRL : RL.length = R.length) (hR : ∀ k, k < R.length → XRu P (R.getD k ([], [])) (RL.getD k 0) w ∧ RL.getD k 0 ≠ 0) (hm : XMo x y e w) (hx : x < 100) (hy : y < 100) (he : e < 100) (h0 : 0 < R.length) (h6 : R.length ≤ 6) (q : Q (some (.int (nI (wrR R x y e)))) w) : V_X1_worth [.ref b, .ref 343] w Q := by
  have l0 : l ≠ 0 := by have := hL.1.2.1; omega
  have loop : ∀ (m k : Nat), k + m = R.length → fstP (fun k => decide (vlC x y e (R.getD k ([], [])).2 = 1)) k = none → ∀ {o3 : Option Value}, T_X1_worth Q 2 [some (.ref b), some (.ref 343), some (.int (nI k)), o3] [] w := by
    intro m
    induction m with
    | zero =>
      intro k hk hn o3
      refine r_X1_worth_2 ?_
      rw [hr5]
      refine ⟨hs2, l0, hL.1.1, x_lsize hL (r_X1_worth_12 ?_)⟩
      rw [n_le (by omega) (by omega)]
      refine ⟨fun _ => ⟨trivial, ?_⟩, fun z => absurd (by omega) z⟩
      unfold wrR at q
      rw [show R.length = k by omega, hn] at q
      have q : Q (some (.int (nI (if k = 0 then 1 else 0)))) w := q
      rw [if_neg (by omega)] at q
      exact q
    | succ m ih =>
      intro k hk hn o3
      obtain ⟨⟨⟨d1, d2⟩, dv, dt⟩, d0⟩ := hR k (by omega)
      have e1 : fstP (fun k => decide (vlC x y e (R.getD k ([], [])).2 = 1)) (k + 1) = if decide (vlC x y e (R.getD k ([], [])).2 = 1) = true then some k else none := by
        show (match fstP _ k with | some p => some p | none => _) = _
        rw [hn]
      obtain ⟨v, hv01, rv⟩ := dt.1 x y e hx hy he
      obtain ⟨bb, rfl⟩ := bZ_of hv01
      have vt := vl_run9 rv
      rw [vt] at e1
      obtain ⟨u, hu6, ru⟩ := dv.1 x y e hx hy he
      have vu := vl_run9 ru
      refine r_X1_worth_2 ?_
      rw [hr5]
      refine ⟨hs2, l0, hL.1.1, x_lsize hL (r_X1_worth_12 ?_)⟩
      rw [n_le (by omega) (by omega), hr5]
      refine ⟨fun z => by omega, fun _ => ⟨hs2, l0, hL.1.1, x_lgetA hL (by omega) d0 (r_X1_worth_25 ⟨d1, d1, dt.2.1.2, ?_⟩)⟩⟩
      refine dt.2.2 w ⟨Nat.le_refl _, fun _ _ => ⟨rfl, rfl, rfl, rfl⟩⟩ x y e hm hx hy he bb (fun v w1 => T_X1_worth Q 37 [some (.ref b), some (.ref 343), some (.int (nI k)), some (.ref (RL.getD k 0))] (v.toList ++ []) w1) rv (r_X1_worth_37 ?_) 24 (by omega)
      rw [show nI k + 1 = nI (k + 1) from n_add k 1]
      refine ⟨fun z => ih (k + 1) (by omega) ?_, fun z => ⟨d1, dv.2.1.2, ?_⟩⟩
      · rw [e1, bI_e0 z]; rfl
      · have hbt := bI_n0 z
        subst hbt
        have e1 : fstP (fun k => decide (vlC x y e (R.getD k ([], [])).2 = 1)) (k + 1) = some k := e1
        have mono : ∀ j, fstP (fun k => decide (vlC x y e (R.getD k ([], [])).2 = 1)) (k + 1 + j) = some k := fun j => by
          induction j with
          | zero => exact e1
          | succ j ihj =>
            show (match fstP _ (k + 1 + j) with | some p => some p | none => _) = _
            rw [ihj]
        have ff := mono m
        rw [show k + 1 + m = R.length by omega] at ff
        unfold wrR at q
        rw [ff] at q
        have q : Q (some (.int (nI (clN (vlC x y e (R.getD k ([], [])).1))))) w := q
        rw [vu] at q
        refine dv.2.2 w ⟨Nat.le_refl _, fun _ _ => ⟨rfl, rfl, rfl, rfl⟩⟩ x y e hm hx hy he u (fun v w1 => T_X1_worth Q 52 [some (.ref b), some (.ref 343), some (.int (nI k)), some (.ref (RL.getD k 0))] (v.toList ++ [.long 99, .long 0]) w1) ru (r_X1_worth_52 (e_J10_min_2 (r_J10_min_2_0 ?_))) 24 (by omega)
        have hu9 := b6_9 hu6
        unfold clN at q
        rw [lg_cmp_gt, show (99 : Int64) = jZ 99 from rfl, ← Int64.not_le, jZ_le (by omega) hu9]
        refine ⟨fun c => ⟨rfl, r_X1_worth_55 (e_J10_max_2 (r_J10_max_2_0 ?_))⟩, fun c => ⟨rfl, r_X1_worth_55 (e_J10_max_2 (r_J10_max_2_0 ?_))⟩⟩
        · rw [lg_cmp_lt, show (0 : Int64) = jZ 0 from rfl, ← Int64.not_le, jZ_le hu9 (by omega)]
          refine ⟨fun c2 => ⟨rfl, r_X1_worth_58 ⟨trivial, ?_⟩⟩, fun c2 => ⟨rfl, r_X1_worth_58 ⟨trivial, ?_⟩⟩⟩
          · rw [if_neg (by omega), if_neg (by omega)] at q
            have hn : u = ((u.toNat : Nat) : Int) := by omega
            rw [hn, j32 _ (by omega)]
            exact q
          · have : u ≤ 0 := by omega
            have e0 : (if u < 0 then 0 else if 99 < u then 99 else u.toNat) = 0 := by
              split
              · rfl
              · split <;> omega
            rw [e0] at q
            exact q
        · have c := Decidable.not_not.mp c
          have e0 : (if u < 0 then 0 else if 99 < u then 99 else u.toNat) = 99 := by
            rw [if_neg (by omega)]
            split <;> omega
          rw [e0] at q
          exact ⟨fun c2 => ⟨rfl, r_X1_worth_58 ⟨trivial, q⟩⟩, fun c2 => absurd (by decide) c2⟩
  exact e_X1_worth (r_X1_worth_0 (loop R.length 0 (by omega) rfl))
/-! steps -/
theorem co_abs : ∀ a, a < 12 → ∀ b, b < 12 → (if nI b - nI a < 0 then -(nI b - nI a) else nI b - nI a) = nI (adf b a) := by decide +kernel
theorem co_zero : ∀ a, a < 12 → ∀ b, b < 12 → ((nI b - nI a = (0 : Int32)) ↔ adf b a = 0) := by decide +kernel
def coB (a b n k : Nat) : Bool := !(decide (n ≠ 0) && (decide (adf b a = 0) || decide (adf b a = n)) && decide (k ≤ n)) || decide (nI a + ((nI b - nI a) / nI n) * nI k = nI (tow a b k))
theorem co_all : ∀ a, a < 8 → ∀ b, b < 8 → ∀ n, n < 8 → ∀ k, k < 8 → coB a b n k = true := by decide +kernel
theorem co_step {a b n k : Nat} (ha : a < 8) (hb : b < 8) (hn : n < 8) (hk : k ≤ n) (h0 : n ≠ 0) (h : adf b a = 0 ∨ adf b a = n) : nI a + ((nI b - nI a) / nI n) * nI k = nI (tow a b k) := by
  have c := co_all a ha b hb n hn k (by omega)
  unfold coB at c
  have e : (decide (n ≠ 0) && (decide (adf b a = 0) || decide (adf b a = n)) && decide (k ≤ n)) = true := by
    rw [Bool.and_eq_true, Bool.and_eq_true, Bool.or_eq_true, decide_eq_true_eq, decide_eq_true_eq, decide_eq_true_eq, decide_eq_true_eq]
    exact ⟨⟨h0, h⟩, hk⟩
  rw [e, Bool.not_true, Bool.false_or, decide_eq_true_eq] at c
  exact c
end
