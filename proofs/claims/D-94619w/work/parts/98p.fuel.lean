/-! enough fuel -/
def wtF (tag : Nat) : Nat := if tag = 3 then 3 else if tag = 1 then 2 else 1
theorem chB_lt {T : List Nat} {b c : Nat} (h : chB T b c = true) : b < T.length := by
  unfold chB at h
  rw [Bool.and_eq_true, decide_eq_true_eq] at h
  exact h.1
theorem hereB_lt {T : List Nat} {a : Nat} {w : List Nat} (h : hereB T a w = true) : sk T a < T.length := by
  unfold hereB isWd at h
  rw [Bool.and_eq_true, Bool.and_eq_true, Bool.and_eq_true, decide_eq_true_eq] at h
  exact h.1.1.1
theorem bnd_z {r : PR} {k : List Nat → Nat → PR} (h1 : r ≠ .inl (0, 0)) (h2 : ∀ c a, r = .inr (c, a) → k c a ≠ .inl (0, 0)) : bnd r k ≠ .inl (0, 0) := by
  cases r with
  | inl e => exact h1
  | inr x => exact h2 x.1 x.2 rfl
theorem num_z {T : List Nat} {a lo hi : Nat} : numP T a lo hi ≠ .inl (0, 0) := by
  unfold numP
  split
  · split
    · exact fun z => by cases z
    · split
      · exact fun z => by cases z
      · exact fun z => by cases z
  · exact fun z => by cases z
theorem at_z (T : List Nat) (a : Nat) : atP T a ≠ .inl (0, 0) := by
  unfold atP
  split
  · exact fun z => by cases z
  · split
    · exact fun z => by cases z
    · split
      · exact fun z => by cases z
      · cases h : numP T a 0 9999 with
        | inl e => exact fun z => num_z (by rw [h]; cases z; rfl)
        | inr e => exact fun z => by cases z
theorem inr_z {x : List Nat × Nat} : (.inr x : PR) ≠ .inl (0, 0) := fun z => by cases z
theorem inl_z {k p : Nat} (h : 0 < k) : (.inl (k, p) : PR) ≠ .inl (0, 0) := fun z => by cases z; omega
theorem pE_fuel (T : List Nat) (f : Nat) : ∀ tag a op, 4 * (T.length - a) + wtF tag < f → pE T f tag a op ≠ .inl (0, 0) := by
  induction f with
  | zero => intro tag a op h; omega
  | succ f ih =>
    intro tag a op h
    have ln := fun tag a op c a1 => pE_len T f tag a op c a1
    have g := sk_ge T a
    have g2 := sk_ge T (sk T a + 3)
    have w0 : wtF 0 = 1 := rfl
    have w1 : wtF 1 = 2 := rfl
    have w2 : wtF 2 = 1 := rfl
    have w3 : wtF 3 = 3 := rfl
    have w4 : wtF 4 = 1 := rfl
    by_cases t0 : tag = 0
    · subst t0
      have e : pE T (f + 1) 0 a op = if chB T (sk T a) 40 = true then (if op = 6 then .inl (4, sk T a) else bnd (pE T f 3 (sk T a + 1) (op + 1)) (fun c a1 => if chB T (sk T a1) 41 = true then .inr (c, sk T a1 + 1) else .inl (1, sk T a1)))
      else if (hereB T a (wT 30) || hereB T a (wT 31)) = true then
        if chB T (sk T (sk T a + 3)) 40 = true then (if op = 6 then .inl (4, sk T (sk T a + 3)) else bnd (pE T f 3 (sk T (sk T a + 3) + 1) (op + 1)) (fun c1 a1 => if chB T (sk T a1) 44 = true then bnd (pE T f 3 (sk T a1 + 1) (op + 1)) (fun c2 a2 => if chB T (sk T a2) 41 = true then .inr (c1 ++ c2 ++ [if hereB T a (wT 30) = true then 5 else 6], sk T a2 + 1) else .inl (1, sk T a2)) else .inl (1, sk T a1)))
        else .inl (1, sk T (sk T a + 3))
      else atP T a := rfl
      rw [e]
      split
      · rename_i c
        have := chB_lt c
        split
        · exact inl_z (by omega)
        · refine bnd_z (ih 3 _ _ (by omega)) (fun c a1 hc => ?_)
          split
          · exact inr_z
          · exact inl_z (by omega)
      · split
        · split
          · rename_i c
            have := chB_lt c
            split
            · exact inl_z (by omega)
            · refine bnd_z (ih 3 _ _ (by omega)) (fun c a1 hc => ?_)
              have l1 := ln _ _ _ _ _ hc
              have g3 := sk_ge T a1
              split
              · rename_i c4
                have := chB_lt c4
                refine bnd_z (ih 3 _ _ (by omega)) (fun c2 a2 hc2 => ?_)
                split
                · exact inr_z
                · exact inl_z (by omega)
              · exact inl_z (by omega)
          · exact inl_z (by omega)
        · exact at_z T a
    by_cases t1 : tag = 1
    · subst t1
      have e : pE T (f + 1) 1 a op = bnd (pE T f 0 a op) (fun c a1 => bnd (pE T f 2 a1 op) (fun c2 a2 => .inr (c ++ c2, a2))) := rfl
      rw [e]
      refine bnd_z (ih 0 _ _ (by omega)) (fun c a1 hc => ?_)
      have l1 := ln _ _ _ _ _ hc
      exact bnd_z (ih 2 _ _ (by omega)) (fun c2 a2 _ => inr_z)
    by_cases t2 : tag = 2
    · subst t2
      have e : pE T (f + 1) 2 a op = (if chB T (sk T a) 42 = true then bnd (pE T f 0 (sk T a + 1) op) (fun c a1 => bnd (pE T f 2 a1 op) (fun c2 a2 => .inr (c ++ 3 :: c2, a2))) else if chB T (sk T a) 47 = true then bnd (pE T f 0 (sk T a + 1) op) (fun c a1 => bnd (pE T f 2 a1 op) (fun c2 a2 => .inr (c ++ 4 :: c2, a2))) else .inr ([], a)) := rfl
      rw [e]
      split
      · rename_i c
        have := chB_lt c
        refine bnd_z (ih 0 _ _ (by omega)) (fun c a1 hc => ?_)
        have l1 := ln _ _ _ _ _ hc
        exact bnd_z (ih 2 _ _ (by omega)) (fun c2 a2 _ => inr_z)
      · split
        · rename_i c
          have := chB_lt c
          refine bnd_z (ih 0 _ _ (by omega)) (fun c a1 hc => ?_)
          have l1 := ln _ _ _ _ _ hc
          exact bnd_z (ih 2 _ _ (by omega)) (fun c2 a2 _ => inr_z)
        · exact inr_z
    by_cases t3 : tag = 3
    · subst t3
      have e : pE T (f + 1) 3 a op = bnd (pE T f 1 a op) (fun c a1 => bnd (pE T f 4 a1 op) (fun c2 a2 => .inr (c ++ c2, a2))) := rfl
      rw [e]
      refine bnd_z (ih 1 _ _ (by omega)) (fun c a1 hc => ?_)
      have l1 := ln _ _ _ _ _ hc
      exact bnd_z (ih 4 _ _ (by omega)) (fun c2 a2 _ => inr_z)
    · have wt : wtF tag = 1 := by unfold wtF; rw [if_neg t3, if_neg t1]
      have e : pE T (f + 1) tag a op = (if chB T (sk T a) 43 = true then bnd (pE T f 1 (sk T a + 1) op) (fun c a1 => bnd (pE T f 4 a1 op) (fun c2 a2 => .inr (c ++ 1 :: c2, a2))) else if chB T (sk T a) 45 = true then bnd (pE T f 1 (sk T a + 1) op) (fun c a1 => bnd (pE T f 4 a1 op) (fun c2 a2 => .inr (c ++ 2 :: c2, a2))) else .inr ([], a)) := by
        conv => lhs; unfold pE
        rw [if_neg t0, if_neg t1, if_neg t2, if_neg t3]
      rw [e]
      split
      · rename_i c
        have := chB_lt c
        refine bnd_z (ih 1 _ _ (by omega)) (fun c a1 hc => ?_)
        have l1 := ln _ _ _ _ _ hc
        exact bnd_z (ih 4 _ _ (by omega)) (fun c2 a2 _ => inr_z)
      · split
        · rename_i c
          have := chB_lt c
          refine bnd_z (ih 1 _ _ (by omega)) (fun c a1 hc => ?_)
          have l1 := ln _ _ _ _ _ hc
          exact bnd_z (ih 4 _ _ (by omega)) (fun c2 a2 _ => inr_z)
        · exact inr_z
theorem cm_ge {T : List Nat} {F a op : Nat} {c : List Nat} {a1 : Nat} (h : cmP T F a op = .inr (c, a1)) : a ≤ a1 := by
  unfold cmP at h
  have g := sk_ge T a
  split at h
  · cases h; omega
  · obtain ⟨c1, b1, h1, h2⟩ := bnd_inv h
    have l1 := pE_len _ _ _ _ _ _ _ h1
    have g1 := sk_ge T b1
    split at h2
    · obtain ⟨c2, b2, h3, h4⟩ := bnd_inv h2
      have l2 := pE_len _ _ _ _ _ _ _ h3
      have g2 := sk_ge T b2
      cases h4
      omega
    · cases h2
theorem pT_ge (T : List Nat) (F f : Nat) : ∀ tag a op c a1, pT T F f tag a op = .inr (c, a1) → a ≤ a1 := by
  induction f with
  | zero => intro tag a op c a1 h; cases h
  | succ f ih =>
    intro tag a op c a1 h
    have g := sk_ge T a
    unfold pT at h
    split at h
    · split at h
      · split at h
        · cases h
        · obtain ⟨c1, b1, h1, h2⟩ := bnd_inv h
          have l1 := ih _ _ _ _ _ h1
          have g1 := sk_ge T b1
          split at h2
          · cases h2; omega
          · cases h2
      · split at h
        · split at h
          · cases h
          · obtain ⟨c1, b1, h1, h2⟩ := bnd_inv h
            have l1 := ih _ _ _ _ _ h1
            cases h2; omega
        · exact cm_ge h
    · split at h
      · obtain ⟨c1, b1, h1, h2⟩ := bnd_inv h
        obtain ⟨c2, b2, h3, h4⟩ := bnd_inv h2
        have l1 := ih _ _ _ _ _ h1
        have l2 := ih _ _ _ _ _ h3
        cases h4; omega
      · split at h
        · split at h
          · obtain ⟨c1, b1, h1, h2⟩ := bnd_inv h
            obtain ⟨c2, b2, h3, h4⟩ := bnd_inv h2
            have l1 := ih _ _ _ _ _ h1
            have l2 := ih _ _ _ _ _ h3
            cases h4; omega
          · cases h; omega
        · split at h
          · obtain ⟨c1, b1, h1, h2⟩ := bnd_inv h
            obtain ⟨c2, b2, h3, h4⟩ := bnd_inv h2
            have l1 := ih _ _ _ _ _ h1
            have l2 := ih _ _ _ _ _ h3
            cases h4; omega
          · split at h
            · obtain ⟨c1, b1, h1, h2⟩ := bnd_inv h
              obtain ⟨c2, b2, h3, h4⟩ := bnd_inv h2
              have l1 := ih _ _ _ _ _ h1
              have l2 := ih _ _ _ _ _ h3
              cases h4; omega
            · cases h; omega
theorem cm_z {T : List Nat} {F a op : Nat} (hF : 4 * T.length + 3 < F) : cmP T F a op ≠ .inl (0, 0) := by
  have w3 : wtF 3 = 3 := rfl
  unfold cmP
  split
  · exact inr_z
  · refine bnd_z (pE_fuel T F 3 _ _ (by omega)) (fun c a1 _ => ?_)
    split
    · exact bnd_z (pE_fuel T F 3 _ _ (by omega)) (fun c2 a2 _ => inr_z)
    · exact inl_z (by omega)
theorem pT_fuel (T : List Nat) (F : Nat) (hF : 4 * T.length + 3 < F) (f : Nat) : ∀ tag a op, 4 * (T.length - a) + wtF tag < f → pT T F f tag a op ≠ .inl (0, 0) := by
  induction f with
  | zero => intro tag a op h; omega
  | succ f ih =>
    intro tag a op h
    have ln := fun tag a op c a1 => pT_ge T F f tag a op c a1
    have g := sk_ge T a
    have w0 : wtF 0 = 1 := rfl
    have w1 : wtF 1 = 2 := rfl
    have w2 : wtF 2 = 1 := rfl
    have w3 : wtF 3 = 3 := rfl
    have w4 : wtF 4 = 1 := rfl
    by_cases t0 : tag = 0
    · subst t0
      have e : pT T F (f + 1) 0 a op = if chB T (sk T a) 91 = true then (if op = 6 then .inl (4, sk T a) else bnd (pT T F f 3 (sk T a + 1) (op + 1)) (fun c a1 => if chB T (sk T a1) 93 = true then .inr (c, sk T a1 + 1) else .inl (1, sk T a1)))
      else if hereB T a (wT 25) = true then (if op = 6 then .inl (4, sk T a) else bnd (pT T F f 0 (sk T a + 3) (op + 1)) (fun c a1 => .inr (c ++ [16], a1)))
      else cmP T F a op := rfl
      rw [e]
      split
      · rename_i c
        have := chB_lt c
        split
        · exact inl_z (by omega)
        · refine bnd_z (ih 3 _ _ (by omega)) (fun c a1 hc => ?_)
          split
          · exact inr_z
          · exact inl_z (by omega)
      · split
        · rename_i c
          have := hereB_lt c
          split
          · exact inl_z (by omega)
          · exact bnd_z (ih 0 _ _ (by omega)) (fun c a1 hc => inr_z)
        · exact cm_z hF
    by_cases t1 : tag = 1
    · subst t1
      have e : pT T F (f + 1) 1 a op = bnd (pT T F f 0 a op) (fun c a1 => bnd (pT T F f 2 a1 op) (fun c2 a2 => .inr (c ++ c2, a2))) := rfl
      rw [e]
      refine bnd_z (ih 0 _ _ (by omega)) (fun c a1 hc => ?_)
      have l1 := ln _ _ _ _ _ hc
      exact bnd_z (ih 2 _ _ (by omega)) (fun c2 a2 _ => inr_z)
    by_cases t2 : tag = 2
    · subst t2
      have e : pT T F (f + 1) 2 a op = (if hereB T a (wT 24) = true then bnd (pT T F f 0 (sk T a + 3) op) (fun c a1 => bnd (pT T F f 2 a1 op) (fun c2 a2 => .inr (c ++ 14 :: c2, a2))) else .inr ([], a)) := rfl
      rw [e]
      split
      · rename_i c
        have := hereB_lt c
        refine bnd_z (ih 0 _ _ (by omega)) (fun c a1 hc => ?_)
        have l1 := ln _ _ _ _ _ hc
        exact bnd_z (ih 2 _ _ (by omega)) (fun c2 a2 _ => inr_z)
      · exact inr_z
    by_cases t3 : tag = 3
    · subst t3
      have e : pT T F (f + 1) 3 a op = bnd (pT T F f 1 a op) (fun c a1 => bnd (pT T F f 4 a1 op) (fun c2 a2 => .inr (c ++ c2, a2))) := rfl
      rw [e]
      refine bnd_z (ih 1 _ _ (by omega)) (fun c a1 hc => ?_)
      have l1 := ln _ _ _ _ _ hc
      exact bnd_z (ih 4 _ _ (by omega)) (fun c2 a2 _ => inr_z)
    · have wt : wtF tag = 1 := by unfold wtF; rw [if_neg t3, if_neg t1]
      have e : pT T F (f + 1) tag a op = (if hereB T a (wT 23) = true then bnd (pT T F f 1 (sk T a + 2) op) (fun c a1 => bnd (pT T F f 4 a1 op) (fun c2 a2 => .inr (c ++ 15 :: c2, a2))) else .inr ([], a)) := by
        conv => lhs; unfold pT
        rw [if_neg t0, if_neg t1, if_neg t2, if_neg t3]
      rw [e]
      split
      · rename_i c
        have := hereB_lt c
        refine bnd_z (ih 1 _ _ (by omega)) (fun c a1 hc => ?_)
        have l1 := ln _ _ _ _ _ hc
        exact bnd_z (ih 4 _ _ (by omega)) (fun c2 a2 _ => inr_z)
      · exact inr_z
