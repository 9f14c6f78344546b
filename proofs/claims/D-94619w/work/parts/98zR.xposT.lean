/-! X: where the reading of a test ends, what it may take -/
section
variable {T : List Nat} {a : Nat}
theorem cm_le {F op : Nat} {c : List Nat} {p : Nat} (ha : a ≤ T.length) (h : cmP T F a op = .inr (c, p)) : p ≤ T.length ∧ a + 2 ≤ p := by
  have g := sk_ge T a
  unfold cmP at h
  split at h
  · rename_i g2
    have g3 := here_w (k := 26) (by omega) (by omega) ha g2
    have e3 : (wT 26).length = 3 := rfl
    cases h; omega
  · obtain ⟨c1, b1, h1, h2⟩ := bnd_inv h
    have l1 := pE_le T F 3 _ _ _ _ ha h1
    have k1 := pE_len _ _ _ _ _ _ _ h1
    have v1 := cVal_ne ((pE_run T F 3 _ _ _ _ h1).1 (by omega))
    have g1 := sk_ge T b1
    split at h2
    · rename_i hc
      have hlt : sk T b1 < T.length := by
        rw [Bool.or_eq_true, Bool.or_eq_true] at hc
        rcases hc with (z | z) | z <;> exact chB_lt z
      obtain ⟨c2, b2, h3, h4⟩ := bnd_inv h2
      have l2 := pE_le T F 3 _ _ _ _ (by omega) h3
      have k2 := pE_len _ _ _ _ _ _ _ h3
      have v2 := cVal_ne ((pE_run T F 3 _ _ _ _ h3).1 (by omega))
      have g2 := sk_ge T b2
      have g3 := sk_le T l2
      cases h4; omega
    · cases h2
theorem pT_le (T : List Nat) (F f : Nat) : ∀ tag a op c p, a ≤ T.length → pT T F f tag a op = .inr (c, p) → p ≤ T.length ∧ ((tag = 0 ∨ tag = 1 ∨ tag = 3) → a + 2 ≤ p) := by
  induction f with
  | zero => intro tag a op c p _ h; cases h
  | succ f ih =>
    intro tag a op c p ha h
    have g := sk_ge T a
    have e25 : (wT 25).length = 3 := rfl
    have e24 : (wT 24).length = 3 := rfl
    have e23 : (wT 23).length = 2 := rfl
    unfold pT at h
    split at h
    · split at h
      · rename_i c0
        have c0 := chB_lt c0
        split at h
        · cases h
        · obtain ⟨c1, b1, h1, h2⟩ := bnd_inv h
          have l1 := ih _ _ _ _ _ (by omega) h1
          have g1 := sk_ge T b1
          split at h2
          · rename_i c2
            have c2 := chB_lt c2
            cases h2; omega
          · cases h2
      · split at h
        · rename_i g2
          have g3 := here_w (k := 25) (by omega) (by omega) ha g2
          split at h
          · cases h
          · obtain ⟨c1, b1, h1, h2⟩ := bnd_inv h
            have l1 := ih _ _ _ _ _ (by omega) h1
            cases h2; omega
        · have := cm_le ha h; omega
    · split at h
      · obtain ⟨c1, b1, h1, h2⟩ := bnd_inv h
        obtain ⟨c2, b2, h3, h4⟩ := bnd_inv h2
        have l1 := ih _ _ _ _ _ ha h1
        have l2 := ih _ _ _ _ _ l1.1 h3
        have l3 := pT_ge _ _ _ _ _ _ _ _ h3
        cases h4; omega
      · split at h
        · split at h
          · rename_i g2
            have g3 := here_w (k := 24) (by omega) (by omega) ha g2
            obtain ⟨c1, b1, h1, h2⟩ := bnd_inv h
            obtain ⟨c2, b2, h3, h4⟩ := bnd_inv h2
            have l1 := ih _ _ _ _ _ (by omega) h1
            have l2 := ih _ _ _ _ _ l1.1 h3
            cases h4; omega
          · cases h; omega
        · split at h
          · obtain ⟨c1, b1, h1, h2⟩ := bnd_inv h
            obtain ⟨c2, b2, h3, h4⟩ := bnd_inv h2
            have l1 := ih _ _ _ _ _ ha h1
            have l2 := ih _ _ _ _ _ l1.1 h3
            have l3 := pT_ge _ _ _ _ _ _ _ _ h3
            cases h4; omega
          · split at h
            · rename_i g2
              have g3 := here_w (k := 23) (by omega) (by omega) ha g2
              obtain ⟨c1, b1, h1, h2⟩ := bnd_inv h
              obtain ⟨c2, b2, h3, h4⟩ := bnd_inv h2
              have l1 := ih _ _ _ _ _ (by omega) h1
              have l2 := ih _ _ _ _ _ l1.1 h3
              cases h4; omega
            · cases h; omega
/-- the end of a test's reading, with room for faults -/
def eF (T : List Nat) (op : Nat) (r : PR) : Nat := match r with
  | .inl _ => T.length + 3 + 2 * (6 - op)
  | .inr q => q.2
theorem eF_bnd {op : Nat} {r : PR} {k : List Nat → Nat → PR} (h : ∀ c p, r = .inr (c, p) → p ≤ eF T op (k c p)) : eF T op r ≤ eF T op (bnd r k) := by
  cases r with
  | inl e => exact Nat.le_refl _
  | inr q => exact h q.1 q.2 rfl
theorem eF_pT {F f tag a op : Nat} (ha : a ≤ T.length) : a ≤ eF T op (pT T F f tag a op) := by
  cases h : pT T F f tag a op with
  | inl e => show a ≤ T.length + 3 + 2 * (6 - op); omega
  | inr q => exact pT_ge _ _ _ _ _ _ _ _ h
theorem eF_lt {F f tag a op : Nat} (ht : tag = 0 ∨ tag = 1 ∨ tag = 3) (ha : a ≤ T.length) : a + 2 ≤ eF T op (pT T F f tag a op) := by
  cases h : pT T F f tag a op with
  | inl e => show a + 2 ≤ T.length + 3 + 2 * (6 - op); omega
  | inr q => exact (pT_le _ _ _ _ _ _ _ _ ha h).2 ht
theorem eF_if {c : Prop} [Decidable c] {x y : PR} {op m : Nat} (h1 : c → m ≤ eF T op x) (h2 : ¬ c → m ≤ eF T op y) : m ≤ eF T op (if c then x else y) := by
  by_cases h : c
  · rw [if_pos h]; exact h1 h
  · rw [if_neg h]; exact h2 h
/-- a letter is there that is not parted from what stands ahead -/
def stk (T : List Nat) (p : Nat) : Prop := leB T (sk T p) = true ∧ prt T (sk T p) = true
theorem stk_here {p : Nat} {W : List Nat} (h : stk T p) : hereB T p W = false := by
  unfold hereB isWd
  rw [h.2, Bool.not_true, Bool.and_false, Bool.false_and]
theorem stk_rest {F f p op tag : Nat} (ht : tag = 2 ∨ tag = 4) (h : stk T p) (hne : pT T F f tag p op ≠ .inl (0, 0)) : pT T F f tag p op = .inr ([], p) := by
  cases f with
  | zero => exact absurd rfl hne
  | succ f =>
    rcases ht with g | g <;> subst g
    · show (if hereB T p (wT 24) = true then _ else (.inr ([], p) : PR)) = _
      rw [stk_here h]; rfl
    · show (if hereB T p (wT 23) = true then _ else (.inr ([], p) : PR)) = _
      rw [stk_here h]; rfl
theorem le_no {p c : Nat} (h : leB T p = true) (hc : c < 97) : chB T p c = false := by
  unfold leB isLe at h
  unfold chB
  rw [Bool.and_eq_true, Bool.and_eq_true, decide_eq_true_eq, decide_eq_true_eq] at h
  rw [decide_eq_false (show ¬ T.getD p 0 = c by omega), Bool.and_false]
theorem wl_no {p : Nat} (h : leB T p = false) : wl T p = p := spL_no (fun c => by
  unfold leB at h
  rw [decide_eq_true c, Bool.true_and] at h; exact h)
/-- a sum that is read begins with no long word -/
theorem pE_wn {F op : Nat} {c : List Nat} {p : Nat} (ha : a ≤ T.length) (h : pE T F 3 a op = .inr (c, p)) : wl T (sk T a) ≤ sk T a + 6 := by
  cases hl : leB T (sk T a) with
  | false => rw [wl_no hl]; omega
  | true =>
    have key : ∀ f c1 p1, pE T f 0 a op = .inr (c1, p1) → wl T (sk T a) ≤ sk T a + 6 := fun f c1 p1 h1 => by
      have w6 : ∀ k, 10 ≤ k → k < 32 → hereB T a (wT k) = true → wl T (sk T a) ≤ sk T a + 6 := fun k k1 k2 hk => by
        have := here_w k1 k2 ha hk
        have := wT_ok k k2 k1
        omega
      cases f with
      | zero => cases h1
      | succ f =>
        have e : pE T (f + 1) 0 a op = if chB T (sk T a) 40 = true then (if op = 6 then .inl (4, sk T a) else bnd (pE T f 3 (sk T a + 1) (op + 1)) (fun c a1 => if chB T (sk T a1) 41 = true then .inr (c, sk T a1 + 1) else .inl (1, sk T a1)))
          else if (hereB T a (wT 30) || hereB T a (wT 31)) = true then
            if chB T (sk T (sk T a + 3)) 40 = true then (if op = 6 then .inl (4, sk T (sk T a + 3)) else bnd (pE T f 3 (sk T (sk T a + 3) + 1) (op + 1)) (fun c1 a1 => if chB T (sk T a1) 44 = true then bnd (pE T f 3 (sk T a1 + 1) (op + 1)) (fun c2 a2 => if chB T (sk T a2) 41 = true then .inr (c1 ++ c2 ++ [if hereB T a (wT 30) = true then 5 else 6], sk T a2 + 1) else .inl (1, sk T a2)) else .inl (1, sk T a1)))
            else .inl (1, sk T (sk T a + 3))
          else atP T a := rfl
        rw [e, le_no hl (by omega), if_neg (by decide)] at h1
        by_cases c2 : (hereB T a (wT 30) || hereB T a (wT 31)) = true
        · rw [Bool.or_eq_true] at c2
          rcases c2 with g | g
          · exact w6 30 (by omega) (by omega) g
          · exact w6 31 (by omega) (by omega) g
        · rw [if_neg c2] at h1
          unfold atP at h1
          split at h1
          · rename_i g; exact w6 27 (by omega) (by omega) g
          · split at h1
            · rename_i g; exact w6 28 (by omega) (by omega) g
            · split at h1
              · rename_i g; exact w6 29 (by omega) (by omega) g
              · split at h1
                · cases h1
                · rename_i v e9 hn
                  exfalso
                  unfold numP at hn
                  rw [if_neg (by
                    intro z
                    unfold leB isLe at hl
                    unfold isDi at z
                    simp only [Bool.and_eq_true, decide_eq_true_eq] at z hl
                    omega)] at hn
                  cases hn
    cases F with
    | zero => cases h
    | succ f =>
      have e : pE T (f + 1) 3 a op = bnd (pE T f 1 a op) (fun c a1 => bnd (pE T f 4 a1 op) (fun c2 a2 => .inr (c ++ c2, a2))) := rfl
      rw [e] at h
      obtain ⟨c1, b1, h1, _⟩ := bnd_inv h
      cases f with
      | zero => cases h1
      | succ f =>
        have e : pE T (f + 1) 1 a op = bnd (pE T f 0 a op) (fun c a1 => bnd (pE T f 2 a1 op) (fun c2 a2 => .inr (c ++ c2, a2))) := rfl
        rw [e] at h1
        obtain ⟨c2, b2, h2, _⟩ := bnd_inv h1
        exact key f c2 b2 h2
/-- a sum cannot begin there -/
theorem pE_stk {F op : Nat} (h : stk T a) (hne : pE T F 3 a op ≠ .inl (0, 0)) : pE T F 3 a op = .inl (1, sk T a) := by
  have key : ∀ f, pE T f 0 a op ≠ .inl (0, 0) → pE T f 0 a op = .inl (1, sk T a) := fun f hf => by
    cases f with
    | zero => exact absurd rfl hf
    | succ f =>
      have e : pE T (f + 1) 0 a op = if chB T (sk T a) 40 = true then (if op = 6 then .inl (4, sk T a) else bnd (pE T f 3 (sk T a + 1) (op + 1)) (fun c a1 => if chB T (sk T a1) 41 = true then .inr (c, sk T a1 + 1) else .inl (1, sk T a1)))
          else if (hereB T a (wT 30) || hereB T a (wT 31)) = true then
            if chB T (sk T (sk T a + 3)) 40 = true then (if op = 6 then .inl (4, sk T (sk T a + 3)) else bnd (pE T f 3 (sk T (sk T a + 3) + 1) (op + 1)) (fun c1 a1 => if chB T (sk T a1) 44 = true then bnd (pE T f 3 (sk T a1 + 1) (op + 1)) (fun c2 a2 => if chB T (sk T a2) 41 = true then .inr (c1 ++ c2 ++ [if hereB T a (wT 30) = true then 5 else 6], sk T a2 + 1) else .inl (1, sk T a2)) else .inl (1, sk T a1)))
            else .inl (1, sk T (sk T a + 3))
          else atP T a := rfl
      rw [e, le_no h.1 (by omega), if_neg (by decide), stk_here h, stk_here h, if_neg (by decide)]
      unfold atP
      rw [stk_here h, stk_here h, stk_here h]
      have : numP T a 0 9999 = .inl (1, sk T a) := by
        unfold numP
        rw [h.2]
        rw [if_neg (by rw [Bool.not_true, Bool.and_false]; decide)]
      rw [this]; rfl
  cases F with
  | zero => exact absurd rfl hne
  | succ f =>
    have e : pE T (f + 1) 3 a op = bnd (pE T f 1 a op) (fun c a1 => bnd (pE T f 4 a1 op) (fun c2 a2 => .inr (c ++ c2, a2))) := rfl
    rw [e] at hne ⊢
    refine bnd_l ?_
    have hne1 : pE T f 1 a op ≠ .inl (0, 0) := fun z => hne (bnd_l z)
    cases f with
    | zero => exact absurd rfl hne1
    | succ f =>
      have e : pE T (f + 1) 1 a op = bnd (pE T f 0 a op) (fun c a1 => bnd (pE T f 2 a1 op) (fun c2 a2 => .inr (c ++ c2, a2))) := rfl
      rw [e] at hne1 ⊢
      exact bnd_l (key f (fun z => hne1 (bnd_l z)))
/-- the Reader stands at a place, or before the blanks there, or behind them -/
def XZw (T : List Nat) (a : Nat) (w : xw) : Prop := a ≤ T.length ∧ ∃ b, sk T b = sk T a ∧ XZ T b w
theorem XZw_s {w : xw} (h : XZs T a w) : XZw T a w := by
  have h1 := XZs_le h
  obtain ⟨b, h2, h3, h4⟩ := h
  exact ⟨h1, b, h3, h4⟩
theorem XZw_k {w w' : xw} {E : Nat → Prop} (h : XZw T a w) (k : xk E w w') (hE : ∀ i, E i → 794 ≤ i) : XZw T a w' := by
  obtain ⟨h0, b, h2, h3⟩ := h
  exact ⟨h0, b, h2, XZ_k h3 k hE⟩
theorem x_mustW {Q : Option Value → xw → Prop} {Qx : Nat → xw → Prop} {w : xw} {a c : Nat} {x : Int32} (h : XZw T a w) (hx : x = nI c) (hc : c < 256)
    (q0 : chB T (sk T a) c = false → ∀ w', xq w w' → XBad 1 (sk T a) w' → (xS w' 342).1 = 4 → Qx 342 w') (q1 : chB T (sk T a) c = true → ∀ w', xq w w' → XZ T (sk T a + 1) w' → xI w' 341 4 = xI w 341 4 → xk (fun i => i = 341 ∨ i = 342) w w' → Q none w') : V_X2_must [.ref 341, .int x] w Q Qx := by
  obtain ⟨_, b, hsb, z⟩ := h
  refine x_must (c := c) z.1 hx hc (fun h1 w' f e s => ?_) (fun h1 w' f r j => ?_)
  · rw [hsb] at h1 e
    exact q0 h1 w' (xq_f f) e s
  · rw [hsb] at h1 r
    exact q1 h1 w' (xq_f f) ⟨r, XC_q z.2 (xq_f f) (XZ_n z)⟩ (j 4 (by omega)) (xk_q (xq_f f))
end
