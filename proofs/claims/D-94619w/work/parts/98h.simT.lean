/-! the reading of tests: recursive descent, and BorderStonesModel -/
def pT (T : List Nat) (F : Nat) : Nat → Nat → Nat → Nat → PR
  | 0, _, _, _ => .inl (0, 0)
  | f + 1, tag, a, op =>
    if tag = 0 then
      if chB T (sk T a) 91 = true then (if op = 6 then .inl (4, sk T a) else bnd (pT T F f 3 (sk T a + 1) (op + 1)) (fun c a1 => if chB T (sk T a1) 93 = true then .inr (c, sk T a1 + 1) else .inl (1, sk T a1)))
      else if hereB T a (wT 25) = true then (if op = 6 then .inl (4, sk T a) else bnd (pT T F f 0 (sk T a + 3) (op + 1)) (fun c a1 => .inr (c ++ [16], a1)))
      else cmP T F a op
    else if tag = 1 then bnd (pT T F f 0 a op) (fun c a1 => bnd (pT T F f 2 a1 op) (fun c2 a2 => .inr (c ++ c2, a2)))
    else if tag = 2 then (if hereB T a (wT 24) = true then bnd (pT T F f 0 (sk T a + 3) op) (fun c a1 => bnd (pT T F f 2 a1 op) (fun c2 a2 => .inr (c ++ 14 :: c2, a2))) else .inr ([], a))
    else if tag = 3 then bnd (pT T F f 1 a op) (fun c a1 => bnd (pT T F f 4 a1 op) (fun c2 a2 => .inr (c ++ c2, a2)))
    else (if hereB T a (wT 23) = true then bnd (pT T F f 1 (sk T a + 2) op) (fun c a1 => bnd (pT T F f 4 a1 op) (fun c2 a2 => .inr (c ++ 15 :: c2, a2))) else .inr ([], a))
section
variable {Q : Option Value → mw → Prop} {T : List Nat} {F ba : Nat} {M0 : mw}
abbrev RT (Q : Option Value → mw → Prop) : Option Value → mw → Prop := fun v M1 => T_test Q 98 [some (.ref 0), none, none] (v.toList ++ []) M1
def HT (Q : Option Value → mw → Prop) (M : mw) : Prop := ∀ (o2 : Option Value), T_test Q 2 [some (.ref 0), some (.int (nI 1)), o2] [] M
def GT (Q : Option Value → mw → Prop) (M : mw) : Prop := T_goesOnTest (RT Q) 0 [some (.ref 0)] [] M
def ET (Q : Option Value → mw → Prop) (M0 : mw) (e : Nat × Nat) : Prop := e ≠ (0, 0) ∧ ∀ M', frE M0 M' → MBad e.1 e.2 M' → Q none M'
def hiW (W : List Nat) : Prop := ∀ u, u ∈ W → 14 ≤ u
theorem hi_on {W : List Nat} (h : hiW W) : ∀ u, 1 ≤ u → u ≤ 4 → onB W u = false := fun u _ h2 => by
  unfold onB
  by_cases c : 0 < W.length
  · have := h _ (getD_mem (show W.length - 1 < W.length by omega))
    rw [decide_eq_true c, Bool.true_and, decide_eq_false (by omega)]
  · rw [decide_eq_false c, Bool.false_and]
theorem hi_app {W : List Nat} {k : Nat} (h : hiW W) (hk : 14 ≤ k) : hiW (W ++ [k]) := fun u hu => by
  rcases List.mem_append.mp hu with g | g
  · exact h u g
  · rw [List.mem_singleton.mp g]; exact hk
def U0 (Q : Option Value → mw → Prop) (T : List Nat) (F ba : Nat) (M0 : mw) (f : Nat) : Prop := ∀ (a op : Nat) (C W : List Nat) (M : mw), frE M0 M → MX T a C W op ba M → hiW W → (∀ e, pT T F f 0 a op = .inl e → ET Q M0 e) →
  (∀ c a1, pT T F f 0 a op = .inr (c, a1) → ∀ M', frE M0 M' → MX T a1 (C ++ c) W op ba M' → AF (RT Q) M') → HT Q M
def U1 (Q : Option Value → mw → Prop) (T : List Nat) (F ba : Nat) (M0 : mw) (f : Nat) : Prop := ∀ (a op : Nat) (C W : List Nat) (M : mw), frE M0 M → MX T a C W op ba M → hiW W → onB W 14 = false → onB W 16 = false → (∀ e, pT T F f 1 a op = .inl e → ET Q M0 e) →
  (∀ c a1, pT T F f 1 a op = .inr (c, a1) → ∀ C1 r1 M', C1 ++ r1 = C ++ c → (∀ u, u ∈ r1 → u = 14) → hereB T a1 (wT 24) = false → frE M0 M' → MX T a1 C1 (W ++ r1.reverse) op ba M' → GT Q M') → HT Q M
def U2 (Q : Option Value → mw → Prop) (T : List Nat) (F ba : Nat) (M0 : mw) (f : Nat) : Prop := ∀ (a op : Nat) (C W r : List Nat) (M : mw), frE M0 M → MX T a C (W ++ r.reverse) op ba M → ba ≤ W.length → hiW W → onB W 14 = false → (∀ u, u ∈ r → u = 14) → (∀ e, pT T F f 2 a op = .inl e → ET Q M0 e) →
  (∀ c a1, pT T F f 2 a op = .inr (c, a1) → ∀ C1 r1 M', C1 ++ r1 = C ++ r ++ c → (∀ u, u ∈ r1 → u = 14) → hereB T a1 (wT 24) = false → frE M0 M' → MX T a1 C1 (W ++ r1.reverse) op ba M' → GT Q M') → GT Q M
def U3 (Q : Option Value → mw → Prop) (T : List Nat) (F ba : Nat) (M0 : mw) (f : Nat) : Prop := ∀ (a op : Nat) (C W : List Nat) (M : mw), frE M0 M → MX T a C W op ba M → hiW W → onB W 14 = false → onB W 15 = false → onB W 16 = false → (∀ e, pT T F f 3 a op = .inl e → ET Q M0 e) →
  (∀ c a1, pT T F f 3 a op = .inr (c, a1) → ∀ C1 r1 M', C1 ++ r1 = C ++ c → (∀ u, u ∈ r1 → u = 14 ∨ u = 15) → hereB T a1 (wT 24) = false → hereB T a1 (wT 23) = false → frE M0 M' → MX T a1 C1 (W ++ r1.reverse) op ba M' → GT Q M') → HT Q M
def U4 (Q : Option Value → mw → Prop) (T : List Nat) (F ba : Nat) (M0 : mw) (f : Nat) : Prop := ∀ (a op : Nat) (C W r : List Nat) (M : mw), frE M0 M → MX T a C (W ++ r.reverse) op ba M → ba ≤ W.length → hiW W → onB W 14 = false → onB W 15 = false → (∀ u, u ∈ r → u = 14 ∨ u = 15) → hereB T a (wT 24) = false → (∀ e, pT T F f 4 a op = .inl e → ET Q M0 e) →
  (∀ c a1, pT T F f 4 a op = .inr (c, a1) → ∀ C1 r1 M', C1 ++ r1 = C ++ r ++ c → (∀ u, u ∈ r1 → u = 14 ∨ u = 15) → hereB T a1 (wT 24) = false → hereB T a1 (wT 23) = false → frE M0 M' → MX T a1 C1 (W ++ r1.reverse) op ba M' → GT Q M') → GT Q M
theorem simT (f : Nat) : U0 Q T F ba M0 f ∧ U1 Q T F ba M0 f ∧ U2 Q T F ba M0 f ∧ U3 Q T F ba M0 f ∧ U4 Q T F ba M0 f := by
  have hG : ∀ M, HT Q M → RT Q (some (.int (nI 1))) M := fun M g => r_test_98 ⟨fun z => absurd z (by decide), fun _ => g none⟩
  have eG : ∀ M kd pl, MBad kd pl M → Q none M → RT Q (some (.int (nI 0))) M := fun M kd pl b g => r_test_98 ⟨fun _ => h_bad b g _, fun z => absurd rfl z⟩
  induction f with
  | zero =>
    refine ⟨?_, ?_, ?_, ?_, ?_⟩
    · intro a op C W M _ _ _ he _; exact absurd rfl (he (0, 0) rfl).1
    · intro a op C W M _ _ _ _ _ he _; exact absurd rfl (he (0, 0) rfl).1
    · intro a op C W r M _ _ _ _ _ _ he _; exact absurd rfl (he (0, 0) rfl).1
    · intro a op C W M _ _ _ _ _ _ he _; exact absurd rfl (he (0, 0) rfl).1
    · intro a op C W r M _ _ _ _ _ _ _ _ he _; exact absurd rfl (he (0, 0) rfl).1
  | succ f ih =>
    obtain ⟨i0, i1, i2, i3, i4⟩ := ih
    refine ⟨?_, ?_, ?_, ?_, ?_⟩
    rotate_left
    · intro a op C W M f0 h hW h14 h16 he q
      have e : pT T F (f + 1) 1 a op = bnd (pT T F f 0 a op) (fun c a1 => bnd (pT T F f 2 a1 op) (fun c2 a2 => .inr (c ++ c2, a2))) := rfl
      rw [e] at he q
      refine i0 a op C W M f0 h hW (fun e he' => he e (bnd_l he')) (fun c a1 hc M1 f1 x1 => AF_go x1 h16 ?_)
      rw [bnd_r hc] at he q
      refine i2 a1 op (C ++ c) W [] M1 f1 (by rw [List.reverse_nil, List.append_nil]; exact x1) h.2.2.2.2.2.1 hW h14 (fun u hu => absurd hu List.not_mem_nil) (fun e he' => he e (bnd_l he')) (fun c2 a2 hc2 C1 r1 M2 e2 g2 n2 f2 x2 => ?_)
      rw [bnd_r hc2] at q
      exact q _ _ rfl C1 r1 M2 (by rw [e2, List.append_nil, List.append_assoc]) g2 n2 f2 x2
    · intro a op C W r M f0 h hb hW h14 hr he q
      have e : pT T F (f + 1) 2 a op = (if hereB T a (wT 24) = true then bnd (pT T F f 0 (sk T a + 3) op) (fun c a1 => bnd (pT T F f 2 a1 op) (fun c2 a2 => .inr (c ++ 14 :: c2, a2))) else .inr ([], a)) := rfl
      rw [e] at he q
      by_cases c1 : hereB T a (wT 24) = true
      · rw [if_pos c1] at he q
        refine t_and h hb h14 hr c1 (fun M1 f1 x1 => hG M1 ?_)
        refine i0 _ op (C ++ r) (W ++ [14]) M1 (frE_trans f0 f1) x1 (hi_app hW (by omega)) (fun e he' => he e (bnd_l he')) (fun c a1 hc1 M2 f2 x2 => AF_go x2 (on_push (by omega)) ?_)
        rw [bnd_r hc1] at he q
        refine i2 a1 op (C ++ r ++ c) W [14] M2 f2 x2 hb hW h14 (fun u hu => List.mem_singleton.mp hu) (fun e he' => he e (bnd_l he')) (fun c2 a2 hc2 C1 r1 M3 e3 g3 n3 f3 x3 => ?_)
        rw [bnd_r hc2] at q
        exact q _ _ rfl C1 r1 M3 (by rw [e3]; simp only [List.append_assoc, List.singleton_append]) g3 n3 f3 x3
      · rw [if_neg c1] at q
        exact q [] a rfl C r M (by rw [List.append_nil]) hr (by simpa using c1) f0 h
    · intro a op C W M f0 h hW h14 h15 h16 he q
      have e : pT T F (f + 1) 3 a op = bnd (pT T F f 1 a op) (fun c a1 => bnd (pT T F f 4 a1 op) (fun c2 a2 => .inr (c ++ c2, a2))) := rfl
      rw [e] at he q
      refine i1 a op C W M f0 h hW h14 h16 (fun e he' => he e (bnd_l he')) (fun c a1 hc C1 r1 M1 e1 g1 n1 f1 x1 => ?_)
      rw [bnd_r hc] at he q
      refine i4 a1 op C1 W r1 M1 f1 x1 h.2.2.2.2.2.1 hW h14 h15 (fun u hu => Or.inl (g1 u hu)) n1 (fun e he' => he e (bnd_l he')) (fun c2 a2 hc2 C2 r2 M2 e2 g2 n2 n3 f2 x2 => ?_)
      rw [bnd_r hc2] at q
      exact q _ _ rfl C2 r2 M2 (by rw [e2, e1, List.append_assoc]) g2 n2 n3 f2 x2
    · intro a op C W r M f0 h hb hW h14 h15 hr hn he q
      have e : pT T F (f + 1) 4 a op = (if hereB T a (wT 23) = true then bnd (pT T F f 1 (sk T a + 2) op) (fun c a1 => bnd (pT T F f 4 a1 op) (fun c2 a2 => .inr (c ++ 15 :: c2, a2))) else .inr ([], a)) := rfl
      rw [e] at he q
      by_cases c1 : hereB T a (wT 23) = true
      · rw [if_pos c1] at he q
        refine t_or h hb h14 h15 hr hn c1 (fun M1 f1 x1 => hG M1 ?_)
        refine i1 _ op (C ++ r) (W ++ [15]) M1 (frE_trans f0 f1) x1 (hi_app hW (by omega)) (on_push (by omega)) (on_push (by omega)) (fun e he' => he e (bnd_l he')) (fun c a1 hc1 C1 r1 M2 e2 g2 n2 f2 x2 => ?_)
        rw [bnd_r hc1] at he q
        have er : W ++ [15] ++ r1.reverse = W ++ (r1 ++ [15]).reverse := by rw [List.reverse_append, List.append_assoc]; rfl
        rw [er] at x2
        refine i4 a1 op C1 W (r1 ++ [15]) M2 f2 x2 hb hW h14 h15 (fun u hu => by
          rcases List.mem_append.mp hu with g | g
          · exact Or.inl (g2 u g)
          · exact Or.inr (List.mem_singleton.mp g)) n2 (fun e he' => he e (bnd_l he')) (fun c2 a2 hc2 C2 r2 M3 e3 g3 n3 n4 f3 x3 => ?_)
        rw [bnd_r hc2] at q
        refine q _ _ rfl C2 r2 M3 ?_ g3 n3 n4 f3 x3
        rw [e3, ← List.append_assoc, e2]; simp only [List.append_assoc, List.singleton_append]
      · rw [if_neg c1] at q
        exact q [] a rfl C r M (by rw [List.append_nil]) hr hn (by simpa using c1) f0 h
    · intro a op C W M f0 h hW he q
      have e : pT T F (f + 1) 0 a op = (if chB T (sk T a) 91 = true then (if op = 6 then .inl (4, sk T a) else bnd (pT T F f 3 (sk T a + 1) (op + 1)) (fun c a1 => if chB T (sk T a1) 93 = true then .inr (c, sk T a1 + 1) else .inl (1, sk T a1)))
        else if hereB T a (wT 25) = true then (if op = 6 then .inl (4, sk T a) else bnd (pT T F f 0 (sk T a + 3) (op + 1)) (fun c a1 => .inr (c ++ [16], a1)))
        else cmP T F a op) := rfl
      rw [e] at he q
      have op6 := h.2.2.2.2.2.2
      have hb := h.2.2.2.2.2.1
      intro o2
      by_cases c1 : chB T (sk T a) 91 = true
      · rw [if_pos c1] at he q
        refine h_open h c1 (fun o6 M1 f1 b1 => ?_) (fun o6 M1 f1 x1 => ?_) o2
        · rw [if_pos o6] at he
          exact (he _ rfl).2 M1 (frE_trans f0 f1) b1
        · rw [if_neg (by omega)] at he q
          refine i3 _ _ C (W ++ [25]) M1 (frE_trans f0 f1) x1 (hi_app hW (by omega)) (on_push (by omega)) (on_push (by omega)) (on_push (by omega)) (fun e he' => he e (bnd_l he')) (fun c a1 hc C1 r1 M2 e2 g2 n2 n3 f2 x2 => ?_)
          rw [bnd_r hc] at he q
          by_cases c2 : chB T (sk T a1) 93 = true
          · rw [if_pos c2] at q
            refine t_shut x2 hb g2 c2 (fun M3 f3 x3 => q _ _ rfl M3 (frE_trans f2 f3) ?_)
            rw [e2] at x3
            exact x3
          · rw [if_neg c2] at he
            exact t_end x2 (fun z => absurd z c2) n2 n3 (fun z => by rw [sq_in] at z; cases z) (fun _ M3 f3 b3 => eG M3 _ _ b3 ((he _ rfl).2 M3 (frE_trans f2 (frE_T f3)) b3))
      · rw [if_neg c1] at he q
        by_cases c2 : hereB T a (wT 25) = true
        · rw [if_pos c2] at he q
          refine h_not h c2 (fun o6 M1 f1 b1 => ?_) (fun o6 M1 f1 x1 => ?_) o2
          · rw [if_pos o6] at he
            exact (he _ rfl).2 M1 (frE_trans f0 f1) b1
          · rw [if_neg (by omega)] at he q
            refine i0 _ _ C (W ++ [16]) M1 (frE_trans f0 f1) x1 (hi_app hW (by omega)) (fun e he' => he e (bnd_l he')) (fun c a1 hc M2 f2 x2 => ?_)
            rw [bnd_r hc] at q
            refine AF_not x2 hb (fun M3 f3 x3 => q _ _ rfl M3 (frE_trans f2 (frE_D f3)) ?_)
            rw [List.append_assoc] at x3
            exact x3
        · rw [if_neg c2] at he q
          refine h_fact F h (hi_on hW) (by simpa using c1) (by simpa using c2) (fun e hc => ⟨(he e hc).1, fun M1 f1 b1 => (he e hc).2 M1 (frE_trans f0 f1) b1⟩) (fun c a1 hc M1 f1 x1 => ?_) o2
          exact e_dropsNots (q c a1 hc M1 (frE_trans f0 f1) x1 _ (fun M2 b2 g => r_test_87 ⟨fun z => absurd b2 z, fun _ => e_goesOnTest g⟩))
end
