/-! the reading of sums: recursive descent, and BorderStonesModel's row of what waits -/
abbrev PR : Type := Sum (Nat × Nat) (List Nat × Nat)
def bnd (r : PR) (k : List Nat → Nat → PR) : PR := match r with
  | .inl e => .inl e
  | .inr (c, a) => k c a
/-- 0 a part, 1 a product, 2 the rest of a product, 3 a sum, 4 the rest of a sum -/
def pE (T : List Nat) : Nat → Nat → Nat → Nat → PR
  | 0, _, _, _ => .inl (0, 0)
  | f + 1, tag, a, op =>
    if tag = 0 then
      if chB T (sk T a) 40 = true then (if op = 6 then .inl (4, sk T a) else bnd (pE T f 3 (sk T a + 1) (op + 1)) (fun c a1 => if chB T (sk T a1) 41 = true then .inr (c, sk T a1 + 1) else .inl (1, sk T a1)))
      else if (hereB T a (wT 30) || hereB T a (wT 31)) = true then
        if chB T (sk T (sk T a + 3)) 40 = true then (if op = 6 then .inl (4, sk T (sk T a + 3)) else bnd (pE T f 3 (sk T (sk T a + 3) + 1) (op + 1)) (fun c1 a1 => if chB T (sk T a1) 44 = true then bnd (pE T f 3 (sk T a1 + 1) (op + 1)) (fun c2 a2 => if chB T (sk T a2) 41 = true then .inr (c1 ++ c2 ++ [if hereB T a (wT 30) = true then 5 else 6], sk T a2 + 1) else .inl (1, sk T a2)) else .inl (1, sk T a1)))
        else .inl (1, sk T (sk T a + 3))
      else atP T a
    else if tag = 1 then bnd (pE T f 0 a op) (fun c a1 => bnd (pE T f 2 a1 op) (fun c2 a2 => .inr (c ++ c2, a2)))
    else if tag = 2 then (if chB T (sk T a) 42 = true then bnd (pE T f 0 (sk T a + 1) op) (fun c a1 => bnd (pE T f 2 a1 op) (fun c2 a2 => .inr (c ++ 3 :: c2, a2))) else if chB T (sk T a) 47 = true then bnd (pE T f 0 (sk T a + 1) op) (fun c a1 => bnd (pE T f 2 a1 op) (fun c2 a2 => .inr (c ++ 4 :: c2, a2))) else .inr ([], a))
    else if tag = 3 then bnd (pE T f 1 a op) (fun c a1 => bnd (pE T f 4 a1 op) (fun c2 a2 => .inr (c ++ c2, a2)))
    else (if chB T (sk T a) 43 = true then bnd (pE T f 1 (sk T a + 1) op) (fun c a1 => bnd (pE T f 4 a1 op) (fun c2 a2 => .inr (c ++ 1 :: c2, a2))) else if chB T (sk T a) 45 = true then bnd (pE T f 1 (sk T a + 1) op) (fun c a1 => bnd (pE T f 4 a1 op) (fun c2 a2 => .inr (c ++ 2 :: c2, a2))) else .inr ([], a))
def EO (Fk : mw → Prop) (M0 : mw) (e : Nat × Nat) : Prop := e ≠ (0, 0) ∧ ∀ M', frE M0 M' → MBad e.1 e.2 M' → cdB M' → Fk M'
def noM (T : List Nat) (a : Nat) : Prop := chB T (sk T a) 42 = false ∧ chB T (sk T a) 47 = false
def noS (T : List Nat) (a : Nat) : Prop := noM T a ∧ chB T (sk T a) 43 = false ∧ chB T (sk T a) 45 = false
theorem noS_c {T : List Nat} {a : Nat} (h : noS T a) : ∀ c, c = 42 ∨ c = 47 ∨ c = 43 ∨ c = 45 → chB T (sk T a) c = false := fun c hc => by
  obtain ⟨⟨h1, h2⟩, h3, h4⟩ := h
  rcases hc with g | g | g | g <;> subst g <;> assumption
theorem bnd_l {r : PR} {k : List Nat → Nat → PR} {e : Nat × Nat} (h : r = .inl e) : bnd r k = .inl e := by rw [h]; rfl
theorem bnd_r {r : PR} {k : List Nat → Nat → PR} {c : List Nat} {a : Nat} (h : r = .inr (c, a)) : bnd r k = k c a := by rw [h]; rfl
section
variable {RO RG : Option Value → mw → Prop} {Fk : mw → Prop} {T : List Nat} {ba : Nat} {M0 : mw}
def HD (RO : Option Value → mw → Prop) (M : mw) : Prop := ∀ (o2 o3 o4 : Option Value), T_onePart RO 2 [some (.ref 0), some (.int (nI 1)), o2, o3, o4] [] M
def GD (RG : Option Value → mw → Prop) (M : mw) : Prop := T_goesOn RG 0 [some (.ref 0), none] [] M
def S0 (RO RG : Option Value → mw → Prop) (Fk : mw → Prop) (T : List Nat) (ba : Nat) (M0 : mw) (f : Nat) : Prop := ∀ (a op : Nat) (C W : List Nat) (M : mw), frE M0 M → MX T a C W op ba M → (∀ e, pE T f 0 a op = .inl e → EO Fk M0 e) →
  (∀ c a1, pE T f 0 a op = .inr (c, a1) → ∀ M', frE M0 M' → MX T a1 (C ++ c) W op ba M' → GD RG M') → HD RO M
def S1 (RO RG : Option Value → mw → Prop) (Fk : mw → Prop) (T : List Nat) (ba : Nat) (M0 : mw) (f : Nat) : Prop := ∀ (a op : Nat) (C W : List Nat) (M : mw), frE M0 M → MX T a C W op ba M → onB W 3 = false → onB W 4 = false → (∀ e, pE T f 1 a op = .inl e → EO Fk M0 e) →
  (∀ c a1, pE T f 1 a op = .inr (c, a1) → ∀ C1 r1 M', C1 ++ r1 = C ++ c → (∀ u, u ∈ r1 → u = 3 ∨ u = 4) → noM T a1 → frE M0 M' → MX T a1 C1 (W ++ r1.reverse) op ba M' → GD RG M') → HD RO M
def S2 (RO RG : Option Value → mw → Prop) (Fk : mw → Prop) (T : List Nat) (ba : Nat) (M0 : mw) (f : Nat) : Prop := ∀ (a op : Nat) (C W r : List Nat) (M : mw), frE M0 M → MX T a C (W ++ r.reverse) op ba M → ba ≤ W.length → onB W 3 = false → onB W 4 = false → (∀ u, u ∈ r → u = 3 ∨ u = 4) → (∀ e, pE T f 2 a op = .inl e → EO Fk M0 e) →
  (∀ c a1, pE T f 2 a op = .inr (c, a1) → ∀ C1 r1 M', C1 ++ r1 = C ++ r ++ c → (∀ u, u ∈ r1 → u = 3 ∨ u = 4) → noM T a1 → frE M0 M' → MX T a1 C1 (W ++ r1.reverse) op ba M' → GD RG M') → GD RG M
def S3 (RO RG : Option Value → mw → Prop) (Fk : mw → Prop) (T : List Nat) (ba : Nat) (M0 : mw) (f : Nat) : Prop := ∀ (a op : Nat) (C W : List Nat) (M : mw), frE M0 M → MX T a C W op ba M → (∀ u, 1 ≤ u → u ≤ 4 → onB W u = false) → (∀ e, pE T f 3 a op = .inl e → EO Fk M0 e) →
  (∀ c a1, pE T f 3 a op = .inr (c, a1) → ∀ C1 r1 M', C1 ++ r1 = C ++ c → (∀ u, u ∈ r1 → 1 ≤ u ∧ u ≤ 4) → noS T a1 → frE M0 M' → MX T a1 C1 (W ++ r1.reverse) op ba M' → GD RG M') → HD RO M
def S4 (RO RG : Option Value → mw → Prop) (Fk : mw → Prop) (T : List Nat) (ba : Nat) (M0 : mw) (f : Nat) : Prop := ∀ (a op : Nat) (C W r : List Nat) (M : mw), frE M0 M → MX T a C (W ++ r.reverse) op ba M → ba ≤ W.length → (∀ u, 1 ≤ u → u ≤ 4 → onB W u = false) → (∀ u, u ∈ r → 1 ≤ u ∧ u ≤ 4) → noM T a → (∀ e, pE T f 4 a op = .inl e → EO Fk M0 e) →
  (∀ c a1, pE T f 4 a op = .inr (c, a1) → ∀ C1 r1 M', C1 ++ r1 = C ++ r ++ c → (∀ u, u ∈ r1 → 1 ≤ u ∧ u ≤ 4) → noS T a1 → frE M0 M' → MX T a1 C1 (W ++ r1.reverse) op ba M' → GD RG M') → GD RG M
theorem on_push {W : List Nat} {k u : Nat} (h : k ≠ u) : onB (W ++ [k]) u = false := by rw [on_app, decide_eq_false h]
theorem sim (hO : ∀ M, M.1 5 0 = 0 → GD RG M → RO none M) (hG : ∀ M, M.1 5 0 = 0 → HD RO M → RG (some (.int (nI 1))) M) (eO : ∀ M, ¬ M.1 5 0 = 0 → Fk M → RO none M) (eG : ∀ M, ¬ M.1 5 0 = 0 → Fk M → RG (some (.int (nI 0))) M) (f : Nat) :
    S0 RO RG Fk T ba M0 f ∧ S1 RO RG Fk T ba M0 f ∧ S2 RO RG Fk T ba M0 f ∧ S3 RO RG Fk T ba M0 f ∧ S4 RO RG Fk T ba M0 f := by
  induction f with
  | zero =>
    refine ⟨?_, ?_, ?_, ?_, ?_⟩
    · intro a op C W M _ _ he _; exact absurd rfl (he (0, 0) rfl).1
    · intro a op C W M _ _ _ _ he _; exact absurd rfl (he (0, 0) rfl).1
    · intro a op C W r M _ _ _ _ _ _ he _; exact absurd rfl (he (0, 0) rfl).1
    · intro a op C W M _ _ _ he _; exact absurd rfl (he (0, 0) rfl).1
    · intro a op C W r M _ _ _ _ _ _ he _; exact absurd rfl (he (0, 0) rfl).1
  | succ f ih =>
    obtain ⟨i0, i1, i2, i3, i4⟩ := ih
    refine ⟨?_, ?_, ?_, ?_, ?_⟩
    rotate_left
    · -- a product
      intro a op C W M f0 h h3 h4 he q
      have e : pE T (f + 1) 1 a op = bnd (pE T f 0 a op) (fun c a1 => bnd (pE T f 2 a1 op) (fun c2 a2 => .inr (c ++ c2, a2))) := rfl
      rw [e] at he q
      refine i0 a op C W M f0 h (fun e he' => he e (bnd_l he')) (fun c a1 hc M1 f1 x1 => ?_)
      rw [bnd_r hc] at he q
      refine i2 a1 op (C ++ c) W [] M1 f1 (by rw [List.reverse_nil, List.append_nil]; exact x1) h.2.2.2.2.2.1 h3 h4 (fun u hu => absurd hu List.not_mem_nil) (fun e he' => he e (bnd_l he')) (fun c2 a2 hc2 C1 r1 M2 e2 g2 n2 f2 x2 => ?_)
      rw [bnd_r hc2] at q
      exact q _ _ rfl C1 r1 M2 (by rw [e2, List.append_nil, List.append_assoc]) g2 n2 f2 x2
    · -- the rest of a product
      intro a op C W r M f0 h hb h3 h4 hr he q
      have e : pE T (f + 1) 2 a op = (if chB T (sk T a) 42 = true then bnd (pE T f 0 (sk T a + 1) op) (fun c a1 => bnd (pE T f 2 a1 op) (fun c2 a2 => .inr (c ++ 3 :: c2, a2))) else if chB T (sk T a) 47 = true then bnd (pE T f 0 (sk T a + 1) op) (fun c a1 => bnd (pE T f 2 a1 op) (fun c2 a2 => .inr (c ++ 4 :: c2, a2))) else .inr ([], a)) := rfl
      rw [e] at he q
      have go : ∀ v, v = 3 ∨ v = 4 → ((chB T (sk T a) 42 = true ∧ v = 3) ∨ (chB T (sk T a) 47 = true ∧ v = 4)) → (∀ e, bnd (pE T f 0 (sk T a + 1) op) (fun c a1 => bnd (pE T f 2 a1 op) (fun c2 a2 => .inr (c ++ v :: c2, a2))) = .inl e → EO Fk M0 e) →
          (∀ c a1, bnd (pE T f 0 (sk T a + 1) op) (fun c a1 => bnd (pE T f 2 a1 op) (fun c2 a2 => .inr (c ++ v :: c2, a2))) = .inr (c, a1) → ∀ C1 r1 M', C1 ++ r1 = C ++ r ++ c → (∀ u, u ∈ r1 → u = 3 ∨ u = 4) → noM T a1 → frE M0 M' → MX T a1 C1 (W ++ r1.reverse) op ba M' → GD RG M') → GD RG M := by
        intro v hv hc he q
        refine g_mul h hb h3 h4 hr hc (fun M1 f1 x1 => hG M1 x1.1.2.1 ?_)
        refine i0 _ op (C ++ r) (W ++ [v]) M1 (frE_trans f0 f1) x1 (fun e he' => he e (bnd_l he')) (fun c a1 hc1 M2 f2 x2 => ?_)
        rw [bnd_r hc1] at he q
        refine i2 a1 op (C ++ r ++ c) W [v] M2 f2 x2 hb h3 h4 (fun u hu => by rw [List.mem_singleton.mp hu]; exact hv) (fun e he' => he e (bnd_l he')) (fun c2 a2 hc2 C1 r1 M3 e3 g3 n3 f3 x3 => ?_)
        rw [bnd_r hc2] at q
        exact q _ _ rfl C1 r1 M3 (by rw [e3]; simp only [List.append_assoc, List.singleton_append]) g3 n3 f3 x3
      by_cases c1 : chB T (sk T a) 42 = true
      · rw [if_pos c1] at he q
        exact go 3 (Or.inl rfl) (Or.inl ⟨c1, rfl⟩) he q
      · rw [if_neg c1] at he q
        by_cases c2 : chB T (sk T a) 47 = true
        · rw [if_pos c2] at he q
          exact go 4 (Or.inr rfl) (Or.inr ⟨c2, rfl⟩) he q
        · rw [if_neg c2] at q
          exact q [] a rfl C r M (by rw [List.append_nil]) hr ⟨by simpa using c1, by simpa using c2⟩ f0 h
    · -- a sum
      intro a op C W M f0 h h0 he q
      have e : pE T (f + 1) 3 a op = bnd (pE T f 1 a op) (fun c a1 => bnd (pE T f 4 a1 op) (fun c2 a2 => .inr (c ++ c2, a2))) := rfl
      rw [e] at he q
      refine i1 a op C W M f0 h (h0 3 (by omega) (by omega)) (h0 4 (by omega) (by omega)) (fun e he' => he e (bnd_l he')) (fun c a1 hc C1 r1 M1 e1 g1 n1 f1 x1 => ?_)
      rw [bnd_r hc] at he q
      refine i4 a1 op C1 W r1 M1 f1 x1 h.2.2.2.2.2.1 h0 (fun u hu => by have := g1 u hu; omega) n1 (fun e he' => he e (bnd_l he')) (fun c2 a2 hc2 C2 r2 M2 e2 g2 n2 f2 x2 => ?_)
      rw [bnd_r hc2] at q
      exact q _ _ rfl C2 r2 M2 (by rw [e2, e1, List.append_assoc]) g2 n2 f2 x2
    · -- the rest of a sum
      intro a op C W r M f0 h hb h0 hr hn he q
      have e : pE T (f + 1) 4 a op = (if chB T (sk T a) 43 = true then bnd (pE T f 1 (sk T a + 1) op) (fun c a1 => bnd (pE T f 4 a1 op) (fun c2 a2 => .inr (c ++ 1 :: c2, a2))) else if chB T (sk T a) 45 = true then bnd (pE T f 1 (sk T a + 1) op) (fun c a1 => bnd (pE T f 4 a1 op) (fun c2 a2 => .inr (c ++ 2 :: c2, a2))) else .inr ([], a)) := rfl
      rw [e] at he q
      have go : ∀ v, v = 1 ∨ v = 2 → ((chB T (sk T a) 43 = true ∧ v = 1) ∨ (chB T (sk T a) 45 = true ∧ v = 2)) → (∀ e, bnd (pE T f 1 (sk T a + 1) op) (fun c a1 => bnd (pE T f 4 a1 op) (fun c2 a2 => .inr (c ++ v :: c2, a2))) = .inl e → EO Fk M0 e) →
          (∀ c a1, bnd (pE T f 1 (sk T a + 1) op) (fun c a1 => bnd (pE T f 4 a1 op) (fun c2 a2 => .inr (c ++ v :: c2, a2))) = .inr (c, a1) → ∀ C1 r1 M', C1 ++ r1 = C ++ r ++ c → (∀ u, u ∈ r1 → 1 ≤ u ∧ u ≤ 4) → noS T a1 → frE M0 M' → MX T a1 C1 (W ++ r1.reverse) op ba M' → GD RG M') → GD RG M := by
        intro v hv hc he q
        refine g_add h hb h0 hr hc (fun M1 f1 x1 => hG M1 x1.1.2.1 ?_)
        refine i1 _ op (C ++ r) (W ++ [v]) M1 (frE_trans f0 f1) x1 (on_push (by omega)) (on_push (by omega)) (fun e he' => he e (bnd_l he')) (fun c a1 hc1 C1 r1 M2 e2 g2 n2 f2 x2 => ?_)
        rw [bnd_r hc1] at he q
        have er : W ++ [v] ++ r1.reverse = W ++ (r1 ++ [v]).reverse := by rw [List.reverse_append, List.append_assoc]; rfl
        rw [er] at x2
        refine i4 a1 op C1 W (r1 ++ [v]) M2 f2 x2 hb h0 (fun u hu => by
          rcases List.mem_append.mp hu with g | g
          · have := g2 u g; omega
          · rw [List.mem_singleton.mp g]; omega) n2 (fun e he' => he e (bnd_l he')) (fun c2 a2 hc2 C2 r2 M3 e3 g3 n3 f3 x3 => ?_)
        rw [bnd_r hc2] at q
        refine q _ _ rfl C2 r2 M3 ?_ g3 n3 f3 x3
        rw [e3, ← List.append_assoc, e2]; simp only [List.append_assoc, List.singleton_append]
      by_cases c1 : chB T (sk T a) 43 = true
      · rw [if_pos c1] at he q
        exact go 1 (Or.inl rfl) (Or.inl ⟨c1, rfl⟩) he q
      · rw [if_neg c1] at he q
        by_cases c2 : chB T (sk T a) 45 = true
        · rw [if_pos c2] at he q
          exact go 2 (Or.inr rfl) (Or.inr ⟨c2, rfl⟩) he q
        · rw [if_neg c2] at q
          exact q [] a rfl C r M (by rw [List.append_nil]) hr ⟨hn, by simpa using c1, by simpa using c2⟩ f0 h
    · -- a part
      intro a op C W M f0 h he q
      have e : pE T (f + 1) 0 a op = (if chB T (sk T a) 40 = true then (if op = 6 then .inl (4, sk T a) else bnd (pE T f 3 (sk T a + 1) (op + 1)) (fun c a1 => if chB T (sk T a1) 41 = true then .inr (c, sk T a1 + 1) else .inl (1, sk T a1)))
        else if (hereB T a (wT 30) || hereB T a (wT 31)) = true then
          if chB T (sk T (sk T a + 3)) 40 = true then (if op = 6 then .inl (4, sk T (sk T a + 3)) else bnd (pE T f 3 (sk T (sk T a + 3) + 1) (op + 1)) (fun c1 a1 => if chB T (sk T a1) 44 = true then bnd (pE T f 3 (sk T a1 + 1) (op + 1)) (fun c2 a2 => if chB T (sk T a2) 41 = true then .inr (c1 ++ c2 ++ [if hereB T a (wT 30) = true then 5 else 6], sk T a2 + 1) else .inl (1, sk T a2)) else .inl (1, sk T a1)))
          else .inl (1, sk T (sk T a + 3))
        else atP T a) := rfl
      rw [e] at he q
      have op6 := h.2.2.2.2.2.2
      have hb := h.2.2.2.2.2.1
      by_cases c1 : chB T (sk T a) 40 = true
      · rw [if_pos c1] at he q
        intro o2 o3 o4
        refine p_open h c1 (fun o6 M1 f1 b1 d1 => ?_) (fun o6 M1 f1 x1 => ?_)
        · rw [if_pos o6] at he
          exact eO M1 (MBad_ne b1) ((he _ rfl).2 M1 (frE_trans f0 f1) b1 d1)
        · rw [if_neg (by omega)] at he q
          refine i3 _ _ C (W ++ [20]) M1 (frE_trans f0 f1) x1 (fun u h1 h2 => on_push (by omega)) (fun e he' => he e (bnd_l he')) (fun c a1 hc C1 r1 M2 e2 g2 n2 f2 x2 => ?_) _ _ _
          rw [bnd_r hc] at he q
          by_cases c2 : chB T (sk T a1) 41 = true
          · rw [if_pos c2] at q
            refine g_shut x2 hb (Or.inl rfl) g2 c2 (fun M3 f3 x3 => q _ _ rfl M3 (frE_trans f2 f3) ?_)
            rw [if_pos rfl, List.append_nil, e2] at x3
            exact x3
          · rw [if_neg c2] at he
            refine g_unshut (k := 20) x2 (Or.inl rfl) ?_ (noS_c n2) (by simpa using c2) (fun M3 f3 b3 => eG M3 (MBad_ne b3) ((he _ rfl).2 M3 (frE_trans f2 (frE_T f3)) b3 (cd_T x2 f3)))
            rw [mkW_app (by rw [List.length_append]; omega) (fun u hu => by have := g2 u (List.mem_reverse.mp hu); omega), mkW_mark hb (by decide)]
      · rw [if_neg c1] at he q
        have c1' : chB T (sk T a) 40 = false := by simpa using c1
        by_cases c2 : (hereB T a (wT 30) || hereB T a (wT 31)) = true
        · rw [if_pos c2] at he q
          rw [Bool.or_eq_true] at c2
          intro o2 o3 o4
          refine p_mm h c1' c2 (fun c3 M1 f1 b1 d1 => ?_) (fun c3 o6 M1 f1 b1 d1 => ?_) (fun c3 o6 M1 f1 x1 => ?_)
          · rw [if_neg (by rw [c3]; decide)] at he
            exact eO M1 (MBad_ne b1) ((he _ rfl).2 M1 (frE_trans f0 f1) b1 d1)
          · rw [if_pos c3, if_pos o6] at he
            exact eO M1 (MBad_ne b1) ((he _ rfl).2 M1 (frE_trans f0 f1) b1 d1)
          · rw [if_pos c3, if_neg (by omega)] at he q
            have kk : (if hereB T a (wT 30) = true then 21 else 22) = 21 ∨ (if hereB T a (wT 30) = true then 21 else 22) = 22 := by split <;> simp
            have k5 : (if (if hereB T a (wT 30) = true then 21 else 22) + 2 = 20 then ([] : List Nat) else if (if hereB T a (wT 30) = true then 21 else 22) + 2 = 23 then [5] else [6]) = [if hereB T a (wT 30) = true then 5 else 6] := by split <;> simp
            generalize (if hereB T a (wT 30) = true then 21 else 22) = k at *
            generalize (if hereB T a (wT 30) = true then 5 else 6) = w at *
            intro o2' o3' o4'
            refine i3 _ _ C (W ++ [k]) M1 (frE_trans f0 f1) x1 (fun u h1 h2 => on_push (by omega)) (fun e he' => he e (bnd_l he')) (fun c a1 hc C1 r1 M2 e2 g2 n2 f2 x2 => ?_) _ _ _
            rw [bnd_r hc] at he q
            refine g_comma x2 hb kk g2 (noS_c n2) (fun c4 M3 f3 b3 => ?_) (fun c4 M3 f3 x3 => hG M3 x3.1.2.1 ?_)
            · rw [if_neg (by rw [c4]; decide)] at he
              exact eG M3 (MBad_ne b3) ((he _ rfl).2 M3 (frE_trans f2 (frE_T f3)) b3 (cd_T x2 f3))
            · rw [if_pos c4] at he q
              rw [e2] at x3
              refine i3 _ _ (C ++ c) (W ++ [k + 2]) M3 (frE_trans f2 f3) x3 (fun u h1 h2 => on_push (by omega)) (fun e he' => he e (bnd_l he')) (fun c5 a5 hc5 C5 r5 M5 e5 g5 n5 f5 x5 => ?_)
              rw [bnd_r hc5] at he q
              by_cases c6 : chB T (sk T a5) 41 = true
              · rw [if_pos c6] at q
                refine g_shut x5 hb (by omega) g5 c6 (fun M6 f6 x6 => q _ _ rfl M6 (frE_trans f5 f6) ?_)
                rw [k5, e5] at x6
                simp only [List.append_assoc] at x6 ⊢
                exact x6
              · rw [if_neg c6] at he
                refine g_unshut (k := k + 2) x5 (by omega) ?_ (noS_c n5) (by simpa using c6) (fun M6 f6 b6 => eG M6 (MBad_ne b6) ((he _ rfl).2 M6 (frE_trans f5 (frE_T f6)) b6 (cd_T x5 f6)))
                have mk : isMk (k + 2) = true := by rcases kk with g | g <;> subst g <;> decide
                rw [mkW_app (by rw [List.length_append]; omega) (fun u hu => by have := g5 u (List.mem_reverse.mp hu); omega), mkW_mark hb mk]
        · rw [if_neg c2] at he q
          have c2' : (hereB T a (wT 30) || hereB T a (wT 31)) = false := by simpa using c2
          rw [Bool.or_eq_false_iff] at c2'
          intro o2 o3 o4
          exact p_at h c1' c2'.1 c2'.2 (fun kd pl hc M1 f1 b1 d1 => eO M1 (MBad_ne b1) ((he _ hc).2 M1 (frE_trans f0 f1) b1 d1)) (fun v e hc M1 f1 x1 => hO M1 x1.1.2.1 (q [v] e hc M1 (frE_trans f0 f1) x1))
end
