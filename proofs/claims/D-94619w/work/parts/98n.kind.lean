/-! a kind that is told, BorderStonesModel -/
section
variable {Q : Option Value → mw → Prop} {T : List Nat} {a : Nat} {M : mw}
def mk3 (h s c : Bool) : Nat := (if h = true then 1 else 0) + (if s = true then 2 else 0) + (if c = true then 4 else 0)
def mkP (T : List Nat) : Nat → Bool → Bool → Bool → Nat → Nat × Nat
  | 0, h, s, c, a => (mk3 h s c, sk T a)
  | f + 1, h, s, c, a =>
    if hereB T a (wT 13) = true then (if h = true then (mk3 h s c, sk T a) else mkP T f true s c (sk T a + 4))
    else if hereB T a (wT 14) = true then (if s = true then (mk3 h s c, sk T a) else mkP T f h true c (sk T a + 4))
    else if hereB T a (wT 15) = true then (if c = true then (mk3 h s c, sk T a) else mkP T f h s true (sk T a + 5))
    else (mk3 h s c, sk T a)
theorem mk3_a (h s c : Bool) : (nI (mk3 h s c) &&& 1 = (0 : Int32) ↔ h = false) ∧ (nI (mk3 h s c) &&& 2 = (0 : Int32) ↔ s = false) ∧ (nI (mk3 h s c) &&& 4 = (0 : Int32) ↔ c = false) := by
  cases h <;> cases s <;> cases c <;> decide
theorem mk3_o (h s c : Bool) : nI (mk3 h s c) ||| 1 = nI (mk3 true s c) ∧ nI (mk3 h s c) ||| 2 = nI (mk3 h true c) ∧ nI (mk3 h s c) ||| 4 = nI (mk3 h s true) := by
  cases h <;> cases s <;> cases c <;> decide
theorem mk3_lt (h s c : Bool) : mk3 h s c < 8 := by cases h <;> cases s <;> cases c <;> decide
def cf3 (h s c : Bool) : Nat := (if h = true then 0 else 1) + (if s = true then 0 else 1) + (if c = true then 0 else 1)
abbrev KT (Q : Option Value → mw → Prop) (pc : Nat) (v : Int64) (far x5 : Int32) (o6 o7 : Option Value) (s : List Value) (M : mw) : Prop := ∀ (o1 o3 : Option Value), T_kindTold Q pc [some (.ref 0), o1, some (.long v), o3, some (.int far), some (.int x5), o6, o7] s M
def mkX (T : List Nat) (a : Nat) (x : Int32) : Prop := (hereB T a (wT 13) = true ∧ x = 1) ∨ (hereB T a (wT 13) = false ∧ hereB T a (wT 14) = true ∧ x = 2) ∨ (hereB T a (wT 13) = false ∧ hereB T a (wT 14) = false ∧ hereB T a (wT 15) = true ∧ x = 4) ∨ (hereB T a (wT 13) = false ∧ hereB T a (wT 14) = false ∧ hereB T a (wT 15) = false ∧ x = 0)
theorem kd_mark {v : Int64} {far x5 : Int32} {M0 : mw} (hM : MP T a M) (hW : MWd M) (f0 : frT M0 M) (q : ∀ x M1, frT M0 M1 → MP T (sk T a) M1 → MWd M1 → mkX T a x → KT Q 122 v far x5 none none [.int x] M1) (o7 : Option Value) : KT Q 64 v far x5 (some (.int 1)) o7 [] M := fun o1 o3 => by
  have hs := here_sk hM.2.2.2.1
  have hss := sk_sk hM.2.2.2.1
  refine r_kindTold_64 ⟨fun z => absurd hM.2.1 z, fun _ => ⟨fun z => absurd z (by decide), fun _ => s_isHere hM hW (k := 13) (by omega) (by omega) (fun M1 f1 m1 => r_kindTold_84 ⟨fun c1 => ?_, fun c1 => q 1 M1 (frT_trans f0 f1) m1 (MWd_f f1 hW) (Or.inl ⟨bI_n0 c1, rfl⟩) _ _⟩)⟩⟩
  have hW1 := MWd_f f1 hW
  refine s_isHere m1 hW1 (k := 14) (by omega) (by omega) (fun M2 f2 m2 => ?_)
  rw [hss] at m2
  rw [hs]
  refine r_kindTold_99 ⟨fun c2 => ?_, fun c2 => q 2 M2 (frT_trans f0 (frT_trans f1 f2)) m2 (MWd_f f2 hW1) (Or.inr (Or.inl ⟨bI_e0 c1, bI_n0 c2, rfl⟩)) _ _⟩
  have hW2 := MWd_f f2 hW1
  refine s_isHere m2 hW2 (k := 15) (by omega) (by omega) (fun M3 f3 m3 => ?_)
  rw [hss] at m3
  rw [hs]
  have f3 := frT_trans f0 (frT_trans f1 (frT_trans f2 f3))
  exact r_kindTold_114 ⟨fun c3 => q 0 M3 f3 m3 (by intro k h1 h2 i hi; exact MWd_f (frT_refl M3) (MWd_f (by assumption) hW2) k h1 h2 i hi) (Or.inr (Or.inr (Or.inr ⟨bI_e0 c1, bI_e0 c2, bI_e0 c3, rfl⟩))) _ _, fun c3 => q 4 M3 f3 m3 (by intro k h1 h2 i hi; exact MWd_f (by assumption) hW2 k h1 h2 i hi) (Or.inr (Or.inr (Or.inl ⟨bI_e0 c1, bI_e0 c2, bI_n0 c3, rfl⟩))) _ _⟩
theorem kd_stop {v : Int64} {far x5 x : Int32} {b : Nat} (m : MP T b M) (hx : x = 0 ∨ ¬ (x5 &&& x = (0 : Int32))) (q : ∀ (o6 o7 : Option Value), KT Q 204 v far x5 o6 o7 [] M) (o6 o7 : Option Value) : KT Q 122 v far x5 o6 o7 [.int x] M := fun o1 o3 => by
  have fin : ∀ (y : Int32), KT Q 141 v far x5 none (some (.int y)) [] M := fun y o1 o3 =>
    r_kindTold_141 (r_kindTold_142 ⟨fun _ => r_kindTold_189 ⟨fun _ => r_kindTold_201 (r_kindTold_64 ⟨fun z => absurd m.2.1 z, fun _ => ⟨fun _ => q _ _ _ _, fun z => absurd rfl z⟩⟩), fun z => absurd rfl z⟩, fun z => absurd rfl z⟩)
  exact r_kindTold_122 ⟨fun _ => fin x _ _, fun z => ⟨fun _ => fin x _ _, fun y => absurd (Decidable.not_not.mp y) (hx.resolve_left z)⟩⟩
def mkN (x : Int32) : Nat := if x = 4 then 5 else 4
theorem kd_go {v : Int64} {far x5 x : Int32} (h : mkX T a x) (ha : a ≤ T.length) (m : MP T (sk T a) M) (hW : MWd M) (hx : ¬ x = 0) (hx5 : x5 &&& x = (0 : Int32)) (q : ∀ M', frT M M' → MP T (sk T a + mkN x) M' → ∀ (o7 : Option Value), KT Q 64 v far (x5 ||| x) (some (.int 1)) o7 [] M') (o6 o7 : Option Value) : KT Q 122 v far x5 o6 o7 [.int x] M := fun o1 o3 => by
  have hs := here_sk ha
  have hss := sk_sk ha
  have n1 : ¬ ((1 : Int32) = 0) := by decide
  have fin : ∀ M', frT M M' → MP T (sk T a + mkN x) M' → ∀ (o6 : Option Value), KT Q 182 v far x5 o6 (some (.int x)) [] M' := fun M' f' m' o6 o1 o3 =>
    r_kindTold_182 (r_kindTold_187 (r_kindTold_189 ⟨fun z => absurd z n1, fun _ => r_kindTold_201 (q M' f' m' _ _ _)⟩))
  refine r_kindTold_122 ⟨fun z => absurd z hx, fun _ => ⟨fun z => absurd hx5 z, fun _ => r_kindTold_142 ⟨fun z => absurd z n1, fun _ => s_takes (k := 13) m hW (by omega) (by omega) (fun c1 M1 f1 m1 => r_kindTold_157 ⟨fun z => absurd rfl z, fun _ => ?_⟩) (fun c1 M1 f1 m1 => r_kindTold_157 ⟨fun _ => ?_, fun z => absurd n1 z⟩)⟩⟩⟩
  · rw [hs] at c1
    rw [hss] at m1
    have hW1 := MWd_f f1 hW
    refine s_takes (k := 14) m1 hW1 (by omega) (by omega) (fun c2 M2 f2 m2 => r_kindTold_168 ⟨fun z => absurd rfl z, fun _ => ?_⟩) (fun c2 M2 f2 m2 => r_kindTold_168 ⟨fun _ => ?_, fun z => absurd n1 z⟩)
    · rw [hs] at c2
      rw [hss] at m2
      refine s_takes (k := 15) m2 (MWd_f f2 hW1) (by omega) (by omega) (fun c3 M3 f3 m3 => ?_) (fun c3 M3 f3 m3 => r_kindTold_179 ⟨fun z => absurd z n1, fun _ => ?_⟩)
      · rw [hs] at c3
        rcases h with g | g | g | g
        · rw [c1] at g; cases g.1
        · rw [c2] at g; cases g.2.1
        · rw [c3] at g; cases g.2.2.1
        · exact absurd g.2.2.2 hx
      · rw [hss, show (wT 15).length = 5 from rfl] at m3
        rw [hs] at c3
        have e : x = 4 := by
          rcases h with g | g | g | g
          · rw [c1] at g; cases g.1
          · rw [c2] at g; cases g.2.1
          · exact g.2.2.2
          · exact absurd g.2.2.2 hx
        refine fin M3 (frT_trans f1 (frT_trans f2 f3)) ?_ _ _ _
        rw [e]; exact m3
    · rw [hss, show (wT 14).length = 4 from rfl] at m2
      rw [hs] at c2
      have e : x = 2 := by
        rcases h with g | g | g | g
        · rw [c1] at g; cases g.1
        · exact g.2.2
        · rw [c2] at g; cases g.2.1
        · exact absurd g.2.2.2 hx
      refine fin M2 (frT_trans f1 f2) ?_ _ _ _
      rw [e]; exact m2
  · rw [hss, show (wT 13).length = 4 from rfl] at m1
    rw [hs] at c1
    have e : x = 1 := by
      rcases h with g | g | g | g
      · exact g.2
      · rw [c1] at g; cases g.1
      · rw [c1] at g; cases g.1
      · exact absurd g.2.2.2 hx
    refine fin M1 f1 ?_ _ _ _
    rw [e]; exact m1
theorem k_64 {v : Int64} {far : Int32} {M0 : mw} (f : Nat) : ∀ (h s c : Bool) (a : Nat) (M : mw), cf3 h s c = f → MP T a M → MWd M → frT M0 M → (∀ m a1, mkP T f h s c a = (m, a1) → m < 8 → ∀ M', frT M0 M' → MP T a1 M' → ∀ (o6 o7 : Option Value), KT Q 204 v far (nI m) o6 o7 [] M') →
    ∀ (o7 : Option Value), KT Q 64 v far (nI (mk3 h s c)) (some (.int 1)) o7 [] M := by
  induction f with
  | zero =>
    intro h s c a M hf hM hW f0 q o7
    have hh : h = true ∧ s = true ∧ c = true := by
      revert hf; unfold cf3; cases h <;> cases s <;> cases c <;> simp
    obtain ⟨e1, e2, e3⟩ := hh
    have ma := mk3_a h s c
    refine kd_mark hM hW f0 (fun x M1 f1 m1 _ hx => kd_stop m1 ?_ (q _ _ rfl (mk3_lt h s c) M1 f1 m1) _ _) o7
    rcases hx with g | g | g | g
    · exact Or.inr (fun z => by rw [g.2, ma.1, e1] at z; cases z)
    · exact Or.inr (fun z => by rw [g.2.2, ma.2.1, e2] at z; cases z)
    · exact Or.inr (fun z => by rw [g.2.2.2, ma.2.2, e3] at z; cases z)
    · exact Or.inl g.2.2.2
  | succ f ih =>
    intro h s c a M hf hM hW f0 q o7
    have ma := mk3_a h s c
    have mo := mk3_o h s c
    have ep : mkP T (f + 1) h s c a = if hereB T a (wT 13) = true then (if h = true then (mk3 h s c, sk T a) else mkP T f true s c (sk T a + 4)) else if hereB T a (wT 14) = true then (if s = true then (mk3 h s c, sk T a) else mkP T f h true c (sk T a + 4)) else if hereB T a (wT 15) = true then (if c = true then (mk3 h s c, sk T a) else mkP T f h s true (sk T a + 5)) else (mk3 h s c, sk T a) := rfl
    rw [ep] at q
    refine kd_mark hM hW f0 (fun x M1 f1 m1 hW1 hx => ?_) o7
    have ff : ¬ false = true := by decide
    rcases id hx with g | g | g | g
    · rw [if_pos g.1] at q
      by_cases e : h = true
      · rw [if_pos e] at q
        exact kd_stop m1 (Or.inr (fun z => by rw [g.2, ma.1, e] at z; cases z)) (q _ _ rfl (mk3_lt h s c) M1 f1 m1) _ _
      · rw [if_neg e] at q
        refine kd_go hx hM.2.2.2.1 m1 hW1 (by rw [g.2]; decide) (by rw [g.2, ma.1]; simpa using e) (fun M2 f2 m2 o7 => ?_) _ _
        rw [g.2, mo.1]
        rw [g.2] at m2
        refine ih true s c _ M2 ?_ m2 (MWd_f f2 hW1) (frT_trans f1 f2) q o7
        rw [show h = false by simpa using e] at hf
        unfold cf3 at hf ⊢
        rw [if_neg ff] at hf; rw [if_pos rfl]; omega
    · rw [if_neg (by rw [g.1]; exact ff), if_pos g.2.1] at q
      by_cases e : s = true
      · rw [if_pos e] at q
        exact kd_stop m1 (Or.inr (fun z => by rw [g.2.2, ma.2.1, e] at z; cases z)) (q _ _ rfl (mk3_lt h s c) M1 f1 m1) _ _
      · rw [if_neg e] at q
        refine kd_go hx hM.2.2.2.1 m1 hW1 (by rw [g.2.2]; decide) (by rw [g.2.2, ma.2.1]; simpa using e) (fun M2 f2 m2 o7 => ?_) _ _
        rw [g.2.2, mo.2.1]
        rw [g.2.2] at m2
        refine ih h true c _ M2 ?_ m2 (MWd_f f2 hW1) (frT_trans f1 f2) q o7
        rw [show s = false by simpa using e] at hf
        unfold cf3 at hf ⊢
        rw [if_neg ff] at hf; rw [if_pos (show true = true from rfl)]; omega
    · rw [if_neg (by rw [g.1]; exact ff), if_neg (by rw [g.2.1]; exact ff), if_pos g.2.2.1] at q
      by_cases e : c = true
      · rw [if_pos e] at q
        exact kd_stop m1 (Or.inr (fun z => by rw [g.2.2.2, ma.2.2, e] at z; cases z)) (q _ _ rfl (mk3_lt h s c) M1 f1 m1) _ _
      · rw [if_neg e] at q
        refine kd_go hx hM.2.2.2.1 m1 hW1 (by rw [g.2.2.2]; decide) (by rw [g.2.2.2, ma.2.2]; simpa using e) (fun M2 f2 m2 o7 => ?_) _ _
        rw [g.2.2.2, mo.2.2]
        rw [g.2.2.2] at m2
        refine ih h s true _ M2 ?_ m2 (MWd_f f2 hW1) (frT_trans f1 f2) q o7
        rw [show c = false by simpa using e] at hf
        unfold cf3 at hf ⊢
        rw [if_neg ff] at hf; rw [if_pos (show true = true from rfl)]; omega
    · rw [if_neg (by rw [g.1]; exact ff), if_neg (by rw [g.2.1]; exact ff), if_neg (by rw [g.2.2.1]; exact ff)] at q
      exact kd_stop m1 (Or.inl g.2.2.2) (q _ _ rfl (mk3_lt h s c) M1 f1 m1) _ _
/-- a kind that is told: letters, reach, marks; where the reader stands behind it -/
def kiP (T : List Nat) (K : List (List Nat × Nat × Nat)) (a : Nat) : Sum (Nat × Nat) ((List Nat × Nat × Nat) × Nat) := match nmP T a with
  | .inl e => .inl e
  | .inr e =>
    if kdL K (wdL T (sk T a) (e - sk T a)) ≠ none then .inl (3, sk T a)
    else if hereB T e (wT 12) = true then match numP T (sk T e + 5) 1 6 with
      | .inl e => .inl e
      | .inr (r, a1) => .inr ((wdL T (sk T a) (e - sk T a), r, (mkP T 3 false false false a1).1), (mkP T 3 false false false a1).2)
    else .inl (1, sk T e)
theorem nm_ok {e : Nat} (ha : a ≤ T.length) (h : nmP T a = .inr e) : sk T a < e ∧ e ≤ sk T a + 6 ∧ e ≤ T.length ∧ ∀ j, j < e - sk T a → isLe (T.getD (sk T a + j) 0) = true := by
  unfold nmP at h
  split at h
  rotate_left
  · cases h
  · rename_i c
    split at h
    · cases h
    · rename_i c2
      cases h
      have s1 := spL_is T isLe (sk T a) (sk_is T ha).2
      have e1 : spL T isLe (sk T a) = wl T (sk T a) := rfl
      rw [e1] at s1
      rw [Bool.and_eq_true] at c
      have c1 := c.1
      unfold isWd at c1
      rw [Bool.and_eq_true, Bool.and_eq_true, decide_eq_true_eq] at c1
      have e2 : wl T (sk T a) = wl T (sk T a + 1) := spL_go c1.1.1 c1.1.2
      have e3 := (spL_is T isLe (sk T a + 1) (by omega)).1
      have e4 : spL T isLe (sk T a + 1) = wl T (sk T a + 1) := rfl
      exact ⟨by omega, by omega, s1.2.1, fun j hj => s1.2.2.1 _ (by omega) (by omega)⟩
theorem k_49B {v : Int64} {kd pl : Nat} (b : MBad kd pl M) (q : Q none M) {o1 o3 o4 o5 o6 o7 : Option Value} : T_kindTold Q 49 [some (.ref 0), o1, some (.long v), o3, o4, o5, o6, o7] [] M :=
  r_kindTold_49 (s_numberB b _ _ (r_kindTold_56 (r_kindTold_64 ⟨fun _ => r_kindTold_204 ⟨fun z => absurd z (MBad_ne b), fun _ => ⟨rfl, q⟩⟩, fun z => absurd (MBad_ne b) z⟩)))
theorem k_41B {v : Int64} {kd pl : Nat} (b : MBad kd pl M) (q : Q none M) {o1 o3 o4 o5 o6 o7 : Option Value} : T_kindTold Q 41 [some (.ref 0), o1, some (.long v), o3, o4, o5, o6, o7] [] M :=
  r_kindTold_41 (s_asksB b (k_49B b q))
theorem MTB_kind {wd hg : Nat} {t : TB} {w : List Nat} {r m : Nat} (h : MTB wd hg t M) (hk : (tK t).length < 5) : MTB wd hg (tK t ++ [(w, r, m)], tS t, tL t, tN t, tR t) (mM_up (mM_up (mM_up (mM_upl M 38 (tK t).length (Int64.ofNat (nmL w))) 39 (tK t).length (nI r)) 40 (tK t).length (nI m)) 37 0 (nI ((tK t).length + 1))) := by
  obtain ⟨⟨a1, a2⟩, ⟨a3, a4⟩, ⟨a5, a6⟩, a7, ⟨a8, a9⟩, b1, b2⟩ := h
  have up : ∀ j i, j ≠ 37 → j ≠ 39 → j ≠ 40 → (mM_up (mM_up (mM_up (mM_upl M 38 (tK t).length (Int64.ofNat (nmL w))) 39 (tK t).length (nI r)) 40 (tK t).length (nI m)) 37 0 (nI ((tK t).length + 1))).1 j i = M.1 j i := fun j i h1 h2 h3 => by
    rw [m_up, if_neg (by omega), m_up, if_neg (by omega), m_up, if_neg (by omega), m_upl2]
  have u37 : ∀ i, i ≠ 0 → (mM_up (mM_up (mM_up (mM_upl M 38 (tK t).length (Int64.ofNat (nmL w))) 39 (tK t).length (nI r)) 40 (tK t).length (nI m)) 37 0 (nI ((tK t).length + 1))).1 37 i = M.1 37 i := fun i h1 => by
    rw [m_up, if_neg (by omega), m_up, if_neg (by omega), m_up, if_neg (by omega), m_upl2]
  refine ⟨⟨by rw [up _ _ (by omega) (by omega) (by omega)]; exact a1, by rw [up _ _ (by omega) (by omega) (by omega)]; exact a2⟩, ⟨by rw [m_up, if_pos ⟨rfl, rfl⟩]; show _ = nI (tK t ++ [(w, r, m)]).length; rw [List.length_append]; rfl, fun k hkk => ?_⟩, ⟨by rw [u37 1 (by omega)]; exact a5, fun p hp => by rw [up _ _ (by omega) (by omega) (by omega)]; exact a6 p hp⟩, fun p hp => by rw [up _ _ (by omega) (by omega) (by omega)]; exact a7 p hp, ⟨by rw [u37 2 (by omega)]; exact a8, fun k hkk => by rw [up _ _ (by omega) (by omega) (by omega), up _ _ (by omega) (by omega) (by omega), up _ _ (by omega) (by omega) (by omega)]; exact a9 k hkk⟩, by rw [up _ _ (by omega) (by omega) (by omega)]; exact b1, fun k hkk => by rw [up _ _ (by omega) (by omega) (by omega)]; exact b2 k hkk⟩
  have hkk : k < (tK t ++ [(w, r, m)]).length := hkk
  rw [List.length_append, show [(w, r, m)].length = 1 from rfl] at hkk
  show _ = Int64.ofNat (nmL ((tK t ++ [(w, r, m)]).getD k ([], 0, 0)).1) ∧ _ = nI ((tK t ++ [(w, r, m)]).getD k ([], 0, 0)).2.1 ∧ _ = nI ((tK t ++ [(w, r, m)]).getD k ([], 0, 0)).2.2
  by_cases e : k = (tK t).length
  · subst e
    have eg : (tK t ++ [(w, r, m)]).getD (tK t).length ([], 0, 0) = (w, r, m) := by simp
    rw [eg]
    refine ⟨?_, ?_, ?_⟩
    · rw [m_up2, m_up2, m_up2, m_upl, if_pos ⟨rfl, by omega⟩]
    · rw [m_up, if_neg (by omega), m_up, if_neg (by omega), m_up, if_pos ⟨rfl, by omega⟩]
    · rw [m_up, if_neg (by omega), m_up, if_pos ⟨rfl, by omega⟩]
  · have eg : (tK t ++ [(w, r, m)]).getD k ([], 0, 0) = (tK t).getD k ([], 0, 0) := by
      rw [List.getD_eq_getElem?_getD, List.getD_eq_getElem?_getD, List.getElem?_append_left (by omega)]
    rw [eg]
    obtain ⟨c1, c2, c3⟩ := a4 k (by omega)
    refine ⟨?_, ?_, ?_⟩
    · rw [m_up2, m_up2, m_up2, m_upl, if_neg (by omega)]; exact c1
    · rw [m_up, if_neg (by omega), m_up, if_neg (by omega), m_up, if_neg (by omega), m_upl2]; exact c2
    · rw [m_up, if_neg (by omega), m_up, if_neg (by omega), m_up, if_neg (by omega), m_upl2]; exact c3
def kindP (T : List Nat) (t : TB) (b a : Nat) : Sum (Nat × Nat) (TB × Nat) := if (tK t).length = 5 then .inl (5, b) else match kiP T (tK t) a with
  | .inl e => .inl e
  | .inr (q, a1) => .inr ((tK t ++ [q], tS t, tL t, tN t, tR t), a1)
theorem MKd_names {wd hg : Nat} {t : TB} (h : MTB wd hg t M) : ∀ k, k < ((tK t).map (fun q => Int64.ofNat (nmL q.1))).length → M.2 38 k = ((tK t).map (fun q => Int64.ofNat (nmL q.1))).getD k 0 := fun k hk => by
  rw [List.length_map] at hk
  have := (h.2.1.2 k hk).1
  rw [Nat.zero_add] at this
  rw [this, List.getD_eq_getElem?_getD, List.getD_eq_getElem?_getD, List.getElem?_map, List.getElem?_eq_getElem hk]; rfl
theorem pl_m1 {o : Option Nat} (h : ∀ p, o = some p → p < 2147483648) : (plI o = (-1 : Int32)) ↔ o = none := by
  cases o with
  | none => exact ⟨fun _ => rfl, fun _ => rfl⟩
  | some p => exact ⟨fun z => absurd ((n_eqg (a := p) (b := 1) (h p rfl) (by omega)).mp z).2 (by omega), fun z => by cases z⟩
theorem kdL_lt {K : List (List Nat × Nat × Nat)} {w : List Nat} {k : Nat} (h : kdL K w = some k) : k < K.length := by
  unfold kdL at h
  rcases fstP_ex (f := fun k => decide ((K.getD k ([], 0, 0)).1 = w)) (n := K.length) with ⟨g, _⟩ | ⟨p, g1, g2, _⟩
  · rw [g] at h; cases h
  · rw [g1] at h; cases h; exact g2
theorem s_kindTold {wd hg : Nat} {t : TB} {b : Nat} {x : Int32} (h : MP T a M) (hW : MWd M) (hb : MTB wd hg t M) (ht : tOk t) (hx : x = nI b)
    (qe : ∀ e, kindP T t b a = .inl e → ∀ M', frB M M' → MBad e.1 e.2 M' → Q none M')
    (qo : ∀ t' a1, kindP T t b a = .inr (t', a1) → ∀ M', frB M M' → MP T a1 M' → MWd M' → MTB wd hg t' M' → Q none M') : V_kindTold [.ref 0, .int x] M Q := by
  unfold kindP at qe qo
  have hl := ht.1
  refine e_kindTold (r_kindTold_0 (s_isFull (what := 0) (room := 5) (pl := b) (n := (tK t).length) h.2.1 rfl rfl hx (by omega) (by omega) (by omega) hb.2.1.1 (fun c => r_kindTold_7 ⟨fun _ => ?_, fun z => absurd rfl z⟩) (fun c M1 f1 b1 => r_kindTold_7 ⟨fun z => absurd z (by decide), fun _ => ⟨rfl, ?_⟩⟩)))
  rotate_left
  · rw [if_pos c] at qe
    exact qe _ rfl M1 (frB_T f1) b1
  rw [if_neg c] at qe qo
  unfold kiP at qe qo
  refine s_name h hW (fun kd pl v hn M1 f1 b1 => r_kindTold_15 ⟨fun _ => k_41B b1 ?_, fun z => absurd (MBad_ne b1) z⟩) (fun e hn M1 f1 m1 n32 => r_kindTold_15 ⟨fun z => absurd m1.2.1 z, fun _ => ?_⟩)
  · simp only [hn] at qe
    exact qe _ rfl M1 (frB_T f1) b1
  simp only [hn] at qe qo
  obtain ⟨e1, e2, e3, e4⟩ := nm_ok h.2.2.2.1 hn
  have wok := wdL_ok (b := sk T a) (k := e - sk T a) (by omega) (by omega) e4
  have b1 := MTB_T f1 hb
  rw [nmV_L e4]
  have q37 := b1.2.1.1
  refine s_kindOf (N := (tK t).map (fun q => Int64.ofNat (nmL q.1))) (by rw [List.length_map]; omega) (by rw [List.length_map]; exact q37) (MKd_names b1) ?_
  rw [kd_eq (fun q hq => (ht.2.1 q hq).1) wok]
  have hlt : ∀ p, kdL (tK t) (wdL T (sk T a) (e - sk T a)) = some p → p < 2147483648 := fun p hp => by have := kdL_lt hp; omega
  refine r_kindTold_28 ⟨fun z => ?_, fun z => s_fail (kd := 3) (pl := sk T a) m1.2.1 rfl n32 (by omega) (fun M2 f2 _ b2 => k_41B b2 ?_)⟩
  rotate_left
  · rw [pl_m1 hlt] at z
    rw [if_pos z] at qe
    exact qe _ rfl M2 (frB_T (frT_trans f1 f2)) b2
  rw [pl_m1 hlt] at z
  rw [if_neg (fun y => y z)] at qe qo
  have hW1 := MWd_f f1 hW
  refine r_kindTold_41 (s_asks (k := 12) m1 hW1 (by omega) (by omega) (fun c2 M2 f2 b2 => k_49B b2 ?_) (fun c2 M2 f2 m2 => r_kindTold_49 ?_))
  · rw [if_neg (by rw [c2]; decide)] at qe
    exact qe _ rfl M2 (frB_T (frT_trans f1 f2)) b2
  rw [if_pos c2] at qe qo
  rw [show (wT 12).length = 5 from rfl] at m2
  have f2' := frT_trans f1 f2
  refine s_number (lo := 1) (hi := 6) m2 rfl rfl (by omega) (by omega) (fun kd pl u hn2 M3 f3 b3 => r_kindTold_56 (r_kindTold_64 ⟨fun _ => r_kindTold_204 ⟨fun z => absurd z (MBad_ne b3), fun _ => ⟨rfl, ?_⟩⟩, fun z => absurd (MBad_ne b3) z⟩)) (fun r a1 hn2 M3 f3 m3 _ => r_kindTold_56 ?_)
  · simp only [hn2] at qe
    exact qe _ rfl M3 (frB_T (frT_trans f2' f3)) b3
  simp only [hn2] at qo
  have f3' := frT_trans f2' f3
  refine k_64 3 false false false a1 M3 rfl m3 (MWd_f f3' hW) f3' (fun m a2 hm hm8 M4 f4 m4 o6 o7 o1 o3 => ?_) none _ _
  rw [hm] at qo
  have b4 := MTB_T f4 hb
  have e0 : Int32.toNatClampNeg 0 = 0 := by decide
  have q37 := b4.2.1.1
  have hl5 : (tK t).length < 5 := by omega
  refine r_kindTold_204 ⟨fun _ => ?_, fun z => absurd m4.2.1 z⟩
  rw [e0, q37, n_tn (by omega)]
  have iv : vp_in (nI (tK t).length) 10 := (n_in (by omega)).mpr (by omega)
  have i0 : vp_in 0 6 := (n_in (a := 0) (by omega)).mpr (by omega)
  refine ⟨i0, iv, iv, iv, i0, i0, rfl, ?_⟩
  rw [m_up, if_neg (by omega), m_up, if_neg (by omega), m_upl2, q37, show nI (tK t).length + 1 = nI ((tK t).length + 1) from n_add _ 1]
  have fu : frB M4 (mM_up (mM_up (mM_up (mM_upl M4 38 (tK t).length (Int64.ofNat (nmL (wdL T (sk T a) (e - sk T a))))) 39 (tK t).length (nI r)) 40 (tK t).length (nI m)) 37 0 (nI ((tK t).length + 1))) := frB_up (frB_up (frB_up (frB_upl (frB_refl M4) hl5) (by unfold pB; omega)) (by unfold pB; omega)) (by unfold pB; omega)
  refine qo _ _ rfl _ (frB_trans (frB_T f4) fu) ?_ ?_ (MTB_kind b4 hl5)
  · exact MP_c (M := M4) (up33 (by omega) (up33 (by omega) (up33 (by omega) (fun _ _ _ => rfl)))) m4
  · exact MWd_c (M := M4) (up33 (by omega) (up33 (by omega) (up33 (by omega) (fun _ _ _ => rfl)))) (MWd_f f4 hW)
end
