/-! rules are reckoned, BorderStonesModel -/
section
variable {Q : Option Value → mw → Prop} {M : mw}
def edW (wd hg p : Nat) : Nat := min (min (p % wd) (wd - 1 - p % wd)) (min (p / wd) (hg - 1 - p / wd))
theorem s_toEdge2 {wd hg p : Nat} (hf : fOk wd hg) (hw : M.1 35 0 = nI wd) (hh : M.1 36 0 = nI hg) (hp : p < wd * hg) (k : Q (some (.int (nI (edW wd hg p)))) M) : V_toEdge [.ref 0, .int (nI p)] M Q := by
  obtain ⟨⟨b1, b2⟩, ⟨b3, b4⟩, b5⟩ := hf
  obtain ⟨c1, c2⟩ := xy_lt hp
  have h0 : ¬ (nI wd = 0) := by simp (disch := omega) only [n_lit, n_add, n_mul, n_tn, n_in, n_lt, n_le, n_eq, n_eqg, n_geq, n_ltg, n_gle, n_div, n_rem, lc_eq, lc_le, lc_lt, lc_ge, lc_gt]; omega
  refine e_toEdge (r_toEdge_0 ⟨by rw [hw]; exact h0, by rw [hw]; exact h0, ?_⟩)
  rw [hw]
  have e1 : nI wd - 1 - bs_irem (nI p) (nI wd) = nI (wd - 1 - p % wd) := by
    simp (disch := omega) only [n_lit, n_add, n_mul, n_tn, n_in, n_lt, n_le, n_eq, n_eqg, n_geq, n_ltg, n_gle, n_div, n_rem, lc_eq, lc_le, lc_lt, lc_ge, lc_gt, n_sub]
  have e2 : nI hg - 1 - nI p / nI wd = nI (hg - 1 - p / wd) := by
    simp (disch := omega) only [n_lit, n_add, n_mul, n_tn, n_in, n_lt, n_le, n_eq, n_eqg, n_geq, n_ltg, n_gle, n_div, n_rem, lc_eq, lc_le, lc_lt, lc_ge, lc_gt, n_sub]
  rw [e1]
  rw [n_rem (by omega) (by omega)]
  refine s_least _ _ (by omega) (by omega) (r_toEdge_26 ?_)
  rw [hh, e2, n_div (by omega) (by omega)]
  refine s_least _ _ (by omega) (by generalize p / wd = y; omega) (r_toEdge_38 ?_)
  refine s_least _ _ (by omega) (by generalize p / wd = y at *; omega) (r_toEdge_41 ⟨trivial, k⟩)
def MCS (C : List Nat) (M : mw) : Prop := ∀ k, k < C.length → M.1 44 (1600 + k) = nI (C.getD k 0)
theorem stC_c {x y e c : Nat} {s s' : List Int} (h : stC x y e c s = some s') : c ≤ 10999 := by
  unfold stC at h
  split at h
  · split at h
    · assumption
    · cases h
  · omega
theorem stC_16 {x y e : Nat} {s s' : List Int} (h : stC x y e 16 s = some s') : ∃ v r, s = v :: r ∧ s' = (1 - v) :: r := by
  cases s with
  | nil => cases h
  | cons v r =>
    have h : (if b01 v = true then some ((1 - v) :: r) else none) = some s' := h
    split at h
    · cases h; exact ⟨v, r, rfl, rfl⟩
    · cases h
theorem stC_2 {x y e c : Nat} {s s' : List Int} (h1 : c < 1000) (h2 : c ≠ 17) (h3 : c ≠ 16) (h4 : ¬ (7 ≤ c ∧ c ≤ 9)) (h : stC x y e c s = some s') : ∃ b a r v, s = b :: a :: r ∧ opV c a b = some v ∧ s' = v :: r := by
  unfold stC at h
  rw [if_neg (by omega), if_neg h2, if_neg h3, if_neg (by omega), if_neg (by omega), if_neg (by omega)] at h
  split at h
  · rename_i b a r
    cases ho : opV c a b with
    | none => rw [ho] at h; cases h
    | some v => rw [ho] at h; cases h; exact ⟨b, a, r, v, rfl, ho, rfl⟩
  · cases h
theorem stC_7 {x y e c : Nat} {s : List Int} (h : 7 ≤ c ∧ c ≤ 9) : stC x y e c s = if c = 7 then some ((x : Int) :: s) else if c = 8 then some ((y : Int) :: s) else some ((e : Int) :: s) := by
  unfold stC
  rw [if_neg (by omega), if_neg (by omega), if_neg (by omega)]
  by_cases a : c = 7
  · rw [if_pos a, if_pos a]
  · rw [if_neg a, if_neg a]
    by_cases b : c = 8
    · rw [if_pos b, if_pos b]
    · rw [if_neg b, if_neg b, if_pos (by omega)]
theorem take_drop {C : List Nat} {to k : Nat} (h1 : k < to) (h2 : to ≤ C.length) : (C.take to).drop k = C.getD k 0 :: (C.take to).drop (k + 1) := by
  have hl : k < (C.take to).length := by rw [List.length_take]; omega
  rw [List.drop_eq_getElem_cons hl]
  congr 1
  rw [List.getElem_take, List.getD_eq_getElem?_getD, List.getElem?_eq_getElem (by omega)]; rfl
theorem MPl_P {s : List Int} {M1 : mw} (h : MPl s M) (f1 : M1.1 55 = M.1 55) (f2 : M1.2 54 = M.2 54) : MPl s M1 := ⟨by rw [f1]; exact h.1, fun i hi => by rw [f2]; exact h.2 i hi⟩
theorem s_told {wd hg p : Nat} {C : List Nat} {fr' to : Nat} {v : Int} (hf : fOk wd hg) (hw : M.1 35 0 = nI wd) (hh : M.1 36 0 = nI hg) (hp : p < wd * hg) (hC : MCS C M) (hl : C.length ≤ 1600) (h1 : fr' ≤ to) (h2 : to ≤ C.length)
    (hr : runC (p % wd) (p / wd) (edW wd hg p) ((C.take to).drop fr') [] = some [v]) (q : ∀ M', frQ M M' → Q (some (.long (jZ v))) M') : V_told [.ref 0, .int (nI fr'), .int (nI to), .int (nI p)] M Q := by
  obtain ⟨⟨b1, b2⟩, ⟨b3, b4⟩, b5⟩ := id hf
  obtain ⟨c1, c2⟩ := xy_lt hp
  have hed : edW wd hg p < 100 := by unfold edW; omega
  generalize hx : p % wd = x at *
  generalize hy : p / wd = y at *
  generalize he : edW wd hg p = e at *
  have loop : ∀ (n k : Nat) (s : List Int) (M1 : mw), to - k = n → k ≤ to → frQ M M1 → MPl s M1 → (∀ u, u ∈ s → b6 u) → s.length ≤ k → runC x y e ((C.take to).drop k) s = some [v] → ∀ {o1 o5 : Option Value}, T_told Q 8 [some (.ref 0), o1, some (.int (nI to)), some (.int (nI p)), some (.int (nI k)), o5] [] M1 := by
    intro n
    induction n with
    | zero =>
      intro k s M1 hn hk f1 m1 hb hs hr o1 o5
      have e : k = to := by omega
      subst e
      have : (C.take k).drop k = [] := List.drop_eq_nil_of_le (by rw [List.length_take]; omega)
      rw [this] at hr
      have hs1 : s = [v] := by
        have : some s = some [v] := hr
        cases this; rfl
      subst hs1
      refine r_told_8 ⟨fun _ => ⟨(n_in (a := 0) (by omega)).mpr (by omega), rfl, ?_⟩, fun z => absurd (Int32.le_refl _) z⟩
      have := m1.2 0 (by simp)
      rw [show Int32.toNatClampNeg 0 = 0 from by decide, show M1.2 54 0 = jZ v from this]
      exact q M1 f1
    | succ n ih =>
      intro k s M1 hn hk f1 m1 hb hs hr o1 o5
      rw [take_drop (by omega) h2] at hr
      have hr : (match stC x y e (C.getD k 0) s with | none => none | some s' => runC x y e ((C.take to).drop (k + 1)) s') = some [v] := hr
      have ec : M1.1 44 (1600 + k) = nI (C.getD k 0) := by rw [f1.2 44 (by omega)]; exact hC k (by omega)
      generalize C.getD k 0 = c at *
      cases hst : stC x y e c s with
      | none => rw [hst] at hr; cases hr
      | some s' =>
      simp only [hst] at hr
      have hc := stC_c hst
      obtain ⟨sb, sl⟩ := stC_b (by omega) hb hst
      have nx : ∀ (M2 : mw), frQ M1 M2 → MPl s' M2 → ∀ {o1 o5 : Option Value}, T_told Q 166 [some (.ref 0), o1, some (.int (nI to)), some (.int (nI p)), some (.int (nI k)), o5] [] M2 := fun M2 f2 m2 _ _ => by
        refine r_told_166 ?_
        rw [show nI k + 1 = nI (k + 1) from n_add k 1]
        exact ih (k + 1) s' M2 (by omega) (by omega) (frQ_trans f1 f2) m2 sb (by omega) hr
      have w1 : M1.1 35 0 = nI wd := by rw [f1.2 35 (by omega)]; exact hw
      have w2 : M1.1 36 0 = nI hg := by rw [f1.2 36 (by omega)]; exact hh
      have h0 : ¬ (nI wd = 0) := by simp (disch := omega) only [n_lit, n_add, n_mul, n_tn, n_in, n_lt, n_le, n_eq, n_eqg, n_geq, n_ltg, n_gle, n_div, n_rem, lc_eq, lc_le, lc_lt, lc_ge, lc_gt]; omega
      refine r_told_8 ?_
      rw [n_le (by omega) (by omega), show (1600 : Int32) + nI k = nI (1600 + k) from n_add 1600 k, n_tn (by omega), ec, show (nI c < (1000 : Int32)) ↔ c < 1000 from n_lt (b := 1000) (by omega) (by omega), show (nI c = (17 : Int32)) ↔ c = 17 from n_eq (b := 17) (by omega) (by omega), show (nI c = (16 : Int32)) ↔ c = 16 from n_eq (b := 16) (by omega) (by omega)]
      refine ⟨fun z => by omega, fun _ => ⟨(n_in (by omega)).mpr (by omega), fun k1 => ⟨fun k17 => ⟨fun k16 => ?_, fun k16 => ?_⟩, fun k17 => ?_⟩, fun k1 => ?_⟩⟩
      · -- across, down, edge, or two that are joined
        refine s_isIn _ _ _ ?_
        have ei : (decide ((7 : Int64) ≤ Int32.toInt64 (nI c)) && decide (Int32.toInt64 (nI c) ≤ (9 : Int64))) = decide (7 ≤ c ∧ c ≤ 9) := by
          rw [jZ_n (by omega), show (7 : Int64) = jZ 7 from rfl, show (9 : Int64) = jZ 9 from rfl, ← Bool.decide_and]
          refine decide_eq_decide.mpr ?_
          rw [jZ_le (by omega) (by omega), jZ_le (by omega) (by omega)]
          omega
        rw [ei]
        refine r_told_110 ⟨fun z => ?_, fun z => ?_⟩
        · have z := bI_e0 z
          have z : ¬ (7 ≤ c ∧ c ≤ 9) := by simpa using z
          obtain ⟨b, a, r, u, hs1, ho, hs2⟩ := stC_2 k1 k17 k16 z hst
          subst hs1 hs2
          rw [List.length_cons, List.length_cons] at hs
          exact s_joins m1 (hb a (by simp)) (hb b (by simp)) (by omega) ho rfl (fun M2 f2 m2 => nx M2 f2 m2)
        · have z := bI_n0 z
          have z : 7 ≤ c ∧ c ≤ 9 := by simpa using z
          have hst' := stC_7 (x := x) (y := y) (e := e) (s := s) z
          rw [hst] at hst'
          rw [show (nI c = (7 : Int32)) ↔ c = 7 from n_eq (b := 7) (by omega) (by omega), show (nI c = (8 : Int32)) ↔ c = 8 from n_eq (b := 8) (by omega) (by omega), w1]
          refine ⟨fun k7 => ⟨fun k8 => s_toEdge2 hf w1 w2 hp (r_told_153 ?_), fun k8 => ⟨h0, ?_⟩⟩, fun k7 => ⟨h0, ?_⟩⟩
          · rw [if_neg k7, if_neg k8] at hst'
            cases hst'
            rw [he, jZ_n (by omega)]
            exact s_puts m1 (by omega) (fun M2 f2 m2 => r_told_157 (nx M2 f2 m2))
          · rw [if_neg k7, if_pos (Decidable.not_not.mp k8)] at hst'
            cases hst'
            rw [n_div (by omega) (by omega), hy, jZ_n (by omega)]
            exact s_puts m1 (by omega) (fun M2 f2 m2 => r_told_157 (nx M2 f2 m2))
          · rw [if_pos (Decidable.not_not.mp k7)] at hst'
            cases hst'
            rw [n_rem (by omega) (by omega), hx, jZ_n (by omega)]
            exact s_puts m1 (by omega) (fun M2 f2 m2 => r_told_157 (nx M2 f2 m2))
      · have k16 := Decidable.not_not.mp k16
        subst k16
        obtain ⟨u, r, hs1, hs2⟩ := stC_16 hst
        subst hs1 hs2
        rw [List.length_cons] at hs
        have h55 : M1.1 55 0 = nI (r.length + 1) := m1.1
        have eu : M1.2 54 r.length = jZ u := m1.2 0 (by simp)
        have iv : vp_in (nI r.length) 1700 := (n_in (by omega)).mpr (by omega)
        rw [h55, show nI (r.length + 1) - (1 : Int32) = nI r.length from n_sub (a := r.length + 1) (b := 1) (by omega), n_tn (by omega), eu, show (1 : Int64) = jZ 1 from rfl, jZ_sub]
        refine ⟨iv, iv, nx _ (frQ_upl (frQ_refl M1)) ⟨by rw [m_upl2]; exact h55, fun i hi => ?_⟩⟩
        rw [List.length_cons] at hi ⊢
        rw [m_upl]
        cases i with
        | zero => rw [if_pos ⟨rfl, by omega⟩]; rfl
        | succ i =>
          rw [if_neg (by omega)]
          have := m1.2 (i + 1) (by simp; omega)
          rw [List.length_cons] at this
          exact this
      · have k17 := Decidable.not_not.mp k17
        have hst' : stC x y e c s = some (1 :: s) := by
          unfold stC; rw [if_neg (by omega), if_pos k17]
        rw [hst] at hst'
        cases hst'
        exact s_puts m1 (by omega) (fun M2 f2 m2 => r_told_61 (nx M2 f2 m2))
      · have hst' : stC x y e c s = some (((c - 1000 : Nat) : Int) :: s) := by
          unfold stC; rw [if_pos (by omega), if_pos hc]
        rw [hst] at hst'
        cases hst'
        rw [show nI c - (1000 : Int32) = nI (c - 1000) from n_sub (a := c) (b := 1000) (by omega), jZ_n (by omega)]
        exact s_puts m1 (by omega) (fun M2 f2 m2 => r_told_46 (nx M2 f2 m2))
  refine e_told (r_told_0 ?_)
  exact loop _ fr' [] _ rfl h1 (frQ_up (frQ_refl M)) ⟨by rw [m_up, if_pos ⟨rfl, rfl⟩]; rfl, fun i hi => absurd hi (Nat.not_lt_zero i)⟩ (fun u hu => absurd hu List.not_mem_nil) (Nat.zero_le _) hr
/-! which rule holds first -/
def vlC (x y e : Nat) (c : List Nat) : Int := match runC x y e c [] with
  | some (v :: _) => v
  | _ => 0
def clN (v : Int) : Nat := if v < 0 then 0 else if 99 < v then 99 else v.toNat
def wrR (R : List (List Nat × List Nat)) (x y e : Nat) : Nat := match fstP (fun k => decide (vlC x y e (R.getD k ([], [])).2 = 1)) R.length with
  | some k => clN (vlC x y e (R.getD k ([], [])).1)
  | none => if R.length = 0 then 1 else 0
theorem clN_le (v : Int) : clN v ≤ 99 := by unfold clN; split <;> try split
                                            all_goals omega
theorem wrR_le (R : List (List Nat × List Nat)) (x y e : Nat) : wrR R x y e ≤ 99 := by
  unfold wrR
  split
  · exact clN_le _
  · split <;> omega
/-- codes that reckon: one value, ahead of all that lies there -/
def cVal (c : List Nat) : Prop := ∀ x y e, x < 100 → y < 100 → e < 100 → ∃ v, b6 v ∧ ∀ s, runC x y e c s = some (v :: s)
def cTst (c : List Nat) : Prop := ∀ x y e, x < 100 → y < 100 → e < 100 → ∃ v, (v = 0 ∨ v = 1) ∧ ∀ s, runC x y e c s = some (v :: s)
def rOk (R : List (List Nat × List Nat)) : Prop := ∀ r, r ∈ R → cVal r.1 ∧ cTst r.2
theorem vl_run {c : List Nat} {x y e : Nat} {v : Int} (h : ∀ s, runC x y e c s = some (v :: s)) : vlC x y e c = v := by
  unfold vlC; rw [h []]
theorem rC_part {R : List (List Nat × List Nat)} {k : Nat} (hk : k < R.length) : rC R = rC (R.take k) ++ ((R.getD k ([], [])).1 ++ (R.getD k ([], [])).2) ++ rC (R.drop (k + 1)) ∧ rC (R.take (k + 1)) = rC (R.take k) ++ ((R.getD k ([], [])).1 ++ (R.getD k ([], [])).2) := by
  have e0 : R.getD k ([], []) = R[k] := by rw [List.getD_eq_getElem?_getD, List.getElem?_eq_getElem hk]; rfl
  have e1 : R.take (k + 1) = R.take k ++ [R[k]] := List.take_succ_eq_append_getElem hk
  have e2 : rC (R.take (k + 1)) = rC (R.take k) ++ ((R.getD k ([], [])).1 ++ (R.getD k ([], [])).2) := by
    rw [e1, e0]; exact rC_app _ _ _
  refine ⟨?_, e2⟩
  rw [← e2]
  conv => lhs; rw [← List.take_append_drop (k + 1) R]
  unfold rC
  rw [List.flatMap_append]
theorem seg1 {A s t D : List Nat} : ((A ++ (s ++ t) ++ D).take (A.length + s.length)).drop A.length = s := by
  rw [List.append_assoc, List.append_assoc, ← List.append_assoc A s, show A.length + s.length = (A ++ s).length from (List.length_append).symm, List.take_left, List.drop_left]
theorem seg2 {A s t D : List Nat} : ((A ++ (s ++ t) ++ D).take (A ++ (s ++ t)).length).drop (A.length + s.length) = t := by
  rw [List.take_left, ← List.append_assoc, show A.length + s.length = (A ++ s).length from (List.length_append).symm, List.drop_left]
theorem s_worthOf {wd hg p : Nat} {R : List (List Nat × List Nat)} (hf : fOk wd hg) (hw : M.1 35 0 = nI wd) (hh : M.1 36 0 = nI hg) (hp : p < wd * hg) (hC : MCS (rC R) M) (hl : (rC R).length ≤ 1600) (hR : R.length ≤ 6) (hn : M.1 37 5 = nI R.length) (hM : MRl 6 R M) (ho : rOk R)
    (q : ∀ M', frQ M M' → Q (some (.int (nI (wrR R (p % wd) (p / wd) (edW wd hg p))))) M') : V_worthOf [.ref 0, .int (nI p)] M Q := by
  obtain ⟨⟨b1, b2⟩, ⟨b3, b4⟩, b5⟩ := id hf
  obtain ⟨c1, c2⟩ := xy_lt hp
  have hed : edW wd hg p < 100 := by unfold edW; omega
  have e5 : Int32.toNatClampNeg 5 = 5 := by decide
  have i5 : vp_in 5 6 := (n_in (a := 5) (by omega)).mpr (by omega)
  refine e_worthOf (r_worthOf_0 ?_)
  refine upTo R.length (fun k (M1 : mw) => frQ M M1 ∧ ∀ j, j < k → vlC (p % wd) (p / wd) (edW wd hg p) (R.getD j ([], [])).2 ≠ 1) (fun k M1 => ∀ {o3 o4 : Option Value}, T_worthOf Q 3 [some (.ref 0), some (.int (nI p)), some (.int (nI (6 + k))), o3, o4] [] M1) ?_ ?_ 0 M (by omega) ⟨frQ_refl M, fun j hj => by omega⟩
  · intro M1 hI o3 o4
    refine r_worthOf_3 ?_
    rw [e5, hI.1.2 37 (by omega), hn, show (6 : Int32) + nI R.length = nI (6 + R.length) from n_add 6 _, n_le (by omega) (by omega), show (nI R.length = (0 : Int32)) ↔ R.length = 0 from n_eq (b := 0) (by omega) (by omega)]
    have q := q M1 hI.1
    unfold wrR at q
    rw [fstP_none (fun u hu => decide_eq_false (hI.2 u hu))] at q
    refine ⟨i5, fun _ => ⟨i5, fun z => ⟨trivial, ?_⟩, fun z => ⟨trivial, ?_⟩⟩, fun z => absurd (Nat.le_refl _) z⟩
    · simp only [if_neg z] at q; exact q
    · simp only [if_pos (Decidable.not_not.mp z)] at q; exact q
  · intro k M1 hk hI next o3 o4
    obtain ⟨r1, r2, r3⟩ := hM k hk
    obtain ⟨p1, p2⟩ := rC_part hk
    have hmem : R.getD k ([], []) ∈ R := getD_mem' hk
    obtain ⟨o1, o2⟩ := ho _ hmem
    obtain ⟨tv, t01, trun⟩ := o2 (p % wd) (p / wd) (edW wd hg p) (by omega) (by omega) hed
    obtain ⟨sv, s6, srun⟩ := o1 (p % wd) (p / wd) (edW wd hg p) (by omega) (by omega) hed
    have tvl := vl_run trun
    have svl := vl_run srun
    have lp := congrArg List.length p1
    rw [List.length_append, List.length_append, List.length_append] at lp
    have f1 := hI.1
    have w1 : M1.1 35 0 = nI wd := by rw [f1.2 35 (by omega)]; exact hw
    have w2 : M1.1 36 0 = nI hg := by rw [f1.2 36 (by omega)]; exact hh
    have mc : MCS (rC R) M1 := fun j hj => by rw [f1.2 44 (by omega)]; exact hC j hj
    refine r_worthOf_3 ?_
    rw [e5, f1.2 37 (by omega), hn, show (6 : Int32) + nI R.length = nI (6 + R.length) from n_add 6 _, n_le (by omega) (by omega), n_tn (by omega), f1.2 50 (by omega), f1.2 51 (by omega), r2, r3]
    have iv : vp_in (nI (6 + k)) 12 := (n_in (by omega)).mpr (by omega)
    refine ⟨i5, fun z => by omega, fun _ => ⟨iv, iv, s_told (C := rC R) (v := tv) hf w1 w2 hp mc hl (by rw [p2, List.length_append, List.length_append]; omega) (by rw [p2, List.length_append, List.length_append]; omega) ?_ (fun M2 f2 => r_worthOf_33 ?_)⟩⟩
    · rw [p2]
      conv => lhs; arg 4; rw [p1]
      rw [seg2]; exact trun []
    have f2' := frQ_trans f1 f2
    rw [lg_cmp_eq, show (1 : Int64) = jZ 1 from rfl, jZ_eq (by omega) (by omega)]
    refine ⟨fun z => ⟨iv, iv, ?_⟩, fun z => ?_⟩
    · rw [n_tn (by omega), f2'.2 49 (by omega), f2'.2 50 (by omega), r1, r2]
      refine s_told (C := rC R) (v := sv) hf (by rw [f2'.2 35 (by omega)]; exact hw) (by rw [f2'.2 36 (by omega)]; exact hh) hp (fun j hj => by rw [f2'.2 44 (by omega)]; exact hC j hj) hl (by omega) (by omega) ?_ (fun M3 f3 => r_worthOf_58 ?_)
      · conv => lhs; arg 4; rw [p1]
        rw [seg1]; exact srun []
      have q := q M3 (frQ_trans f2' f3)
      unfold wrR at q
      rw [fstP_some hk (decide_eq_true (by rw [tvl]; exact z)) (fun u hu => decide_eq_false (hI.2 u hu))] at q
      simp only [svl] at q
      unfold clN at q
      unfold b6 at s6
      rw [lg_cmp_ge, lg_cmp_le, show (0 : Int64) = jZ 0 from rfl, show (99 : Int64) = jZ 99 from rfl, jZ_le (by omega) (by omega), jZ_le (by omega) (by omega)]
      refine ⟨fun z1 => ⟨fun z2 => ⟨trivial, ?_⟩, fun z2 => ⟨trivial, ?_⟩⟩, fun z1 => ⟨trivial, ?_⟩⟩
      · rw [if_neg (by omega), if_neg (by omega)] at q
        have : Int64.toInt32 (jZ sv) = nI sv.toNat := by
          rw [← Int32.toInt_inj, n_T (by omega), Int64.toInt_toInt32, jZ_T (by omega)]
          rw [show ((sv.toNat : Nat) : Int) = sv from by omega]
          exact Int.bmod_eq_of_le (by omega) (by omega)
        rw [this]; exact q
      · rw [if_neg (by omega), if_pos (by omega)] at q; exact q
      · rw [if_pos (by omega)] at q; exact q
    · rw [show nI (6 + k) + 1 = nI (6 + (k + 1)) from n_add _ 1]
      refine next M2 ⟨f2', fun j hj => ?_⟩
      by_cases ej : j = k
      · rw [ej, tvl]; exact z
      · exact hI.2 j (by omega)
end
