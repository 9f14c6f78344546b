/-! a rule that is told, BorderStonesModel -/
section
variable {Q : Option Value → mw → Prop} {T : List Nat} {a : Nat} {M : mw}
abbrev FU : Nat := 9000
def ruP (T : List Nat) (t : TB) (b a : Nat) : Sum (Nat × Nat) (TB × Nat) := if (tR t).length = 6 then .inl (5, b) else match pE T FU 3 a 0 with
  | .inl e => .inl e
  | .inr (s, a1) => if hereB T a1 (wT 22) = true then match pT T FU FU 3 (sk T a1 + 4) 0 with
      | .inl e => .inl e
      | .inr (c, a2) => .inr ((tK t, tS t, tL t, tN t, tR t ++ [(s, c)]), sk T a2)
    else .inl (1, sk T a1)
theorem kE {M M' : mw} (f : frE M M') (j : Nat) (h1 : 33 ≤ j) (h2 : j < 44 ∨ 48 < j) (h3 : j ≠ 53) : M'.1 j = M.1 j := f.2.1 j (by omega) (by omega) (by omega) (by omega) (by omega) (by omega) h2 h3
theorem kT {M M' : mw} (f : frT M M') (j : Nat) (h1 : 33 ≤ j) : M'.1 j = M.1 j := f.2.1 j (by omega) (by omega) (by omega) (by omega) (by omega) (by omega)
theorem w_92B {n kd pl : Nat} (hn : n < 12) {M0 : mw} (f0 : frB M0 M) (b : MBad kd pl M) (hn6 : n < 6) (q : ∀ M', frB M0 M' → MBad kd pl M' → Q none M') {o1 : Option Value} : T_worthTold Q 92 [some (.ref 0), o1, some (.int (nI n))] [] M := by
  have i2 : vp_in 2 6 := (n_in (a := 2) (by omega)).mpr (by omega)
  have e2 : Int32.toNatClampNeg 2 = 2 := by decide
  refine r_worthTold_92 ⟨(n_in (by omega)).mpr hn, i2, i2, rfl, ?_⟩
  rw [e2, n_tn (by omega)]
  exact q _ (frB_up (frB_up f0 (by unfold pB; omega)) (by unfold pB; omega)) (MBad_c (up33 (by omega) (up33 (by omega) (fun _ _ _ => rfl))) b)
theorem w_66B {n kd pl : Nat} (hn6 : n < 6) {M0 : mw} (f0 : frB M0 M) (b : MBad kd pl M) (q : ∀ M', frB M0 M' → MBad kd pl M' → Q none M') {o1 : Option Value} : T_worthTold Q 66 [some (.ref 0), o1, some (.int (nI n))] [] M := by
  have b' : MBad kd pl (mM_up (mM_up (mM_up M 47 0 0) 48 0 0) 53 0 0) := MBad_c (up33 (by omega) (up33 (by omega) (up33 (by omega) (fun _ _ _ => rfl)))) b
  exact r_worthTold_66 ⟨fun _ => w_92B (by omega) (frB_up (frB_up (frB_up f0 (by unfold pB; omega)) (by unfold pB; omega)) (by unfold pB; omega)) b' hn6 q, fun z => absurd (MBad_ne b') z⟩
theorem w_48B {n kd pl : Nat} (hn6 : n < 6) {M0 : mw} (f0 : frB M0 M) (b : MBad kd pl M) (q : ∀ M', frB M0 M' → MBad kd pl M' → Q none M') {o1 : Option Value} : T_worthTold Q 48 [some (.ref 0), o1, some (.int (nI n))] [] M := by
  refine r_worthTold_48 ⟨(n_in (by omega)).mpr (by omega), ?_⟩
  rw [n_tn (by omega)]
  have b' : MBad kd pl (mM_up M 50 n (M.1 45 0)) := MBad_c (up33 (by omega) (fun _ _ _ => rfl)) b
  exact s_asksB b' (w_66B hn6 (frB_up f0 (by unfold pB; omega)) b' q)
theorem MX_0 {C : List Nat} (h : MP T a M) (hW : MWd M) (h45 : M.1 45 0 = nI C.length) (h44 : ∀ k, k < C.length → M.1 44 k = nI (C.getD k 0)) (hl : C.length + 5 ≤ a) : MX T a C [] 0 0 (mM_up (mM_up (mM_up M 47 0 0) 48 0 0) 53 0 0) := by
  have u : ∀ j i, j < 33 → (mM_up (mM_up (mM_up M 47 0 0) 48 0 0) 53 0 0).1 j i = M.1 j i := up33 (by omega) (up33 (by omega) (up33 (by omega) (fun _ _ _ => rfl)))
  refine ⟨MP_c u h, MWd_c u hW, ⟨⟨?_, fun k hk => ?_⟩, ⟨?_, fun k hk => absurd hk (Nat.not_lt_zero k)⟩, ?_, ?_⟩, hl, fun x hx => absurd hx List.not_mem_nil, Nat.le_refl 0, by omega⟩
  · rw [m_up, if_neg (by omega), m_up, if_neg (by omega), m_up, if_neg (by omega)]; exact h45
  · rw [m_up, if_neg (by omega), m_up, if_neg (by omega), m_up, if_neg (by omega)]; exact h44 k hk
  · rw [m_up, if_neg (by omega), m_up, if_neg (by omega), m_up, if_pos ⟨rfl, rfl⟩]; rfl
  · rw [m_up, if_neg (by omega), m_up, if_pos ⟨rfl, rfl⟩]; rfl
  · rw [m_up, if_pos ⟨rfl, rfl⟩]; rfl
theorem frB_0 {M0 : mw} (f0 : frB M0 M) : frB M0 (mM_up (mM_up (mM_up M 47 0 0) 48 0 0) 53 0 0) := frB_up (frB_up (frB_up f0 (by unfold pB; omega)) (by unfold pB; omega)) (by unfold pB; omega)
theorem k0 (M : mw) (j i : Nat) (h1 : j ≠ 47) (h2 : j ≠ 48) (h3 : j ≠ 53) : (mM_up (mM_up (mM_up M 47 0 0) 48 0 0) 53 0 0).1 j i = M.1 j i := by
  rw [m_up, if_neg (by omega), m_up, if_neg (by omega), m_up, if_neg (by omega)]
theorem MTB_rule {wd hg : Nat} {t : TB} {M' : mw} {s c : List Nat} (h : MTB wd hg t M) (k2 : M'.2 = M.2) (k1 : ∀ j i, 33 ≤ j → j < 44 → ¬ (j = 37 ∧ i = 2) → M'.1 j i = M.1 j i) (k49 : ∀ j i, 49 ≤ j → j ≤ 51 → i ≠ (tR t).length → M'.1 j i = M.1 j i)
    (h37 : M'.1 37 2 = nI ((tR t).length + 1)) (h49 : M'.1 49 (tR t).length = nI (rC (tR t)).length) (h50 : M'.1 50 (tR t).length = nI (rC (tR t) ++ s).length) (h51 : M'.1 51 (tR t).length = nI (rC (tR t) ++ s ++ c).length)
    (h45 : M'.1 45 0 = nI (rC (tR t) ++ s ++ c).length) (h44 : ∀ k, k < (rC (tR t) ++ s ++ c).length → M'.1 44 k = nI ((rC (tR t) ++ s ++ c).getD k 0)) : MTB wd hg (tK t, tS t, tL t, tN t, tR t ++ [(s, c)]) M' := by
  obtain ⟨⟨a1, a2⟩, ⟨a3, a4⟩, ⟨a5, a6⟩, a7, ⟨a8, a9⟩, b1, b2⟩ := h
  have er : rC (tR t ++ [(s, c)]) = rC (tR t) ++ s ++ c := by rw [rC_app, List.append_assoc]
  refine ⟨⟨by rw [k1 _ _ (by omega) (by omega) (by omega)]; exact a1, by rw [k1 _ _ (by omega) (by omega) (by omega)]; exact a2⟩, ⟨by rw [k1 _ _ (by omega) (by omega) (by omega)]; exact a3, fun k hk => by rw [k2, k1 _ _ (by omega) (by omega) (by omega), k1 _ _ (by omega) (by omega) (by omega)]; exact a4 k hk⟩, ⟨by rw [k1 _ _ (by omega) (by omega) (by omega)]; exact a5, fun p hp => by rw [k1 _ _ (by omega) (by omega) (by omega)]; exact a6 p hp⟩, fun p hp => by rw [k1 _ _ (by omega) (by omega) (by omega)]; exact a7 p hp, ⟨?_, fun k hk => ?_⟩, ?_, fun k hk => ?_⟩
  · rw [h37]; show _ = nI (tR t ++ [(s, c)]).length; rw [List.length_append]; rfl
  · have hk : k < (tR t ++ [(s, c)]).length := hk
    rw [List.length_append, show [(s, c)].length = 1 from rfl] at hk
    show _ = nI (rC ((tR t ++ [(s, c)]).take k)).length ∧ _ = nI ((rC ((tR t ++ [(s, c)]).take k)).length + ((tR t ++ [(s, c)]).getD k ([], [])).1.length) ∧ _ = nI (rC ((tR t ++ [(s, c)]).take (k + 1))).length
    rw [Nat.zero_add]
    by_cases e : k = (tR t).length
    · rw [e]
      have e1 : (tR t ++ [(s, c)]).take (tR t).length = tR t := List.take_left
      have e2 : (tR t ++ [(s, c)]).take ((tR t).length + 1) = tR t ++ [(s, c)] := List.take_of_length_le (by rw [List.length_append]; exact Nat.le_refl _)
      have e3 : (tR t ++ [(s, c)]).getD (tR t).length ([], []) = (s, c) := by simp
      rw [e1, e2, e3, er, h49, h50, h51, List.length_append (as := rC (tR t)) (bs := s)]
      exact ⟨rfl, rfl, rfl⟩
    · have e1 : (tR t ++ [(s, c)]).take k = (tR t).take k := List.take_append_of_le_length (by omega)
      have e2 : (tR t ++ [(s, c)]).take (k + 1) = (tR t).take (k + 1) := List.take_append_of_le_length (by omega)
      have e3 : (tR t ++ [(s, c)]).getD k ([], []) = (tR t).getD k ([], []) := by
        rw [List.getD_eq_getElem?_getD, List.getD_eq_getElem?_getD, List.getElem?_append_left (by omega)]
      rw [e1, e2, e3, k49 49 k (by omega) (by omega) e, k49 50 k (by omega) (by omega) e, k49 51 k (by omega) (by omega) e]
      have := a9 k (by omega)
      rw [Nat.zero_add] at this
      exact this
  · show _ = nI (rC (tR t ++ [(s, c)])).length
    rw [er]; exact h45
  · have hk : k < (rC (tR t ++ [(s, c)])).length := hk
    show _ = nI ((rC (tR t ++ [(s, c)])).getD k 0)
    rw [er] at hk ⊢
    exact h44 k hk
theorem s_worthTold {wd hg : Nat} {t : TB} {b : Nat} {x : Int32} (h : MP T a M) (hW : MWd M) (hb : MTB wd hg t M) (ht : tOk t) (hx : x = nI b) (hl : (rC (tR t)).length + 5 ≤ a)
    (qe : ∀ e, ruP T t b a = .inl e → ∀ M', frB M M' → MBad e.1 e.2 M' → Q none M')
    (qo : ∀ t' a1, ruP T t b a = .inr (t', a1) → (rC (tR t')).length + 5 ≤ a1 → ∀ M', frB M M' → MP T a1 M' → MWd M' → MTB wd hg t' M' → Q none M') : V_worthTold [.ref 0, .int x] M Q := by
  unfold ruP at qe qo
  have hR := ht.2.2.2.2.2
  have l16 := h.1.2.2.1
  have w3 : wtF 3 = 3 := rfl
  have hFU : FU = 9000 := rfl
  have e2 : Int32.toNatClampNeg 2 = 2 := by decide
  have i2 : vp_in 2 6 := (n_in (a := 2) (by omega)).mpr (by omega)
  refine e_worthTold (r_worthTold_0 (s_isFull (what := 2) (room := 6) (pl := b) (n := (tR t).length) h.2.1 rfl rfl hx (by omega) (by omega) (by omega) hb.2.2.2.2.1.1 (fun c => r_worthTold_8 ⟨fun _ => ?_, fun z => absurd rfl z⟩) (fun c M1 f1 b1 => r_worthTold_8 ⟨fun z => absurd z (by decide), fun _ => ⟨rfl, ?_⟩⟩)))
  rotate_left
  · rw [if_pos c] at qe
    exact qe _ rfl M1 (frB_T f1) b1
  rw [if_neg c] at qe qo
  have hn6 : (tR t).length < 6 := by omega
  rw [e2, hb.2.2.2.2.1.1, n_tn (by omega), hb.2.2.2.2.2.1]
  refine ⟨i2, (n_in (by omega)).mpr (by omega), ?_⟩
  have f0 : frB M (mM_up M 49 (tR t).length (nI (rC (tR t)).length)) := frB_up (frB_refl M) (by unfold pB; omega)
  have u0 : ∀ j i, j < 33 → (mM_up M 49 (tR t).length (nI (rC (tR t)).length)).1 j i = M.1 j i := up33 (by omega) (fun _ _ _ => rfl)
  have x0 := MX_0 (C := rC (tR t)) (MP_c u0 h) (MWd_c u0 hW) (by rw [m_up, if_neg (by omega)]; exact hb.2.2.2.2.2.1) (fun k hk => by rw [m_up, if_neg (by omega)]; exact hb.2.2.2.2.2.2 k hk) hl
  have f0' := frB_0 f0
  refine s_sumsTold FU x0 (fun u _ _ => rfl) (fun e he => ⟨fun z => pE_fuel T FU 3 a 0 (by omega) (by rw [he, z]), fun M1 f1 b1 _ => w_48B hn6 (frB_trans f0' (frB_E f1)) b1 ?_⟩) (fun c1 a1 he _ M1 f1 x1 => r_worthTold_48 ⟨(n_in (by omega)).mpr (by omega), ?_⟩)
  · simp only [he] at qe
    exact qe e rfl
  simp only [he] at qe qo
  rw [n_tn (by omega), x1.2.2.1.1.1]
  have g1 : frB M M1 := frB_trans f0' (frB_E f1)
  have f2 : frB M (mM_up M1 50 (tR t).length (nI (rC (tR t) ++ c1).length)) := frB_up g1 (by unfold pB; omega)
  have u1 : ∀ j i, j < 33 → (mM_up M1 50 (tR t).length (nI (rC (tR t) ++ c1).length)).1 j i = M1.1 j i := up33 (by omega) (fun _ _ _ => rfl)
  have hss := sk_sk2 T a1
  have hhs : hereB T (sk T a1) (wT 22) = hereB T a1 (wT 22) := by unfold hereB; rw [hss]
  refine s_asks (k := 22) (MP_c u1 x1.1) (MWd_c u1 x1.2.1) (by omega) (by omega) (fun c2 M2 g2 b2 => w_66B hn6 (frB_trans f2 (frB_T g2)) b2 ?_) (fun c2 M2 g2 m2 => r_worthTold_66 ?_)
  · rw [hhs] at c2
    rw [if_neg (by rw [c2]; decide)] at qe
    rw [hss]
    exact qe _ rfl
  rw [hhs] at c2
  rw [if_pos c2] at qe qo
  rw [hss, show (wT 22).length = 4 from rfl] at m2
  have x2 := MX_0 (C := rC (tR t) ++ c1) m2 (MWd_f g2 (MWd_c u1 x1.2.1)) (by rw [kT g2 45 (by omega), m_up, if_neg (by omega)]; exact x1.2.2.1.1.1) (fun k hk => by rw [kT g2 44 (by omega), m_up, if_neg (by omega)]; exact x1.2.2.1.1.2 k hk) (by have := x1.2.2.2.1; rw [List.length_nil] at this; omega)
  refine ⟨fun z => absurd x2.1.2.1 z, fun _ => s_test FU FU x2 (fun e he2 => ⟨fun z => pT_fuel T FU (by omega) FU 3 _ 0 (by omega) (by rw [he2, z]), fun M3 g3 b3 => w_92B (by omega) (frB_trans (frB_0 (frB_trans f2 (frB_T g2))) (frB_E g3)) b3 hn6 ?_⟩) (fun c3 a3 he2 M3 g3 x3 => r_worthTold_92 ⟨(n_in (by omega)).mpr (by omega), i2, i2, rfl, ?_⟩)⟩
  · simp only [he2] at qe
    exact qe e rfl
  simp only [he2] at qo
  have kk : ∀ j i, 33 ≤ j → (j < 44 ∨ 48 < j) → j ≠ 53 → ¬ (j = 49 ∧ i = (tR t).length) → ¬ (j = 50 ∧ i = (tR t).length) → M3.1 j i = M.1 j i := fun j i h1 h2 h3 h4 h5 => by
    rw [kE g3 j h1 h2 h3, k0 _ _ _ (by omega) (by omega) (by omega), kT g2 j h1, m_up, if_neg h5, kE f1 j h1 h2 h3, k0 _ _ _ (by omega) (by omega) (by omega), m_up, if_neg h4]
  have e22 : M3.2 = M.2 := by rw [g3.1, m_up2, m_up2, m_up2, g2.1, m_up2, f1.1, m_up2, m_up2, m_up2, m_up2]
  have e49 : M3.1 49 (tR t).length = nI (rC (tR t)).length := by
    rw [kE g3 49 (by omega) (by omega) (by omega), k0 _ _ _ (by omega) (by omega) (by omega), kT g2 49 (by omega), m_up, if_neg (by omega), kE f1 49 (by omega) (by omega) (by omega), k0 _ _ _ (by omega) (by omega) (by omega), m_up, if_pos ⟨rfl, rfl⟩]
  have e50 : M3.1 50 (tR t).length = nI (rC (tR t) ++ c1).length := by
    rw [kE g3 50 (by omega) (by omega) (by omega), k0 _ _ _ (by omega) (by omega) (by omega), kT g2 50 (by omega), m_up, if_pos ⟨rfl, rfl⟩]
  have e37 : M3.1 37 2 = nI (tR t).length := by rw [kk _ _ (by omega) (by omega) (by omega) (by omega) (by omega)]; exact hb.2.2.2.2.1.1
  rw [n_tn (by omega), e2, m_up, if_neg (by omega), e37, x3.2.2.1.1.1, show nI (tR t).length + 1 = nI ((tR t).length + 1) from n_add _ 1]
  have u3 : ∀ j i, j < 33 → (mM_up (mM_up M3 51 (tR t).length (nI (rC (tR t) ++ c1 ++ c3).length)) 37 2 (nI ((tR t).length + 1))).1 j i = M3.1 j i := up33 (by omega) (up33 (by omega) (fun _ _ _ => rfl))
  refine qo _ _ rfl ?_ _ (frB_up (frB_up (frB_trans (frB_0 (frB_trans f2 (frB_T g2))) (frB_E g3)) (by unfold pB; omega)) (by unfold pB; omega)) (MP_c u3 x3.1) (MWd_c u3 x3.2.1) (MTB_rule hb e22 (fun j i h1 h2 h3 => ?_) (fun j i h1 h2 h3 => ?_) ?_ ?_ ?_ ?_ ?_ (fun k hk => ?_))
  · have := x3.2.2.2.1
    rw [List.length_nil] at this
    show (rC (tR t ++ [(c1, c3)])).length + 5 ≤ sk T a3
    rw [rC_app, ← List.append_assoc]
    omega
  · rw [m_up, if_neg h3, m_up, if_neg (by omega)]; exact kk j i h1 (by omega) (by omega) (by omega) (by omega)
  · rw [m_up, if_neg (by omega), m_up, if_neg (by omega)]; exact kk j i (by omega) (by omega) (by omega) (by omega) (by omega)
  · rw [m_up, if_pos ⟨rfl, rfl⟩]
  · rw [m_up, if_neg (by omega), m_up, if_neg (by omega)]; exact e49
  · rw [m_up, if_neg (by omega), m_up, if_neg (by omega)]; exact e50
  · rw [m_up, if_neg (by omega), m_up, if_pos ⟨rfl, rfl⟩]
  · rw [m_up, if_neg (by omega), m_up, if_neg (by omega)]; exact x3.2.2.1.1.1
  · rw [m_up, if_neg (by omega), m_up, if_neg (by omega)]; exact x3.2.2.1.1.2 k hk
end
