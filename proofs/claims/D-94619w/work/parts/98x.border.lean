/-! the border that is told, BorderStonesModel -/
section
variable {Q : Option Value → mw → Prop} {T : List Nat} {a : Nat} {M : mw}
def fiP (T : List Nat) : Sum (Nat × Nat) (Nat × Nat × Nat) := if hereB T 0 (wT 10) = true then match numP T (sk T 0 + 5) 3 7 with
    | .inl e => .inl e
    | .inr (w, a1) => match numP T a1 3 7 with
      | .inl e => .inl e
      | .inr (h, a2) => if w * h ≤ 36 then (if chB T (sk T a2) 59 = true then .inr (w, h, sk T a2 + 1) else .inl (1, sk T a2)) else .inl (2, sk T a1)
  else .inl (1, sk T 0)
theorem f_60B {kd pl : Nat} {M0 : mw} (b : MBad kd pl M) (f0 : frC M0 M) (q : ∀ M', frC M0 M' → MBad kd pl M' → Q none M') : T_fieldTold Q 60 [some (.ref 0)] [] M :=
  r_fieldTold_60 (s_asksSignB b _ (r_fieldTold_66 ⟨rfl, q _ (frC_up f0 (by unfold pB; omega)) (MBad_c (up33 (by omega) (fun _ _ _ => rfl)) b)⟩))
theorem f_27B {kd pl : Nat} {M0 : mw} {x : Int32} (b : MBad kd pl M) (f0 : frC M0 M) (q : ∀ M', frC M0 M' → MBad kd pl M' → Q none M') : T_fieldTold Q 27 [some (.ref 0)] [.int x, .ref 0] M :=
  have b' : MBad kd pl (mM_up M 34 0 x) := MBad_c (up33 (by omega) (fun _ _ _ => rfl)) b
  r_fieldTold_27 ⟨fun _ => f_60B b' (frC_up f0 (by unfold pB; omega)) q, fun z => absurd (MBad_ne b') z⟩
theorem f_16B {kd pl : Nat} {M0 : mw} {x : Int32} (b : MBad kd pl M) (f0 : frC M0 M) (q : ∀ M', frC M0 M' → MBad kd pl M' → Q none M') : T_fieldTold Q 16 [some (.ref 0)] [.int x, .ref 0] M :=
  have b' : MBad kd pl (mM_up M 33 0 x) := MBad_c (up33 (by omega) (fun _ _ _ => rfl)) b
  r_fieldTold_16 (s_numberB b' _ _ (f_27B b' (frC_up f0 (by unfold pB; omega)) q))
theorem s_fieldTold (h : MP T 0 M) (hW : MWd M)
    (qe : ∀ e, fiP T = .inl e → ∀ M', frC M M' → MBad e.1 e.2 M' → Q none M')
    (qo : ∀ w hg a1, fiP T = .inr (w, hg, a1) → fOk w hg → 5 ≤ a1 → ∀ M', frC M M' → M'.2 = M.2 → (∀ j i, 35 ≤ j → j ≠ 43 → M'.1 j i = M.1 j i) → MP T a1 M' → MWd M' → M'.1 33 0 = nI w → M'.1 34 0 = nI hg → M'.1 43 0 = nI 1 → Q none M') : V_fieldTold [.ref 0] M Q := by
  unfold fiP at qe qo
  refine e_fieldTold (r_fieldTold_0 (s_asks (k := 10) h hW (by omega) (by omega) (fun c M1 f1 b1 => r_fieldTold_8 (s_numberB b1 _ _ (f_16B b1 (frC_T f1) ?_))) (fun c M1 f1 m1 => r_fieldTold_8 ?_)))
  · rw [if_neg (by rw [c]; decide)] at qe
    exact qe _ rfl
  rw [if_pos c] at qe qo
  rw [show (wT 10).length = 5 from rfl] at m1
  refine s_number (lo := 3) (hi := 7) m1 rfl rfl (by omega) (by omega) (fun kd pl v hn M2 f2 b2 => f_16B b2 (frC_T (frT_trans f1 f2)) ?_) (fun w a1 hn M2 f2 m2 _ => r_fieldTold_16 ?_)
  · simp only [hn] at qe
    exact qe _ rfl
  simp only [hn] at qe qo
  obtain ⟨g1, g2, g3, g4⟩ := num_gt m1.2.2.2.1 hn
  have f2' := frT_trans f1 f2
  have u3 : ∀ j i, j < 33 → (mM_up M2 33 0 (nI w)).1 j i = M2.1 j i := up33 (by omega) (fun _ _ _ => rfl)
  have f3 : frC M (mM_up M2 33 0 (nI w)) := frC_up (frC_T f2') (by unfold pB; omega)
  refine s_number (lo := 3) (hi := 7) (MP_c u3 m2) rfl rfl (by omega) (by omega) (fun kd pl v hn2 M4 f4 b4 => f_27B b4 (frC_trans f3 (frC_T f4)) ?_) (fun hg a2 hn2 M4 f4 m4 r9 => r_fieldTold_27 ?_)
  · simp only [hn2] at qe
    exact qe _ rfl
  simp only [hn2] at qe qo
  obtain ⟨g5, g6, g7, g8⟩ := num_gt m2.2.2.2.1 hn2
  have u5 : ∀ j i, j < 33 → (mM_up M4 34 0 (nI hg)).1 j i = M4.1 j i := up33 (by omega) (fun _ _ _ => rfl)
  have f5 : frC M (mM_up M4 34 0 (nI hg)) := frC_up (frC_trans f3 (frC_T f4)) (by unfold pB; omega)
  have m5 := MP_c u5 m4
  have e33 : (mM_up M4 34 0 (nI hg)).1 33 0 = nI w := by rw [m_up, if_neg (by omega), kT f4 33 (by omega), m_up, if_pos ⟨rfl, rfl⟩]
  have e34 : (mM_up M4 34 0 (nI hg)).1 34 0 = nI hg := by rw [m_up, if_pos ⟨rfl, rfl⟩]
  have wh : w * hg ≤ 49 := Nat.mul_le_mul g4 g8
  have z36 : (36 : Int32) = nI 36 := rfl
  rw [e33, e34, n_mul, z36, n_le (by omega) (by omega)]
  have s0 := sk_ge T 0
  have s1 := sk_ge T a1
  have s5 := sk_ge T (sk T 0 + 5)
  have s2 := sk_ge T a2
  have hT := m5.1.2.2
  refine ⟨fun z => absurd m5.2.1 z, fun _ => ⟨fun h36 => r_fieldTold_60 ?_, fun h36 => s_fail (kd := 2) (pl := sk T a1) m5.2.1 rfl (by rw [u5 9 0 (by omega)]; exact r9) (by omega) (fun M6 f6 _ b6 => f_60B b6 (frC_trans f5 (frC_T f6)) ?_)⟩⟩
  rotate_left
  · rw [if_neg h36] at qe
    exact qe _ rfl
  rw [if_pos h36] at qe qo
  refine s_asksSign (c := 59) m5 rfl (by omega) (by decide) (fun c M6 f6 b6 => r_fieldTold_66 ⟨rfl, ?_⟩) (fun c _ _ M6 f6 m6 => r_fieldTold_66 ⟨rfl, ?_⟩)
  · rw [if_neg (fun z => c ((ch_B hT (by omega)).mpr z))] at qe
    exact qe _ rfl _ (frC_up (frC_trans f5 (frC_T f6)) (by unfold pB; omega)) (MBad_c (up33 (by omega) (fun _ _ _ => rfl)) b6)
  · rw [if_pos ((ch_B hT (by omega)).mp c)] at qo
    refine qo _ _ _ rfl ⟨⟨g3, g4⟩, ⟨g7, g8⟩, h36⟩ (by omega) _ (frC_up (frC_trans f5 (frC_T f6)) (by unfold pB; omega)) ?_ (fun j i h1 h2 => ?_) (MP_c (up33 (by omega) (fun _ _ _ => rfl)) m6) (MWd_c (up33 (by omega) (fun _ _ _ => rfl)) (MWd_f f6 (MWd_c u5 (MWd_f f4 (MWd_c u3 (MWd_f f2' hW)))))) ?_ ?_ (by rw [m_up, if_pos ⟨rfl, rfl⟩]; rfl)
    · rw [m_up2, f6.1, m_up2, f4.1, m_up2, f2'.1]
    · rw [m_up, if_neg (by omega), kT f6 j (by omega), m_up, if_neg (by omega), kT f4 j (by omega), m_up, if_neg (by omega), kT f2' j (by omega)]
    · rw [m_up, if_neg (by omega), kT f6 33 (by omega)]; exact e33
    · rw [m_up, if_neg (by omega), kT f6 34 (by omega)]; exact e34
def stsP (T : List Nat) (wd hg : Nat) : Nat → TB → Nat → Sum (Nat × Nat) (TB × Nat)
  | 0, t, a => if sk T a < T.length then .inl (5, sk T a) else .inr (t, 80)
  | m + 1, t, a => if sk T a < T.length then (match stFP T wd hg t (sk T a) with
      | .inl e => .inl e
      | .inr (t', a1) => stsP T wd hg m t' a1) else .inr (t, 79 - m)
theorem ch_end {b : Nat} (hT : tpOk T) : (ch T b = (-1 : Int32)) ↔ ¬ b < T.length := by
  unfold ch
  by_cases c : b < T.length
  · rw [if_pos c]
    have := hT.2 _ (getD_mem c)
    exact ⟨fun z => absurd ((n_eqg (a := T.getD b 0) (b := 1) (by omega) (by omega)).mp z).2 (by omega), fun z => absurd c z⟩
  · rw [if_neg c]
    exact ⟨fun _ => c, fun _ => rfl⟩
abbrev bEnd (M : mw) : mw := mM_up (mM_up M 7 0 (M.1 5 0)) 8 0 ((mM_up M 7 0 (M.1 5 0)).1 6 0)
theorem bEnd5 (M : mw) : (bEnd M).1 5 0 = M.1 5 0 := by
  unfold bEnd; rw [m_up, if_neg (by omega), m_up, if_neg (by omega)]
theorem b_90B {kd pl : Nat} (b : MBad kd pl M) (q : Q (some (.int (-1))) (bEnd M)) {o1 : Option Value} : T_border Q 90 [some (.ref 0), o1] [] M :=
  r_border_90 ⟨fun _ => ⟨fun z => absurd (by rw [← bEnd5 M]; exact z) (MBad_ne b), fun _ => ⟨trivial, q⟩⟩, fun z => absurd (MBad_ne b) z⟩
theorem b_90 {wd hg : Nat} (hf : fOk wd hg) {M0 : mw} (m : Nat) : ∀ (n : Nat) (t : TB) (a : Nat) (M : mw), n + m = 80 → MP T a M → MWd M → MTB wd hg t M → tOk t → rOk (tR t) → (rC (tR t)).length + 5 ≤ a → M.1 43 0 = nI n → frC M0 M →
    (∀ e, stsP T wd hg m t a = .inl e → ∀ M', frC M0 M' → MBad e.1 e.2 M' → Q (some (.int (-1))) (bEnd M')) →
    (∀ t' n', stsP T wd hg m t a = .inr (t', n') → n' ≤ 80 → tOk t' → rOk (tR t') → (rC (tR t')).length ≤ 1600 → ∀ M', frC M0 M' → M'.1 5 0 = 0 → MTB wd hg t' M' → M'.1 43 0 = nI n' → V_stands [.ref 0] (bEnd M') (fun v M1 => T_border Q 141 [some (.ref 0), none] (v.toList ++ []) M1)) →
    ∀ {o1 : Option Value}, T_border Q 90 [some (.ref 0), o1] [] M := by
  induction m with
  | zero =>
    intro n t a M hn h hW hb ht hro hl h43 f0 qe qo o1
    have hT := h.1.2.2
    have l16 := hT.1
    have e : stsP T wd hg 0 t a = if sk T a < T.length then .inl (5, sk T a) else .inr (t, 80) := rfl
    rw [e] at qe qo
    refine r_border_90 ⟨fun z => absurd h.2.1 z, fun _ => s_look a M h (frT_refl M) (fun M1 f1 m1 => r_border_101 ?_)⟩
    rw [ch_end hT]
    have f1' := frC_trans f0 (frC_T f1)
    have e43 : M1.1 43 0 = nI n := by rw [kT f1 43 (by omega)]; exact h43
    refine ⟨fun c => ⟨fun _ => ?_, fun z => absurd (by rw [bEnd5]; exact m1.2.1) z⟩, fun c => ?_⟩
    · rw [if_neg c] at qo
      exact qo _ _ rfl (by omega) ht hro (by have := h.2.2.2.1; omega) M1 f1' m1.2.1 (MTB_T f1 hb) (by rw [e43, show n = 80 from by omega])
    · rw [if_pos (Decidable.not_not.mp c)] at qe
      refine s_statementTold (t := t) m1 (sk_sk2 T a) (MWd_f f1 hW) (MTB_T f1 hb) ht hf (by have := sk_ge T a; omega) e43 (by omega) (fun e he M2 f2 b2 => r_border_109 (b_90B b2 ?_)) (fun t' a1 h80 => by omega)
      rcases he with he | he
      · rw [he.2] at b2
        exact qe _ rfl M2 (frC_trans f1' f2) b2
      · omega
  | succ m ih =>
    intro n t a M hn h hW hb ht hro hl h43 f0 qe qo o1
    have hT := h.1.2.2
    have l16 := hT.1
    have e : stsP T wd hg (m + 1) t a = if sk T a < T.length then (match stFP T wd hg t (sk T a) with | .inl e => .inl e | .inr (t', a1) => stsP T wd hg m t' a1) else .inr (t, 79 - m) := rfl
    rw [e] at qe qo
    refine r_border_90 ⟨fun z => absurd h.2.1 z, fun _ => s_look a M h (frT_refl M) (fun M1 f1 m1 => r_border_101 ?_)⟩
    rw [ch_end hT]
    have f1' := frC_trans f0 (frC_T f1)
    have e43 : M1.1 43 0 = nI n := by rw [kT f1 43 (by omega)]; exact h43
    refine ⟨fun c => ⟨fun _ => ?_, fun z => absurd (by rw [bEnd5]; exact m1.2.1) z⟩, fun c => ?_⟩
    · rw [if_neg c] at qo
      exact qo _ _ rfl (by omega) ht hro (by have := h.2.2.2.1; omega) M1 f1' m1.2.1 (MTB_T f1 hb) (by rw [e43, show n = 79 - m from by omega])
    · rw [if_pos (Decidable.not_not.mp c)] at qe qo
      refine s_statementTold (t := t) m1 (sk_sk2 T a) (MWd_f f1 hW) (MTB_T f1 hb) ht hf (by have := sk_ge T a; omega) e43 (by omega) (fun e he M2 f2 b2 => r_border_109 (b_90B b2 ?_)) (fun t' a1 h80 he ht' hl' M2 f2 m2 w2 b2 e2 => r_border_109 ?_)
      · rcases he with he | he
        · omega
        · simp only [he.2] at qe
          exact qe _ rfl M2 (frC_trans f1' f2) b2
      · have hro2 := st_rok ht hro m1.2.2.2.1 he
        simp only [he] at qe qo
        exact ih (n + 1) t' a1 M2 (by omega) m2 w2 b2 ht' hro2 hl' e2 (frC_trans f1' f2) qe qo
def tbZ : TB := ([], fun _ => 0, fun _ => 0, 0, [])
/-- what a text tells: wide, high, the rest, how many statements -/
def boP (T : List Nat) : Sum (Nat × Nat) (Nat × Nat × TB × Nat) := match fiP T with
  | .inl e => .inl e
  | .inr (w, hg, a) => match stsP T w hg 79 tbZ a with
    | .inl e => .inl e
    | .inr (t, n) => .inr (w, hg, t, n)
def frBo (M M' : mw) : Prop := (∀ k i, pB k i → k ≠ 43 → k ≠ 1 → k ≠ 3 → k ≠ 7 → k ≠ 8 → M'.1 k i = M.1 k i) ∧ ∀ k i, (k ≠ 38 ∨ 5 ≤ i) → M'.2 k i = M.2 k i
theorem tbZ_ok : tOk tbZ := ⟨by decide, fun q hq => absurd hq List.not_mem_nil, fun p => ⟨by show 0 < 2 + 2 * 0; omega, by show 0 ≠ 1; omega⟩, fun p => by show 0 < 3; omega, by decide, by decide⟩
theorem s_borderT (hT : MT T M) (ht : tpOk T) (hW : MWd M)
    (qe : ∀ e, boP T = .inl e → ∀ M', frBo M M' → M'.1 1 0 = 0 → M'.1 7 0 = nI e.1 → M'.1 8 0 = nI e.2 → Q (some (.int (-1))) M')
    (qo : ∀ w hg t n, boP T = .inr (w, hg, t, n) → fOk w hg → tOk t → rOk (tR t) → n ≤ 80 → (rC (tR t)).length ≤ 1600 → ∀ M', frBo M M' → M'.1 1 0 = 0 → M'.1 7 0 = 0 → M'.1 8 0 = -1 → MTB w hg t M' → M'.1 43 0 = nI n → V_stands [.ref 0] M' (fun v M1 => T_border Q 141 [some (.ref 0), none] (v.toList ++ []) M1)) : V_border [.ref 0] M Q := by
  have l16 := ht.1
  unfold boP at qe qo
  refine e_border (r_border_0 ?_)
  have st : ∀ j i, j ≠ 3 → j ≠ 1 → j ≠ 2 → j ≠ 4 → j ≠ 5 → j ≠ 6 → j ≠ 45 → (mM_up (mM_up (mM_up (mM_up (mM_up (mM_up (mM_up M 3 0 (M.1 1 0)) 1 0 0) 2 0 0) 4 0 (-1)) 5 0 0) 6 0 (-1)) 45 0 0).1 j i = M.1 j i := fun j i h1 h2 h3 h4 h5 h6 h7 => by
    rw [m_up, if_neg (by omega), m_up, if_neg (by omega), m_up, if_neg (by omega), m_up, if_neg (by omega), m_up, if_neg (by omega), m_up, if_neg (by omega), m_up, if_neg (by omega)]
  have s3 : (mM_up (mM_up (mM_up (mM_up (mM_up (mM_up (mM_up M 3 0 (M.1 1 0)) 1 0 0) 2 0 0) 4 0 (-1)) 5 0 0) 6 0 (-1)) 45 0 0).1 3 0 = nI T.length := by
    rw [m_up, if_neg (by omega), m_up, if_neg (by omega), m_up, if_neg (by omega), m_up, if_neg (by omega), m_up, if_neg (by omega), m_up, if_neg (by omega), m_up, if_pos ⟨rfl, rfl⟩]; exact hT.1
  have s1 : (mM_up (mM_up (mM_up (mM_up (mM_up (mM_up (mM_up M 3 0 (M.1 1 0)) 1 0 0) 2 0 0) 4 0 (-1)) 5 0 0) 6 0 (-1)) 45 0 0).1 1 0 = 0 := by
    rw [m_up, if_neg (by omega), m_up, if_neg (by omega), m_up, if_neg (by omega), m_up, if_neg (by omega), m_up, if_neg (by omega), m_up, if_pos ⟨rfl, rfl⟩]
  have s2 : (mM_up (mM_up (mM_up (mM_up (mM_up (mM_up (mM_up M 3 0 (M.1 1 0)) 1 0 0) 2 0 0) 4 0 (-1)) 5 0 0) 6 0 (-1)) 45 0 0).1 2 0 = 0 := by
    rw [m_up, if_neg (by omega), m_up, if_neg (by omega), m_up, if_neg (by omega), m_up, if_neg (by omega), m_up, if_pos ⟨rfl, rfl⟩]
  have s4 : (mM_up (mM_up (mM_up (mM_up (mM_up (mM_up (mM_up M 3 0 (M.1 1 0)) 1 0 0) 2 0 0) 4 0 (-1)) 5 0 0) 6 0 (-1)) 45 0 0).1 4 0 = -1 := by
    rw [m_up, if_neg (by omega), m_up, if_neg (by omega), m_up, if_neg (by omega), m_up, if_pos ⟨rfl, rfl⟩]
  have s5 : (mM_up (mM_up (mM_up (mM_up (mM_up (mM_up (mM_up M 3 0 (M.1 1 0)) 1 0 0) 2 0 0) 4 0 (-1)) 5 0 0) 6 0 (-1)) 45 0 0).1 5 0 = 0 := by
    rw [m_up, if_neg (by omega), m_up, if_neg (by omega), m_up, if_pos ⟨rfl, rfl⟩]
  have s6 : (mM_up (mM_up (mM_up (mM_up (mM_up (mM_up (mM_up M 3 0 (M.1 1 0)) 1 0 0) 2 0 0) 4 0 (-1)) 5 0 0) 6 0 (-1)) 45 0 0).1 6 0 = -1 := by
    rw [m_up, if_neg (by omega), m_up, if_pos ⟨rfl, rfl⟩]
  have s45 : (mM_up (mM_up (mM_up (mM_up (mM_up (mM_up (mM_up M 3 0 (M.1 1 0)) 1 0 0) 2 0 0) 4 0 (-1)) 5 0 0) 6 0 (-1)) 45 0 0).1 45 0 = 0 := by
    rw [m_up, if_pos ⟨rfl, rfl⟩]
  have sl : (mM_up (mM_up (mM_up (mM_up (mM_up (mM_up (mM_up M 3 0 (M.1 1 0)) 1 0 0) 2 0 0) 4 0 (-1)) 5 0 0) 6 0 (-1)) 45 0 0).2 = M.2 := rfl
  generalize (mM_up (mM_up (mM_up (mM_up (mM_up (mM_up (mM_up M 3 0 (M.1 1 0)) 1 0 0) 2 0 0) 4 0 (-1)) 5 0 0) 6 0 (-1)) 45 0 0) = N at *
  -- all is cleared
  let I : mw → Prop := fun K => K.2 = N.2 ∧ ∀ j i, ¬ (j = 37 ∧ i < 3) → j ≠ 41 → j ≠ 42 → K.1 j i = N.1 j i
  have fld : ∀ K : mw, I K → (∀ j, j < 3 → K.1 37 j = nI 0) → (∀ p, p < 36 → K.1 41 p = nI 0 ∧ K.1 42 p = nI 0) → V_fieldTold [.ref 0] K (fun v M1 => T_border Q 90 [some (.ref 0), some (.int (nI 36))] (v.toList ++ []) M1) := by
    intro K hK k37 k41
    have kk : ∀ j i, j ≠ 37 → j ≠ 41 → j ≠ 42 → K.1 j i = N.1 j i := fun j i h1 h2 h3 => hK.2 j i (by omega) h2 h3
    have mp : MP T 0 K := by
      refine ⟨⟨by rw [kk _ _ (by omega) (by omega) (by omega)]; exact s3, fun k hk => by rw [kk _ _ (by omega) (by omega) (by omega), st _ _ (by omega) (by omega) (by omega) (by omega) (by omega) (by omega) (by omega)]; exact hT.2 k hk, ht⟩, by rw [kk _ _ (by omega) (by omega) (by omega)]; exact s5, by rw [kk _ _ (by omega) (by omega) (by omega)]; exact s2, by omega, ?_⟩
      rw [kk _ _ (by omega) (by omega) (by omega), s4]
      exact ⟨by decide, ⟨fun z => absurd z (by decide), fun z => by unfold prt at z; simp at z⟩⟩
    have mw' : MWd K := fun k h1 h2 i hi => by rw [kk _ _ (by omega) (by omega) (by omega), st _ _ (by omega) (by omega) (by omega) (by omega) (by omega) (by omega) (by omega)]; exact hW k h1 h2 i hi
    -- what the end has
    have fin : ∀ M', frC K M' → frBo M (bEnd M') ∧ (bEnd M').1 1 0 = 0 := fun M' f' => by
      refine ⟨⟨fun k i p h1 h2 h3 h4 h5 => ?_, fun k i p => ?_⟩, ?_⟩
      · have p7 : k ≠ 37 ∨ 3 ≤ i := by unfold pB at p; omega
        have pn : k ≠ 41 ∧ k ≠ 42 ∧ k ≠ 2 ∧ k ≠ 4 ∧ k ≠ 5 ∧ k ≠ 6 ∧ k ≠ 45 := by unfold pB at p; omega
        unfold bEnd
        rw [m_up, if_neg (by omega), m_up, if_neg (by omega), f'.1 k i p h1, hK.2 k i (by omega) pn.1 pn.2.1, st k i h3 h2 pn.2.2.1 pn.2.2.2.1 pn.2.2.2.2.1 pn.2.2.2.2.2.1 pn.2.2.2.2.2.2]
      · show M'.2 k i = M.2 k i
        rw [f'.2.1 k i p, hK.1, sl]
      · unfold bEnd
        rw [m_up, if_neg (by omega), m_up, if_neg (by omega), f'.1 1 0 (by unfold pB; omega) (by omega), kk _ _ (by omega) (by omega) (by omega)]; exact s1
    have fe : ∀ e : Nat × Nat, ((∀ M', frBo M M' → M'.1 1 0 = 0 → M'.1 7 0 = nI e.1 → M'.1 8 0 = nI e.2 → Q (some (.int (-1))) M')) → ∀ M', frC K M' → MBad e.1 e.2 M' → Q (some (.int (-1))) (bEnd M') := fun e q M' f' b' => by
      obtain ⟨g1, g2⟩ := fin M' f'
      refine q _ g1 g2 ?_ ?_
      · unfold bEnd
        rw [m_up, if_neg (by omega), m_up, if_pos ⟨rfl, rfl⟩]; exact b'.1
      · unfold bEnd
        rw [m_up, if_pos ⟨rfl, rfl⟩, m_up, if_neg (by omega)]; exact b'.2.1
    refine s_fieldTold mp mw' (fun e he M1 f1 b1 => b_90B b1 (fe e (qe e (by simp only [he])) M1 f1 b1)) (fun w hg a1 he hf ha M1 f1 e2 e1 m1 w1 e33 e34 e43 => ?_)
    simp only [he] at qe qo
    have hb : MTB w hg tbZ M1 := by
      refine ⟨⟨e33, e34⟩, ⟨?_, fun k hk => absurd hk (Nat.not_lt_zero k)⟩, ⟨?_, fun p hp => ?_⟩, fun p hp => ?_, ⟨?_, fun k hk => absurd hk (Nat.not_lt_zero k)⟩, ?_, fun k hk => absurd hk (Nat.not_lt_zero k)⟩
      · rw [e1 _ _ (by omega) (by omega)]; exact k37 0 (by omega)
      · rw [e1 _ _ (by omega) (by omega)]; exact k37 1 (by omega)
      · rw [e1 _ _ (by omega) (by omega)]; exact (k41 p hp).1
      · rw [e1 _ _ (by omega) (by omega)]; exact (k41 p hp).2
      · rw [e1 _ _ (by omega) (by omega)]; exact k37 2 (by omega)
      · rw [e1 _ _ (by omega) (by omega), kk _ _ (by omega) (by omega) (by omega)]; exact s45
    refine b_90 (M0 := K) hf 79 1 tbZ a1 M1 (by omega) m1 w1 hb tbZ_ok (fun r hr => absurd hr List.not_mem_nil) (by show 0 + 5 ≤ a1; omega) e43 f1 (fun e he2 => fe e (qe e (by simp only [he2]))) (fun t' n' he2 hn' ht' hro' hl' M' f' b5 hb' h43 => ?_)
    simp only [he2] at qo
    obtain ⟨g1, g2⟩ := fin M' f'
    have g6 := (f'.2.2 b5).2
    have u : ∀ j i, j ≠ 7 → j ≠ 8 → (bEnd M').1 j i = M'.1 j i := fun j i h1 h2 => by unfold bEnd; rw [m_up, if_neg (by omega), m_up, if_neg (by omega)]
    refine qo _ _ _ _ rfl hf ht' hro' hn' hl' _ g1 g2 ?_ ?_ (MTB_c (M := M') rfl (fun j hj => by funext i; exact u j i (by omega) (by omega)) hb') (by rw [u _ _ (by omega) (by omega)]; exact h43)
    · unfold bEnd
      rw [m_up, if_neg (by omega), m_up, if_pos ⟨rfl, rfl⟩]; exact b5
    · unfold bEnd
      rw [m_up, if_pos ⟨rfl, rfl⟩, m_up, if_neg (by omega), g6, kk _ _ (by omega) (by omega) (by omega)]; exact s6
  have l60 : ∀ K : mw, I K → (∀ j, j < 3 → K.1 37 j = nI 0) → T_border Q 60 [some (.ref 0), some (.int (nI 0))] [] K := by
    intro K hK k37
    refine upTo 36 (fun k (K : mw) => I K ∧ (∀ j, j < 3 → K.1 37 j = nI 0) ∧ ∀ p, p < k → K.1 41 p = nI 0 ∧ K.1 42 p = nI 0) (fun k K => T_border Q 60 [some (.ref 0), some (.int (nI k))] [] K) ?_ ?_ 0 K (by omega) ⟨hK, k37, fun p hp => by omega⟩
    · intro K hI
      exact r_border_60 ⟨fun _ => fld K hI.1 hI.2.1 hI.2.2, fun z => absurd (by decide) z⟩
    · intro k K hk hI next
      refine r_border_60 ?_
      rw [show (36 : Int32) = nI 36 from rfl, n_le (by omega) (by omega), n_tn (by omega), show nI k + 1 = nI (k + 1) from n_add k 1]
      have iv : vp_in (nI k) 36 := (n_in (by omega)).mpr hk
      refine ⟨fun z => by omega, fun _ => ⟨iv, iv, next _ ⟨⟨hI.1.1, fun j i h1 h2 h3 => ?_⟩, fun j hj => ?_, fun p hp => ?_⟩⟩⟩
      · rw [m_up, if_neg (by omega), m_up, if_neg (by omega)]; exact hI.1.2 j i h1 h2 h3
      · rw [m_up, if_neg (by omega), m_up, if_neg (by omega)]; exact hI.2.1 j hj
      · by_cases e : p = k
        · refine ⟨?_, ?_⟩
          · rw [m_up, if_neg (by omega), m_up, if_pos ⟨rfl, e⟩]; rfl
          · rw [m_up, if_pos ⟨rfl, e⟩]; rfl
        · have := hI.2.2 p (by omega)
          refine ⟨?_, ?_⟩
          · rw [m_up, if_neg (by omega), m_up, if_neg (by omega)]; exact this.1
          · rw [m_up, if_neg (by omega), m_up, if_neg (by omega)]; exact this.2
  refine upTo 3 (fun k (K : mw) => I K ∧ ∀ j, j < k → K.1 37 j = nI 0) (fun k K => T_border Q 40 [some (.ref 0), some (.int (nI k))] [] K) ?_ ?_ 0 N (by omega) ⟨⟨rfl, fun _ _ _ _ _ => rfl⟩, fun p hp => by omega⟩
  · intro K hI
    exact r_border_40 ⟨fun _ => l60 K hI.1 hI.2, fun z => absurd (by decide) z⟩
  · intro k K hk hI next
    refine r_border_40 ?_
    rw [show (3 : Int32) = nI 3 from rfl, n_le (by omega) (by omega), n_tn (by omega), show nI k + 1 = nI (k + 1) from n_add k 1]
    refine ⟨fun z => by omega, fun _ => ⟨(n_in (by omega)).mpr (by omega), next _ ⟨⟨hI.1.1, fun j i h1 h2 h3 => ?_⟩, fun j hj => ?_⟩⟩⟩
    · rw [m_up, if_neg (by omega)]; exact hI.1.2 j i h1 h2 h3
    · by_cases e : j = k
      · rw [m_up, if_pos ⟨rfl, e⟩]; rfl
      · rw [m_up, if_neg (by omega)]; exact hI.2 j (by omega)
end
