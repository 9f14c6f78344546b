/-! a statement; a border, BorderStonesModel -/
section
variable {Q : Option Value → mw → Prop} {T : List Nat} {a : Nat} {M : mw}
def stP (T : List Nat) (wd hg : Nat) (t : TB) (a : Nat) : Sum (Nat × Nat) (TB × Nat) :=
  if hereB T a (wT 11) = true then kindP T t (sk T a) (sk T a + 4)
  else if hereB T a (wT 16) = true then stoP T wd hg t (sk T a) (sk T a + 5)
  else if hereB T a (wT 20) = true then lanP T wd hg t (sk T a + 4)
  else if hereB T a (wT 21) = true then ruP T t (sk T a) (sk T a + 5)
  else .inl (1, sk T a)
/-- and what ends it -/
def stFP (T : List Nat) (wd hg : Nat) (t : TB) (a : Nat) : Sum (Nat × Nat) (TB × Nat) := match stP T wd hg t a with
  | .inl e => .inl e
  | .inr (t', a1) => if chB T (sk T a1) 59 = true then .inr (t', sk T a1 + 1) else .inl (1, sk T a1)
theorem mk_ge (f : Nat) : ∀ h s c a, a ≤ (mkP T f h s c a).2 ∧ (mkP T f h s c a).1 < 8 := by
  induction f with
  | zero => intro h s c a; exact ⟨sk_ge T a, mk3_lt h s c⟩
  | succ f ih =>
    intro h s c a
    have g := sk_ge T a
    unfold mkP
    split
    · split
      · exact ⟨g, mk3_lt h s c⟩
      · have := ih true s c (sk T a + 4); exact ⟨by omega, this.2⟩
    · split
      · split
        · exact ⟨g, mk3_lt h s c⟩
        · have := ih h true c (sk T a + 4); exact ⟨by omega, this.2⟩
      · split
        · split
          · exact ⟨g, mk3_lt h s c⟩
          · have := ih h s true (sk T a + 5); exact ⟨by omega, this.2⟩
        · exact ⟨g, mk3_lt h s c⟩
theorem here_le {k : Nat} (h1 : 10 ≤ k) (h2 : k < 32) (ha : a ≤ T.length) (h : hereB T a (wT k) = true) : sk T a + (wT k).length ≤ T.length := by
  have e := here_len h
  have w := wT_ok k h2 h1
  have := (spL_is T isLe (sk T a) (sk_is T ha).2).2.1
  have e2 : spL T isLe (sk T a) = wl T (sk T a) := rfl
  omega
theorem kind_ok {t : TB} {b : Nat} (ht : tOk t) (ha : a ≤ T.length) {t' : TB} {a1 : Nat} (h : kindP T t b a = .inr (t', a1)) : tOk t' ∧ a ≤ a1 ∧ tR t' = tR t := by
  unfold kindP at h
  have g := sk_ge T a
  split at h
  · cases h
  rename_i c
  unfold kiP at h
  cases hn : nmP T a with
  | inl e => simp only [hn] at h; cases h
  | inr e =>
  simp only [hn] at h
  obtain ⟨n1, n2, n3, n4⟩ := nm_ok ha hn
  by_cases c1 : kdL (tK t) (wdL T (sk T a) (e - sk T a)) ≠ none
  · rw [if_pos c1] at h; cases h
  rw [if_neg c1] at h
  by_cases c2 : hereB T e (wT 12) = true
  rotate_left
  · rw [if_neg c2] at h; cases h
  rw [if_pos c2] at h
  have hl := here_le (by omega) (by omega) n3 c2
  rw [show (wT 12).length = 5 from rfl] at hl
  cases hm : numP T (sk T e + 5) 1 6 with
  | inl e => simp only [hm] at h; cases h
  | inr x =>
  obtain ⟨r, a2⟩ := x
  simp only [hm] at h
  cases h
  obtain ⟨m1, m2, m3, m4⟩ := num_gt hl hm
  have k1 := mk_ge (T := T) 3 false false false a2
  have k2 := sk_ge T e
  have k3 := sk_ge T (sk T e + 5)
  obtain ⟨t1, t2, t3, t4, t5, t6⟩ := ht
  refine ⟨⟨?_, fun q hq => ?_, fun p => ?_, t4, t5, t6⟩, by omega, rfl⟩
  · show (tK t ++ [_]).length ≤ 5
    rw [List.length_append, List.length_singleton]; omega
  · rcases List.mem_append.mp hq with hq | hq
    · exact t2 q hq
    · rw [List.mem_singleton.mp hq]
      exact ⟨wdL_ok (by omega) (by omega) n4, ⟨m3, m4⟩, k1.2⟩
  · have := t3 p
    show tS t p < 2 + 2 * (tK t ++ [_]).length ∧ tS t p ≠ 1
    rw [List.length_append, List.length_singleton]
    omega
theorem sd_ge {v a1 : Nat} (h : sdP T a = .inr (v, a1)) : a ≤ a1 := by
  have g := sk_ge T a
  unfold sdP at h
  split at h
  · cases h; omega
  · split at h
    · cases h; omega
    · cases h
theorem sd_le {v a1 : Nat} (ha : a ≤ T.length) (h : sdP T a = .inr (v, a1)) : a1 ≤ T.length := by
  unfold sdP at h
  split at h
  · rename_i c
    have := here_le (by omega) (by omega) ha c
    rw [show (wT 17).length = 3 from rfl] at this
    cases h; omega
  · split at h
    · rename_i c
      have := here_le (by omega) (by omega) ha c
      rw [show (wT 18).length = 4 from rfl] at this
      cases h; omega
    · cases h
theorem plc_ge {wd hg p a1 np : Nat} (ha : a ≤ T.length) (h : plcP T wd hg a = .inr (p, a1, np)) : a ≤ a1 := by
  have g := sk_ge T a
  unfold plcP at h
  by_cases c : hereB T a (wT 19) = true
  rotate_left
  · rw [if_neg c] at h; cases h
  rw [if_pos c] at h
  have hl := here_le (by omega) (by omega) ha c
  rw [show (wT 19).length = 2 from rfl] at hl
  cases hm : numP T (sk T a + 2) 0 (wd - 1) with
  | inl e => simp only [hm] at h; cases h
  | inr x =>
  obtain ⟨r, a2⟩ := x
  simp only [hm] at h
  obtain ⟨m1, m2, m3, m4⟩ := num_gt hl hm
  have k3 := sk_ge T (sk T a + 2)
  cases hm2 : numP T a2 0 (hg - 1) with
  | inl e => simp only [hm2] at h; cases h
  | inr x =>
  obtain ⟨r2, a3⟩ := x
  simp only [hm2] at h
  obtain ⟨m5, m6, m7, m8⟩ := num_gt m2 hm2
  have k4 := sk_ge T a2
  cases h
  omega
theorem sto_ok {wd hg : Nat} {t : TB} {b : Nat} (ht : tOk t) (ha : a ≤ T.length) {t' : TB} {a1 : Nat} (h : stoP T wd hg t b a = .inr (t', a1)) : tOk t' ∧ a ≤ a1 ∧ tR t' = tR t := by
  unfold stoP at h
  have g := sk_ge T a
  split at h
  · cases h
  rename_i c
  cases hn : nmP T a with
  | inl e => simp only [hn] at h; cases h
  | inr e =>
  simp only [hn] at h
  obtain ⟨n1, n2, n3, n4⟩ := nm_ok ha hn
  cases hk : kdL (tK t) (wdL T (sk T a) (e - sk T a)) with
  | none => simp only [hk] at h; cases h
  | some k =>
  have hkl := kdL_lt hk
  simp only [hk] at h
  cases hs : sdP T e with
  | inl e => simp only [hs] at h; cases h
  | inr x =>
  obtain ⟨v, a2⟩ := x
  have hv := sd_lt hs
  have hg1 := sd_ge hs
  have hg2 := sd_le n3 hs
  simp only [hs] at h
  cases hp : plcP T wd hg a2 with
  | inl e => simp only [hp] at h; cases h
  | inr x =>
  obtain ⟨p, a3, np⟩ := x
  have hg3 := plc_ge hg2 hp
  simp only [hp] at h
  split at h
  · cases h
  cases h
  obtain ⟨t1, t2, t3, t4, t5, t6⟩ := ht
  refine ⟨⟨t1, t2, fun u => ?_, t4, by show tN t + 1 ≤ 20; omega, t6⟩, by omega, rfl⟩
  show (if u = p then 2 + 2 * k + v else tS t u) < 2 + 2 * (tK t).length ∧ (if u = p then 2 + 2 * k + v else tS t u) ≠ 1
  split
  · omega
  · exact t3 u
theorem lan_ok {wd hg : Nat} {t : TB} (ht : tOk t) (ha : a ≤ T.length) {t' : TB} {a1 : Nat} (h : lanP T wd hg t a = .inr (t', a1)) : tOk t' ∧ a ≤ a1 ∧ tR t' = tR t := by
  unfold lanP ldP at h
  cases hs : sdP T a with
  | inl e => simp only [hs] at h; cases h
  | inr x =>
  obtain ⟨v, a2⟩ := x
  have hv := sd_lt hs
  have hg1 := sd_ge hs
  have hg2 := sd_le ha hs
  simp only [hs] at h
  cases hp : plcP T wd hg a2 with
  | inl e => simp only [hp] at h; cases h
  | inr x =>
  obtain ⟨p, a3, np⟩ := x
  have hg3 := plc_ge hg2 hp
  simp only [hp] at h
  cases h
  obtain ⟨t1, t2, t3, t4, t5, t6⟩ := ht
  refine ⟨⟨t1, t2, t3, fun u => ?_, t5, t6⟩, by omega, rfl⟩
  show (if u = p then 1 + v else tL t u) < 3
  split
  · omega
  · exact t4 u
theorem ru_ok {t : TB} {b : Nat} (ht : tOk t) {t' : TB} {a1 : Nat} (h : ruP T t b a = .inr (t', a1)) : tOk t' := by
  unfold ruP at h
  split at h
  · cases h
  rename_i c
  cases hs : pE T FU 3 a 0 with
  | inl e => simp only [hs] at h; cases h
  | inr x =>
  obtain ⟨s, a2⟩ := x
  simp only [hs] at h
  split at h
  rotate_left
  · cases h
  cases hs2 : pT T FU FU 3 (sk T a2 + 4) 0 with
  | inl e => simp only [hs2] at h; cases h
  | inr x =>
  obtain ⟨s2, a3⟩ := x
  simp only [hs2] at h
  cases h
  obtain ⟨t1, t2, t3, t4, t5, t6⟩ := ht
  refine ⟨t1, t2, t3, t4, t5, ?_⟩
  show (tR t ++ [_]).length ≤ 6
  rw [List.length_append, List.length_singleton]; omega
theorem s_statementTold {wd hg n : Nat} {t : TB} (h : MP T a M) (hs : sk T a = a) (hW : MWd M) (hb : MTB wd hg t M) (ht : tOk t) (hf : fOk wd hg) (hl : (rC (tR t)).length + 5 ≤ a) (h43 : M.1 43 0 = nI n) (hn : n ≤ 80)
    (qe : ∀ e, (n = 80 ∧ e = (5, a) ∨ n < 80 ∧ stFP T wd hg t a = .inl e) → ∀ M', frC M M' → MBad e.1 e.2 M' → Q none M')
    (qo : ∀ t' a1, n < 80 → stFP T wd hg t a = .inr (t', a1) → tOk t' → (rC (tR t')).length + 5 ≤ a1 → ∀ M', frC M M' → MP T a1 M' → MWd M' → MTB wd hg t' M' → M'.1 43 0 = nI (n + 1) → Q none M') : V_statementTold [.ref 0] M Q := by
  have ha := h.2.2.2.1
  have hss := sk_sk2 T a
  have hhs : ∀ w, hereB T (sk T a) w = hereB T a w := fun w => by unfold hereB; rw [hss]
  have l16 := h.1.2.2.1
  -- behind a fault
  have fb : ∀ (kd pl : Nat) (M1 : mw), n < 80 → stFP T wd hg t a = .inl (kd, pl) → frB M M1 → MBad kd pl M1 → ∀ {o1 : Option Value}, T_statementTold Q 97 [some (.ref 0), o1] [] M1 := fun kd pl M1 h80 hst f1 b1 _ =>
    r_statementTold_97 (s_asksSignB b1 _ (r_statementTold_103 ⟨rfl, qe (kd, pl) (Or.inr ⟨h80, hst⟩) _ (frC_up (frC_B f1) (by unfold pB; omega)) (MBad_c (up33 (by omega) (fun _ _ _ => rfl)) b1)⟩))
  -- behind a statement
  have fo : ∀ (t' : TB) (a1 : Nat) (M1 : mw), n < 80 → stP T wd hg t a = .inr (t', a1) → tOk t' → (rC (tR t')).length + 5 ≤ a1 → frB M M1 → MP T a1 M1 → MWd M1 → MTB wd hg t' M1 → ∀ {o1 : Option Value}, T_statementTold Q 97 [some (.ref 0), o1] [] M1 := fun t' a1 M1 h80 hst ht' hl' f1 m1 w1 b1 _ => by
    have hT := m1.1.2.2
    refine r_statementTold_97 (s_asksSign (c := 59) m1 rfl (by omega) (by decide) (fun c M2 f2 b2 => r_statementTold_103 ⟨rfl, ?_⟩) (fun c _ _ M2 f2 m2 => r_statementTold_103 ⟨rfl, ?_⟩))
    · refine qe (1, sk T a1) (Or.inr ⟨h80, ?_⟩) _ (frC_up (frC_B (frB_trans f1 (frB_T f2))) (by unfold pB; omega)) (MBad_c (up33 (by omega) (fun _ _ _ => rfl)) b2)
      unfold stFP
      simp only [hst]
      rw [if_neg (fun z => c ((ch_B hT (by omega)).mpr z))]
    · have g := sk_ge T a1
      rw [kT f2 43 (by omega), f1.1 43 0 (by unfold pB; omega), h43, show nI n + 1 = nI (n + 1) from n_add n 1]
      refine qo t' (sk T a1 + 1) h80 ?_ ht' (by omega) _ (frC_up (frC_B (frB_trans f1 (frB_T f2))) (by unfold pB; omega)) (MP_c (up33 (by omega) (fun _ _ _ => rfl)) m2) (MWd_c (up33 (by omega) (fun _ _ _ => rfl)) (MWd_f f2 w1)) ?_ (by rw [m_up, if_pos ⟨rfl, rfl⟩])
      · unfold stFP
        simp only [hst]
        rw [if_pos ((ch_B hT (by omega)).mp c)]
      · have b2 := MTB_T f2 b1
        have u : ∀ j i, j ≠ 43 → (mM_up M2 43 0 (nI (n + 1))).1 j i = M2.1 j i := fun j i hj => by rw [m_up, if_neg (by omega)]
        unfold MTB MKd MRl at *
        simp only [m_up2, u 33 _ (by omega), u 34 _ (by omega), u 37 _ (by omega), u 39 _ (by omega), u 40 _ (by omega), u 41 _ (by omega), u 42 _ (by omega), u 44 _ (by omega), u 45 _ (by omega), u 49 _ (by omega), u 50 _ (by omega), u 51 _ (by omega)]
        exact b2
  have z80 : (80 : Int32) = nI 80 := rfl
  refine e_statementTold (r_statementTold_0 ?_)
  rw [h43, z80, n_eq (by omega) (by omega), h.2.2.1]
  refine ⟨fun h80 => ?_, fun h80 => s_fail (kd := 5) (pl := a) h.2.1 rfl rfl (by omega) (fun M1 f1 _ b1 => r_statementTold_20 ⟨rfl, qe (5, a) (Or.inl ⟨Decidable.not_not.mp h80, rfl⟩) M1 (frC_B (frB_T f1)) b1⟩)⟩
  have h80 : n < 80 := by omega
  have fe : ∀ e, stP T wd hg t a = .inl e → stFP T wd hg t a = .inl (e.1, e.2) := fun e he => by unfold stFP; simp only [he]
  have hp : stP T wd hg t a = if hereB T a (wT 11) = true then kindP T t (sk T a) (sk T a + 4) else if hereB T a (wT 16) = true then stoP T wd hg t (sk T a) (sk T a + 5) else if hereB T a (wT 20) = true then lanP T wd hg t (sk T a + 4) else if hereB T a (wT 21) = true then ruP T t (sk T a) (sk T a + 5) else .inl (1, sk T a) := rfl
  have ff : ¬ false = true := by decide
  refine s_takes (k := 11) h hW (by omega) (by omega) (fun c1 M1 f1 m1 => r_statementTold_29 ⟨fun _ => ?_, fun z => absurd rfl z⟩) (fun c1 M1 f1 m1 => r_statementTold_29 ⟨fun z => absurd z (by decide), fun _ => ?_⟩)
  rotate_left
  · rw [if_pos c1] at hp
    rw [show (wT 11).length = 4 from rfl] at m1
    refine s_kindTold (t := t) (b := sk T a) m1 (MWd_f f1 hW) (MTB_T f1 hb) ht (by rw [hs]) (fun e he M2 f2 b2 => r_statementTold_37 (fb _ _ M2 h80 (fe e (hp.trans he)) (frB_trans (frB_T f1) f2) b2)) (fun t' a1 he M2 f2 m2 w2 b2 => r_statementTold_37 ?_)
    obtain ⟨o1, o2, o3⟩ := kind_ok ht m1.2.2.2.1 he
    exact fo t' a1 M2 h80 (hp.trans he) o1 (by rw [o3]; omega) (frB_trans (frB_T f1) f2) m2 w2 b2
  rw [if_neg (by rw [c1]; exact ff)] at hp
  have hW1 := MWd_f f1 hW
  have b1 := MTB_T f1 hb
  refine s_takes (k := 16) m1 hW1 (by omega) (by omega) (fun c2 M2 f2 m2 => r_statementTold_48 ⟨fun _ => ?_, fun z => absurd rfl z⟩) (fun c2 M2 f2 m2 => r_statementTold_48 ⟨fun z => absurd z (by decide), fun _ => ?_⟩)
  rotate_left
  · rw [hhs] at c2
    rw [if_pos c2] at hp
    rw [hss, show (wT 16).length = 5 from rfl] at m2
    have f2' := frT_trans f1 f2
    refine s_stoneIsTold (t := t) (b := sk T a) m2 (MWd_f f2' hW) (MTB_T f2' hb) ht hf (by rw [hs]) (fun e he M3 f3 b3 => r_statementTold_56 (fb _ _ M3 h80 (fe e (hp.trans he)) (frB_trans (frB_T f2') f3) b3)) (fun t' a1 he M3 f3 m3 w3 b3 => r_statementTold_56 ?_)
    obtain ⟨o1, o2, o3⟩ := sto_ok ht m2.2.2.2.1 he
    exact fo t' a1 M3 h80 (hp.trans he) o1 (by rw [o3]; omega) (frB_trans (frB_T f2') f3) m3 w3 b3
  rw [hhs] at c2
  rw [hss] at m2
  rw [if_neg (by rw [c2]; exact ff)] at hp
  have f2' := frT_trans f1 f2
  refine s_takes (k := 20) m2 (MWd_f f2' hW) (by omega) (by omega) (fun c3 M3 f3 m3 => r_statementTold_67 ⟨fun _ => ?_, fun z => absurd rfl z⟩) (fun c3 M3 f3 m3 => r_statementTold_67 ⟨fun z => absurd z (by decide), fun _ => ?_⟩)
  rotate_left
  · rw [hhs] at c3
    rw [if_pos c3] at hp
    rw [hss, show (wT 20).length = 4 from rfl] at m3
    have f3' := frT_trans f2' f3
    refine s_landT (t := t) m3 (MWd_f f3' hW) (MTB_T f3' hb) ht hf (fun e he M4 f4 b4 => r_statementTold_74 (fb _ _ M4 h80 (fe e (hp.trans he)) (frB_trans (frB_T f3') f4) b4)) (fun t' a1 he M4 f4 m4 w4 b4 => r_statementTold_74 ?_)
    obtain ⟨o1, o2, o3⟩ := lan_ok ht m3.2.2.2.1 he
    exact fo t' a1 M4 h80 (hp.trans he) o1 (by rw [o3]; omega) (frB_trans (frB_T f3') f4) m4 w4 b4
  rw [hhs] at c3
  rw [hss] at m3
  rw [if_neg (by rw [c3]; exact ff)] at hp
  have f3' := frT_trans f2' f3
  refine s_asks (k := 21) m3 (MWd_f f3' hW) (by omega) (by omega) (fun c4 M4 f4 b4 => r_statementTold_85 ⟨fun _ => ?_, fun z => absurd (MBad_ne b4) z⟩) (fun c4 M4 f4 m4 => r_statementTold_85 ⟨fun z => absurd m4.2.1 z, fun _ => ?_⟩)
  · rw [hhs] at c4
    rw [hss] at b4
    rw [if_neg (by rw [c4]; exact ff)] at hp
    exact fb _ _ M4 h80 (fe _ hp) (frB_T (frT_trans f3' f4)) b4
  · rw [hhs] at c4
    rw [if_pos c4] at hp
    rw [hss, show (wT 21).length = 5 from rfl] at m4
    have f4' := frT_trans f3' f4
    exact s_worthTold (t := t) (b := sk T a) m4 (MWd_f f4' hW) (MTB_T f4' hb) ht (by rw [hs]) (by omega) (fun e he M5 f5 b5 => fb _ _ M5 h80 (fe e (hp.trans he)) (frB_trans (frB_T f4') f5) b5) (fun t' a1 he hl' M5 f5 m5 w5 b5 => fo t' a1 M5 h80 (hp.trans he) (ru_ok ht he) hl' (frB_trans (frB_T f4') f5) m5 w5 b5)
end
