/-! one part of a sum, BorderStonesModel -/
theorem here_sk {T : List Nat} {a : Nat} (h : a ≤ T.length) (w : List Nat) : hereB T (sk T a) w = hereB T a w := by unfold hereB; rw [sk_sk h]
theorem num_sk {T : List Nat} {a : Nat} (h : a ≤ T.length) (lo hi : Nat) : numP T (sk T a) lo hi = numP T a lo hi := by unfold numP; rw [sk_sk h]
theorem num_gt {T : List Nat} {a lo hi v e : Nat} (ha : a ≤ T.length) (h : numP T a lo hi = .inr (v, e)) : sk T a < e ∧ e ≤ T.length ∧ lo ≤ v ∧ v ≤ hi := by
  unfold numP at h
  have hs := sk_is T ha
  generalize sk T a = b at *
  split at h
  · rename_i c
    simp only [Bool.and_eq_true, decide_eq_true_eq] at c
    have g1 : dl T b = dl T (b + 1) := spL_go c.1.1 c.1.2
    have g2 := spL_is T isDi (b + 1) (by omega)
    have g3 : spL T isDi (b + 1) = dl T (b + 1) := rfl
    rw [g3] at g2
    split at h
    · cases h
    · split at h
      · rename_i c2
        cases h
        exact ⟨by omega, by omega, c2.1, c2.2⟩
      · cases h
  · cases h
section
variable {R : Option Value → mw → Prop} {T C W : List Nat} {a op ba : Nat} {M : mw}
/-- there is room for codes yet, even behind a fault -/
def cdB (M : mw) : Prop := ∃ n, n ≤ 1597 ∧ M.1 45 0 = nI n
theorem cd_T {M' : mw} (h : MX T a C W op ba M) (f : frT M M') : cdB M' := by
  have ha := MX_a h
  have m4 := h.2.2.2.1
  exact ⟨C.length, by omega, by rw [f.2.1 45 (by omega) (by omega) (by omega) (by omega) (by omega) (by omega)]; exact h.2.2.1.1.1⟩
theorem cd_up {k i : Nat} {v : Int32} (h : cdB M) (hk : k ≠ 45) : cdB (mM_up M k i v) := by
  obtain ⟨n, h1, h2⟩ := h
  exact ⟨n, h1, by rw [m_up, if_neg (by omega)]; exact h2⟩
theorem p_bad {kd pl : Nat} {x : Int32} (h : MBad kd pl M) (q : R none M) {o2 o3 o4 : Option Value} : T_onePart R 2 [some (.ref 0), some (.int x), o2, o3, o4] [] M :=
  r_onePart_2 ⟨fun _ => ⟨fun z => absurd z (MBad_ne h), fun _ => ⟨rfl, q⟩⟩, fun _ => ⟨fun _ => ⟨fun z => absurd z (MBad_ne h), fun _ => ⟨rfl, q⟩⟩, fun z => absurd (MBad_ne h) z⟩⟩
theorem MBad_up {kd pl k i : Nat} {v : Int32} (h : MBad kd pl M) (hk : k ≠ 5 ∧ k ≠ 6) : MBad kd pl (mM_up M k i v) := by
  obtain ⟨a, b, c⟩ := h
  exact ⟨by rw [m_up, if_neg (by omega)]; exact a, by rw [m_up, if_neg (by omega)]; exact b, c⟩
/-- a bracket opens -/
theorem p_open (h : MX T a C W op ba M) (hc : chB T (sk T a) 40 = true)
    (q0 : op = 6 → ∀ M', frE M M' → MBad 4 (sk T a) M' → cdB M' → R none M')
    (q1 : op < 6 → ∀ M', frE M M' → MX T (sk T a + 1) C (W ++ [20]) (op + 1) ba M' → ∀ {o2 o3 o4 : Option Value}, T_onePart R 2 [some (.ref 0), some (.int (nI 1)), o2, o3, o4] [] M') {o2 o3 o4 : Option Value} : T_onePart R 2 [some (.ref 0), some (.int (nI 1)), o2, o3, o4] [] M := by
  have hT := h.1.1.2.2
  have hsk := sk_is T h.1.2.2.2.1
  refine r_onePart_2 ⟨fun z => absurd z (by decide), fun _ => ⟨fun z => absurd h.1.2.1 z, fun _ => s_look a M h.1 (frT_refl M) (fun M1 f1 m1 => r_onePart_17 ?_)⟩⟩
  have x1 := MX_T h f1 m1 hsk.1
  have x16 := MX_a x1
  have x4 := x1.2.2.2.1
  generalize sk T a = b at *
  have hbl : b < T.length ∧ T.getD b 0 = 40 := by
    unfold chB at hc
    rw [Bool.and_eq_true, decide_eq_true_eq, decide_eq_true_eq] at hc
    exact hc
  refine ⟨fun z => absurd ((ch_B (b := b) (c := 40) hT (by omega)).mpr hc) z, fun _ => s_opens (v := 20) (pl := b) m1.2.1 x1.2.2.1 x1.2.2.2.2.2.2 rfl m1.2.2.1 (by omega) (fun o6 M2 f2 b2 => r_onePart_34 ?_) (fun o6 M2 f2 e2 => r_onePart_34 ?_)⟩
  · exact p_bad (MBad_up b2 (by omega)) (q0 o6 _ (frE_T (frT_up (frT_trans f1 f2) (by omega))) (MBad_up b2 (by omega)) (cd_T h (frT_up (frT_trans f1 f2) (by omega))))
  · have m2 := MP_D f2 m1
    rw [m2.2.2.1, show nI b + 1 = nI (b + 1) from n_add b 1]
    have fu : frT M2 (mM_up M2 2 0 (nI (b + 1))) := frT_up (frT_refl M2) (by omega)
    refine q1 o6 _ (frE_trans (frE_T f1) (frE_trans (frE_D f2) (frE_T fu))) ⟨⟨MPt_f fu m2.1, by rw [m_up, if_neg (by omega)]; exact m2.2.1, by rw [m_up, if_pos ⟨rfl, rfl⟩], by omega, by rw [m_up, if_neg (by omega)]; exact en_next m2.2.2.2.2 (by omega) (by rw [hbl.2]; decide)⟩, MWd_f fu (MWd_D f2 x1.2.1), MEx_T fu e2, by rw [List.length_append, List.length_singleton]; omega, mem_app x1.2.2.2.2.1 (by omega), by rw [List.length_append]; have := x1.2.2.2.2.2.1; omega, by omega⟩
/-- the least or the most of two opens -/
theorem p_mm (h : MX T a C W op ba M) (nc : chB T (sk T a) 40 = false) (hh : hereB T a (wT 30) = true ∨ hereB T a (wT 31) = true)
    (q0 : chB T (sk T (sk T a + 3)) 40 = false → ∀ M', frE M M' → MBad 1 (sk T (sk T a + 3)) M' → cdB M' → R none M')
    (q1 : chB T (sk T (sk T a + 3)) 40 = true → op = 6 → ∀ M', frE M M' → MBad 4 (sk T (sk T a + 3)) M' → cdB M' → R none M')
    (q2 : chB T (sk T (sk T a + 3)) 40 = true → op < 6 → ∀ M', frE M M' → MX T (sk T (sk T a + 3) + 1) C (W ++ [if hereB T a (wT 30) = true then 21 else 22]) (op + 1) ba M' → ∀ {o2 o3 o4 : Option Value}, T_onePart R 2 [some (.ref 0), some (.int (nI 1)), o2, o3, o4] [] M') {o2 o3 o4 : Option Value} : T_onePart R 2 [some (.ref 0), some (.int (nI 1)), o2, o3, o4] [] M := by
  have hT := h.1.1.2.2
  have hsk := sk_is T h.1.2.2.2.1
  have hss := sk_sk h.1.2.2.2.1
  have hh30 := here_sk h.1.2.2.2.1 (wT 30)
  have hh31 := here_sk h.1.2.2.2.1 (wT 31)
  have l30 : (wT 30).length = 3 := rfl
  have l31 : (wT 31).length = 3 := rfl
  -- behind the word
  have behind : ∀ (z : Bool) (M1 : mw), z = hereB T a (wT 30) → frE M M1 → MX T (sk T a + 3) C W op ba M1 → ∀ {o2 o4 : Option Value}, T_onePart R 90 [some (.ref 0), some (.int (nI 1)), o2, some (.int (bI z)), o4] [] M1 := by
    intro z M1 hz f1 x1 o2 o4
    have hsd := sk_is T x1.1.2.2.2.1
    have hsd2 := sk_sk x1.1.2.2.2.1
    refine r_onePart_90 (s_look _ M1 x1.1 (frT_refl M1) (fun M2 f2 m2 => r_onePart_94 ?_))
    have x2 := MX_T x1 f2 m2 hsd.1
    have x16 := MX_a x2
    have x4 := x2.2.2.2.1
    generalize sk T (sk T a + 3) = d at *
    have opn : ∀ v : Nat, v = (if hereB T a (wT 30) = true then 21 else 22) → chB T d 40 = true → ∀ {o2 o3 o4 : Option Value}, V_opens [.ref 0, .int (nI v), .int (nI d)] M2 (fun u M3 => T_onePart R 132 [some (.ref 0), some (.int (nI 1)), o2, o3, o4] (u.toList ++ []) M3) := by
      intro v hv hc o2 o3 o4
      have hbl : d < T.length ∧ T.getD d 0 = 40 := by
        unfold chB at hc
        rw [Bool.and_eq_true, decide_eq_true_eq, decide_eq_true_eq] at hc
        exact hc
      refine s_opens (v := v) (pl := d) m2.2.1 x2.2.2.1 x2.2.2.2.2.2.2 rfl rfl (by omega) (fun o6 M3 f3 b3 => r_onePart_132 (s_asksSignB b3 _ (r_onePart_138 (p_bad b3 (q1 hc o6 M3 (frE_trans f1 (frE_T (frT_trans f2 f3))) b3 (cd_T x1 (frT_trans f2 f3))))))) (fun o6 M3 f3 e3 => r_onePart_132 ?_)
      have m3 := MP_D f3 m2
      refine s_asksSign (c := 40) m3 rfl (by omega) (by decide) (fun z2 => ?_) (fun _ _ _ M4 f4 m4 => r_onePart_138 ?_)
      · rw [hsd2] at z2
        exact absurd ((ch_B hT (by omega)).mpr hc) z2
      · rw [hsd2] at m4
        rw [← hv] at q2
        refine q2 hc o6 M4 (frE_trans f1 (frE_trans (frE_T f2) (frE_trans (frE_D f3) (frE_T f4)))) ⟨m4, MWd_f f4 (MWd_D f3 x2.2.1), MEx_T f4 e3, by rw [List.length_append, List.length_singleton]; omega, mem_app x2.2.2.2.2.1 (by split at hv <;> omega), by rw [List.length_append]; have := x2.2.2.2.2.2.1; omega, by omega⟩
    rw [m2.2.2.1]
    have nm : ¬ nI d = -1 := fun y => by have := (n_eqg (a := d) (b := 1) (by omega) (by omega)).mp y; omega
    refine ⟨fun c => ⟨fun _ => r_onePart_132 ?_, fun y => absurd rfl y⟩, fun c => ⟨fun y => absurd y nm, fun _ => ⟨fun y => ?_, fun y => ?_⟩⟩⟩
    · have c : chB T d 40 = false := by
        cases y : chB T d 40
        · rfl
        · exact absurd ((ch_B hT (by omega)).mpr y) c
      refine s_asksSign (c := 40) m2 rfl (by omega) (by decide) (fun _ M3 f3 b3 => r_onePart_138 ?_) (fun z2 => ?_)
      · rw [hsd2] at b3
        exact p_bad b3 (q0 c M3 (frE_trans f1 (frE_T (frT_trans f2 f3))) b3 (cd_T x1 (frT_trans f2 f3)))
      · rw [hsd2] at z2
        rw [(ch_B hT (by omega)).mp z2] at c; cases c
    · have c := (ch_B (b := d) (c := 40) hT (by omega)).mp (Decidable.not_not.mp c)
      exact opn 22 (by rw [← hz, bI_e0 y]; rfl) c
    · have c := (ch_B (b := d) (c := 40) hT (by omega)).mp (Decidable.not_not.mp c)
      exact opn 21 (by rw [← hz, bI_n0 y]; rfl) c
  refine r_onePart_2 ⟨fun z => absurd z (by decide), fun _ => ⟨fun z => absurd h.1.2.1 z, fun _ => s_look a M h.1 (frT_refl M) (fun M1 f1 m1 => r_onePart_17 ?_)⟩⟩
  have x1 := MX_T h f1 m1 hsk.1
  have n40 : ¬ ch T (sk T a) = 40 := fun z => by
    rw [(ch_B (c := 40) hT (by omega)).mp z] at nc; cases nc
  have take : ∀ (M2 : mw), frT M M2 → MX T (sk T a) C W op ba M2 → V_takes [.ref 0, .ref 31] M2 (fun v M3 => T_onePart R 77 [some (.ref 0), some (.int (nI 1)), none, none, none] (v.toList ++ []) M3) := by
    intro M2 f2 x2
    refine s_takes (k := 30) x2.1 x2.2.1 (by omega) (by omega) (fun c M3 f3 m3 => ?_) (fun c M3 f3 m3 => ?_)
    · rw [hss] at m3
      rw [hh30] at c
      have x3 := MX_T x2 f3 m3 (Nat.le_refl _)
      refine r_onePart_77 ⟨fun z => absurd rfl z, fun _ => s_asks (k := 31) m3 x3.2.1 (by omega) (by omega) (fun c2 => ?_) (fun c2 M4 f4 m4 => ?_)⟩
      · rw [hh31] at c2
        rcases hh with g | g
        · rw [g] at c; cases c
        · rw [g] at c2; cases c2
      · rw [hss, l31] at m4
        exact behind false M4 c.symm (frE_T (frT_trans f2 (frT_trans f3 f4))) (MX_T x3 f4 m4 (by omega))
    · rw [hss, l30] at m3
      rw [hh30] at c
      exact r_onePart_77 ⟨fun _ => behind true M3 c.symm (frE_T (frT_trans f2 f3)) (MX_T x2 f3 m3 (by omega)), fun z => absurd (by decide) z⟩
  refine ⟨fun _ => s_isHere (k := 30) x1.1 x1.2.1 (by omega) (by omega) (fun M2 f2 m2 => r_onePart_55 ?_), fun z => absurd n40 z⟩
  rw [hss] at m2
  have x2 := MX_T x1 f2 m2 (Nat.le_refl _)
  refine ⟨fun _ => take M2 (frT_trans f1 f2) x2, fun z => s_isHere (k := 31) x2.1 x2.2.1 (by omega) (by omega) (fun M3 f3 m3 => r_onePart_66 ?_)⟩
  rw [hss] at m3
  have x3 := MX_T x2 f3 m3 (Nat.le_refl _)
  refine ⟨fun z2 => ?_, fun _ => take M3 (frT_trans f1 (frT_trans f2 f3)) x3⟩
  have z := bI_nn0 z
  have z2 := bI_e0 z2
  rw [hh30] at z
  rw [hh31] at z2
  rcases hh with g | g
  · rw [g] at z; cases z
  · rw [g] at z2; cases z2
end
