/-! behind a fact, BorderStonesModel -/
section
variable {R : Option Value → mw → Prop} {T C W : List Nat} {a op ba : Nat} {M : mw}
theorem here_ch {w : List Nat} {c : Nat} (h : hereB T a w = true) (hc : isLe c = false) : chB T (sk T a) c = false := by
  unfold hereB isWd at h
  simp only [Bool.and_eq_true, decide_eq_true_eq] at h
  unfold chB
  rw [decide_eq_true h.1.1.1, Bool.true_and]
  refine decide_eq_false (fun z => ?_)
  rw [z, hc] at h
  cases h.1.1.2
/-- the way to the words, past a bracket that is not there or shuts nothing -/
theorem t_to (h : MX T a C W op ba M) (hc : chB T (sk T a) 93 = true → sqB W = false)
    (q : ∀ M', frT M M' → MX T (sk T a) C W op ba M' → V_takes [.ref 0, .ref 25] M' (fun v M1 => T_goesOnTest R 84 [some (.ref 0)] (v.toList ++ []) M1)) : T_goesOnTest R 0 [some (.ref 0)] [] M := by
  have hT := h.1.1.2.2
  have hsk := sk_is T h.1.2.2.2.1
  have ha := MX_a h
  have m4 := h.2.2.2.1
  refine r_goesOnTest_0 ⟨fun z => absurd h.1.2.1 z, fun _ => s_look a M h.1 (frT_refl M) (fun M1 f1 m1 => r_goesOnTest_11 ?_)⟩
  have x1 := MX_T h f1 m1 hsk.1
  refine ⟨fun _ => q M1 f1 x1, fun z => ?_⟩
  have z := (ch_B (c := 93) hT (by omega)).mp (Decidable.not_not.mp z)
  refine s_hasSquare x1.2.2.1 (by omega) x1.2.2.2.2.1 (r_goesOnTest_20 ?_)
  rw [hc z]
  exact ⟨fun _ => q M1 f1 x1, fun y => absurd rfl y⟩
theorem t_and {r : List Nat} (h : MX T a C (W ++ r.reverse) op ba M) (hb : ba ≤ W.length) (h14 : onB W 14 = false) (hu : ∀ u, u ∈ r → u = 14) (hh : hereB T a (wT 24) = true)
    (q : ∀ M', frE M M' → MX T (sk T a + 3) (C ++ r) (W ++ [14]) op ba M' → R (some (.int (nI 1))) M') : T_goesOnTest R 0 [some (.ref 0)] [] M := by
  have hss := sk_sk h.1.2.2.2.1
  have hsk := sk_is T h.1.2.2.2.1
  have hh2 := here_sk h.1.2.2.2.1 (wT 24)
  have m4 := h.2.2.2.1
  rw [List.length_append, List.length_reverse] at m4
  refine t_to h (fun z => by rw [here_ch hh (by decide)] at z; cases z) (fun M1 f1 x1 => ?_)
  refine s_takes (k := 24) x1.1 x1.2.1 (by omega) (by omega) (fun c => by rw [hh2, hh] at c; cases c) (fun c M2 f2 m2 => r_goesOnTest_84 ⟨fun z => absurd z (by decide), fun _ => ?_⟩)
  rw [hss, show (wT 24).length = 3 from rfl] at m2
  have x2 := MX_T x1 f2 m2 (by omega)
  exact t_87 h14 r C M2 x2 hb (by omega) hu (fun M3 f3 x3 => q M3 (frE_trans (frE_T (frT_trans f1 f2)) (frE_D f3)) x3)
theorem t_or {r : List Nat} (h : MX T a C (W ++ r.reverse) op ba M) (hb : ba ≤ W.length) (h14 : onB W 14 = false) (h15 : onB W 15 = false) (hu : ∀ u, u ∈ r → u = 14 ∨ u = 15) (hn : hereB T a (wT 24) = false) (hh : hereB T a (wT 23) = true)
    (q : ∀ M', frE M M' → MX T (sk T a + 2) (C ++ r) (W ++ [15]) op ba M' → R (some (.int (nI 1))) M') : T_goesOnTest R 0 [some (.ref 0)] [] M := by
  have hss := sk_sk h.1.2.2.2.1
  have hsk := sk_is T h.1.2.2.2.1
  have hs := here_sk h.1.2.2.2.1
  have m4 := h.2.2.2.1
  rw [List.length_append, List.length_reverse] at m4
  refine t_to h (fun z => by rw [here_ch hh (by decide)] at z; cases z) (fun M1 f1 x1 => ?_)
  refine s_takes (k := 24) x1.1 x1.2.1 (by omega) (by omega) (fun c M2 f2 m2 => r_goesOnTest_84 ⟨fun _ => ?_, fun z => absurd rfl z⟩) (fun c => by rw [hs, hn] at c; cases c)
  rw [hss] at m2
  have x2 := MX_T x1 f2 m2 (Nat.le_refl _)
  refine s_takes (k := 23) x2.1 x2.2.1 (by omega) (by omega) (fun c => by rw [hs, hh] at c; cases c) (fun c M3 f3 m3 => r_goesOnTest_134 ⟨fun z => absurd z (by decide), fun _ => ?_⟩)
  rw [hss, show (wT 23).length = 2 from rfl] at m3
  have x3 := MX_T x2 f3 m3 (by omega)
  exact t_137 h14 h15 r C M3 x3 hb (by omega) hu (fun M4 f4 x4 => q M4 (frE_trans (frE_T (frT_trans f1 (frT_trans f2 f3))) (frE_D f4)) x4)
/-- no word goes on: the end, or a bracket that is not shut -/
theorem t_end (h : MX T a C W op ba M) (hc : chB T (sk T a) 93 = true → sqB W = false) (hn : hereB T a (wT 24) = false) (hn2 : hereB T a (wT 23) = false)
    (q0 : sqB W = false → ∀ M', frT M M' → MX T (sk T a) C W op ba M' → R (some (.int (nI 0))) M')
    (q1 : sqB W = true → ∀ M', frT M M' → MBad 1 (sk T a) M' → R (some (.int (nI 0))) M') : T_goesOnTest R 0 [some (.ref 0)] [] M := by
  have hss := sk_sk h.1.2.2.2.1
  have hs := here_sk h.1.2.2.2.1
  have ha := MX_a h
  have m4 := h.2.2.2.1
  refine t_to h hc (fun M1 f1 x1 => ?_)
  refine s_takes (k := 24) x1.1 x1.2.1 (by omega) (by omega) (fun c M2 f2 m2 => r_goesOnTest_84 ⟨fun _ => ?_, fun z => absurd rfl z⟩) (fun c => by rw [hs, hn] at c; cases c)
  rw [hss] at m2
  have x2 := MX_T x1 f2 m2 (Nat.le_refl _)
  refine s_takes (k := 23) x2.1 x2.2.1 (by omega) (by omega) (fun c M3 f3 m3 => r_goesOnTest_134 ⟨fun _ => ⟨fun z => absurd m3.2.1 z, fun _ => ?_⟩, fun z => absurd rfl z⟩) (fun c => by rw [hs, hn2] at c; cases c)
  rw [hss] at m3
  have x3 := MX_T x2 f3 m3 (Nat.le_refl _)
  have f3 := frT_trans f1 (frT_trans f2 f3)
  refine s_hasSquare x3.2.2.1 (by omega) x3.2.2.2.2.1 (r_goesOnTest_196 ⟨fun z => r_goesOnTest_208 ⟨nr_0, q0 (bI_e0 z) M3 f3 x3⟩, fun z => ?_⟩)
  exact s_fail (kd := 1) (pl := sk T a) m3.2.1 rfl m3.2.2.1 (by omega) (fun M4 f4 _ b4 => r_goesOnTest_208 ⟨nr_0, q1 (bI_n0 z) M4 (frT_trans f3 f4) b4⟩)
end
