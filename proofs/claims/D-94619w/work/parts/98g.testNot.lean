/-! 'not' and plain facts ahead, BorderStonesModel -/
section
variable {R Q : Option Value → mw → Prop} {T C W : List Nat} {a op ba : Nat} {M : mw}
theorem h_not (h : MX T a C W op ba M) (hc : hereB T a (wT 25) = true)
    (q0 : op = 6 → ∀ M', frE M M' → MBad 4 (sk T a) M' → Q none M')
    (q1 : op < 6 → ∀ M', frE M M' → MX T (sk T a + 3) C (W ++ [16]) (op + 1) ba M' → ∀ (o2 : Option Value), T_test Q 2 [some (.ref 0), some (.int (nI 1)), o2] [] M') (o2 : Option Value) : T_test Q 2 [some (.ref 0), some (.int (nI 1)), o2] [] M := by
  have hT := h.1.1.2.2
  have hsk := sk_is T h.1.2.2.2.1
  have hss := sk_sk h.1.2.2.2.1
  have hs := here_sk h.1.2.2.2.1 (wT 25)
  have n91 := here_ch (c := 91) hc (by decide)
  refine r_test_2 ⟨fun z => absurd z (by decide), fun _ => ⟨fun z => absurd h.1.2.1 z, fun _ => s_look a M h.1 (frT_refl M) (fun M1 f1 m1 => r_test_17 ?_)⟩⟩
  have x1 := MX_T h f1 m1 hsk.1
  refine ⟨fun _ => s_isHere (k := 25) x1.1 x1.2.1 (by omega) (by omega) (fun M2 f2 m2 => r_test_55 ?_), fun z => ?_⟩
  rotate_left
  · rw [(ch_B (c := 91) hT (by omega)).mp (Decidable.not_not.mp z)] at n91; cases n91
  rw [hss] at m2
  rw [hs, hc]
  have x2 := MX_T x1 f2 m2 (Nat.le_refl _)
  have x16 := MX_a x2
  have x4 := x2.2.2.2.1
  refine ⟨fun z => absurd z (by decide), fun _ => s_opens (v := 16) (pl := sk T a) m2.2.1 x2.2.2.1 x2.2.2.2.2.2.2 rfl m2.2.2.1 (by omega) (fun o6 M3 f3 b3 => r_test_68 (s_asksB b3 (r_test_76 (h_bad b3 (q0 o6 M3 (frE_T (frT_trans f1 (frT_trans f2 f3))) b3) _)))) (fun o6 M3 f3 e3 => r_test_68 ?_)⟩
  have m3 := MP_D f3 m2
  refine s_asks (k := 25) m3 (MWd_D f3 x2.2.1) (by omega) (by omega) (fun c => by rw [hs, hc] at c; cases c) (fun _ M4 f4 m4 => r_test_76 ?_)
  rw [hss, show (wT 25).length = 3 from rfl] at m4
  exact q1 o6 M4 (frE_trans (frE_T (frT_trans f1 f2)) (frE_trans (frE_D f3) (frE_T f4))) ⟨m4, MWd_f f4 (MWd_D f3 x2.2.1), MEx_T f4 e3, by rw [List.length_append, List.length_singleton]; omega, mem_app x2.2.2.2.2.1 (by omega), by rw [List.length_append]; have := x2.2.2.2.2.2.1; omega, by omega⟩ _
theorem cm_sk (h : a ≤ T.length) (F op : Nat) : cmP T F (sk T a) op = cmP T F a op := by
  unfold cmP
  rw [here_sk h, sk_sk h, pE_sk3 h]
theorem h_fact (F : Nat) (h : MX T a C W op ba M) (h0 : ∀ u, 1 ≤ u → u ≤ 4 → onB W u = false) (n91 : chB T (sk T a) 91 = false) (hn : hereB T a (wT 25) = false)
    (qe : ∀ e, cmP T F a op = .inl e → e ≠ (0, 0) ∧ ∀ M', frE M M' → MBad e.1 e.2 M' → Q none M')
    (qo : ∀ c a1, cmP T F a op = .inr (c, a1) → ∀ M', frE M M' → MX T a1 (C ++ c) W op ba M' → V_dropsNots [.ref 0] M' (fun v M1 => T_test Q 87 [some (.ref 0), none, none] (v.toList ++ []) M1)) (o2 : Option Value) : T_test Q 2 [some (.ref 0), some (.int (nI 1)), o2] [] M := by
  have hT := h.1.1.2.2
  have hsk := sk_is T h.1.2.2.2.1
  have hss := sk_sk h.1.2.2.2.1
  have hs := here_sk h.1.2.2.2.1 (wT 25)
  refine r_test_2 ⟨fun z => absurd z (by decide), fun _ => ⟨fun z => absurd h.1.2.1 z, fun _ => s_look a M h.1 (frT_refl M) (fun M1 f1 m1 => r_test_17 ?_)⟩⟩
  have x1 := MX_T h f1 m1 hsk.1
  refine ⟨fun _ => s_isHere (k := 25) x1.1 x1.2.1 (by omega) (by omega) (fun M2 f2 m2 => r_test_55 ?_), fun z => ?_⟩
  rotate_left
  · rw [(ch_B (c := 91) hT (by omega)).mp (Decidable.not_not.mp z)] at n91; cases n91
  rw [hss] at m2
  rw [hs, hn]
  have x2 := MX_T x1 f2 m2 (Nat.le_refl _)
  have f2 := frE_T (frT_trans f1 f2)
  rw [← cm_sk h.1.2.2.2.1] at qe qo
  refine ⟨fun _ => s_fact F x2 h0 (fun e he => ⟨(qe e he).1, fun M3 f3 b3 => r_test_83 (e_dropsNots (r_dropsNots_0 ⟨fun _ => ⟨rfl, r_test_87 ⟨fun _ => h_bad b3 ((qe e he).2 M3 (frE_trans f2 f3) b3) _, fun z => absurd (MBad_ne b3) z⟩⟩, fun z => absurd (MBad_ne b3) z⟩))⟩) (fun c a1 hc M3 f3 x3 => r_test_83 (qo c a1 hc M3 (frE_trans f2 f3) x3)), fun z => absurd rfl z⟩
end
