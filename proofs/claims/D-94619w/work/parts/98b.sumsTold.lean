/-! sums, BorderStonesModel -/
section
variable {Q : Option Value → mw → Prop} {T C W : List Nat} {a op ba : Nat} {M : mw}
theorem MX_base {n : Nat} (h : MX T a C W op ba M) (hn : n ≤ W.length) : MX T a C W op n (mM_up M 53 0 (nI n)) := by
  obtain ⟨m1, m2, m3, m4, m5, m6, m7⟩ := h
  have fd : frD M (mM_up M 53 0 (nI n)) := frD_up (frD_refl M) (by omega)
  exact ⟨MP_D fd m1, MWd_D fd m2, MEx_base m3, m4, m5, hn, m7⟩
theorem s_53 {x : Int32} (r : List Nat) : ∀ (C : List Nat) (M : mw), MX T a C (W ++ r.reverse) op W.length M → (∀ M', frD M M' → MX T a (C ++ r) W op W.length M' → Q none (mM_up M' 53 0 x)) → ∀ (o2 : Option Value), T_sumsTold Q 53 [some (.ref 0), some (.int x), o2] [] M := by
  induction r with
  | nil =>
    intro C M h q o2
    rw [List.reverse_nil, List.append_nil] at h
    rw [List.append_nil] at q
    have ha := MX_a h
    have m4 := h.2.2.2.1
    refine r_sumsTold_53 ⟨fun z => absurd h.1.2.1 z, fun _ => ?_⟩
    rw [h.2.2.1.2.1.1, h.2.2.1.2.2.2]
    exact ⟨fun _ => ⟨rfl, q M (frD_refl M) h⟩, fun z => absurd (Int32.le_refl _) z⟩
  | cons u r ih =>
    intro C M h q o2
    rw [List.reverse_cons, ← List.append_assoc] at h
    have ha := MX_a h
    have ll : (W ++ r.reverse).length = W.length + r.length := by rw [List.length_append, List.length_reverse]
    obtain ⟨m1, m2, m3, m4, m5, m6, m7⟩ := id h
    rw [List.length_append, List.length_singleton, ll] at m4
    refine r_sumsTold_53 ⟨fun z => absurd h.1.2.1 z, fun _ => ?_⟩
    rw [(MEx_top m3).1, m3.2.2.2, n_le (by omega) (by omega)]
    refine ⟨fun z => by omega, fun _ => s_drops m3 (by omega) (by omega) (fun M1 f1 e1 => r_sumsTold_75 ?_)⟩
    refine ih (C ++ [u]) M1 ⟨MP_D f1 m1, MWd_D f1 m2, e1, by rw [List.length_append, List.length_singleton, ll]; omega, app_mem m5, by rw [ll]; omega, m7⟩ (fun M2 f2 x2 => q M2 (frD_trans f1 f2) ?_) _
    rw [List.append_assoc] at x2
    exact x2
theorem s_sumsTold (f : Nat) (h : MX T a C W op ba M) (h0 : ∀ u, 1 ≤ u → u ≤ 4 → onB W u = false)
    (qe : ∀ e, pE T f 3 a op = .inl e → e ≠ (0, 0) ∧ ∀ M', frE M M' → MBad e.1 e.2 M' → cdB M' → Q none M')
    (qo : ∀ c a1, pE T f 3 a op = .inr (c, a1) → noS T a1 → ∀ M', frE M M' → MX T (sk T a1) (C ++ c) W op ba M' → Q none M') : V_sumsTold [.ref 0] M Q := by
  have fz : ∀ M', ¬ M'.1 5 0 = 0 → Q none (mM_up M' 53 0 (nI ba)) → ∀ (o2 : Option Value), T_sumsTold Q 53 [some (.ref 0), some (.int (nI ba)), o2] [] M' := fun M' hb q o2 => r_sumsTold_53 ⟨fun _ => ⟨rfl, q⟩, fun z => absurd hb z⟩
  have f1 : frD M (mM_up M 53 0 (nI W.length)) := frD_up (frD_refl M) (by omega)
  have x1 := MX_base h (Nat.le_refl W.length)
  have S := (sim (RO := fun v M1 => T_sumsTold Q 30 [some (.ref 0), some (.int (nI ba)), some (.int (nI 1))] (v.toList ++ []) M1) (RG := fun v M1 => T_sumsTold Q 41 [some (.ref 0), some (.int (nI ba)), none] (v.toList ++ []) M1) (Fk := fun M' => Q none (mM_up M' 53 0 (nI ba))) (T := T) (ba := W.length) (M0 := mM_up M 53 0 (nI W.length))
    (fun M1 hb g => r_sumsTold_30 ⟨fun z => absurd hb z, fun _ => e_goesOn g⟩)
    (fun M1 hb g => r_sumsTold_41 ⟨fun z => absurd z (by decide), fun _ => r_sumsTold_15 ⟨fun z => absurd z (by decide), fun _ => ⟨fun z => absurd hb z, fun _ => e_onePart (r_onePart_0 (g none none none))⟩⟩⟩)
    (fun M1 hb g => r_sumsTold_30 ⟨fun _ => r_sumsTold_15 ⟨fun _ => fz M1 hb g _, fun z => absurd rfl z⟩, fun z => absurd hb z⟩)
    (fun M1 hb g => r_sumsTold_41 ⟨fun _ => r_sumsTold_15 ⟨fun _ => fz M1 hb g _, fun z => absurd rfl z⟩, fun z => absurd rfl z⟩) f).2.2.2.1
  refine e_sumsTold (r_sumsTold_0 ?_)
  rw [h.2.2.1.2.1.1, h.2.2.1.2.2.2]
  refine r_sumsTold_15 ⟨fun z => absurd z (by decide), fun _ => ⟨fun z => absurd x1.1.2.1 z, fun _ => e_onePart (r_onePart_0 ?_)⟩⟩
  refine S a op C W _ (frE_refl _) x1 h0 (fun e he => ⟨(qe e he).1, fun M' f' b' d' => (qe e he).2 _ (frE_trans (frE_D f1) (frE_trans f' (frE_D (frD_up (frD_refl M') (by omega))))) (MBad_up b' (by omega)) (cd_up d' (by omega))⟩) (fun c a1 hc C1 r1 M2 e2 g2 n2 f2 x2 => ?_) none none none
  refine g_base x2 ?_ (noS_c n2) (fun M3 f3 x3 => r_sumsTold_41 ⟨fun _ => r_sumsTold_15 ⟨fun _ => ?_, fun z => absurd rfl z⟩, fun z => absurd rfl z⟩)
  · rw [mkW_app (Nat.le_refl _) (fun u hu => by have := g2 u (List.mem_reverse.mp hu); omega), mkW_base]
  · refine s_53 r1 C1 M3 x3 (fun M4 f4 x4 => ?_) _
    rw [e2] at x4
    exact qo c a1 hc n2 _ (frE_trans (frE_D f1) (frE_trans f2 (frE_trans (frE_T f3) (frE_trans (frE_D f4) (frE_D (frD_up (frD_refl M4) (by omega))))))) (MX_base x4 h.2.2.2.2.2.1)
end
