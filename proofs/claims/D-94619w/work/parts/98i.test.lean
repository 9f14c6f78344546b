/-! a whole test, BorderStonesModel -/
section
variable {Q : Option Value → mw → Prop} {T C : List Nat} {a op : Nat} {M : mw}
theorem s_110 (r : List Nat) : ∀ (C : List Nat) (M : mw), MX T a C r.reverse op 0 M → (∀ M', frD M M' → MX T a (C ++ r) [] op 0 M' → Q none M') → ∀ (o1 o2 : Option Value), T_test Q 110 [some (.ref 0), o1, o2] [] M := by
  induction r with
  | nil =>
    intro C M h q o1 o2
    rw [List.reverse_nil] at h
    rw [List.append_nil] at q
    refine r_test_110 ⟨fun z => absurd h.1.2.1 z, fun _ => ?_⟩
    rw [h.2.2.1.2.1.1]
    exact ⟨fun _ => ⟨rfl, q M (frD_refl M) h⟩, fun z => absurd (by decide) z⟩
  | cons u r ih =>
    intro C M h q o1 o2
    rw [List.reverse_cons] at h
    have ha := MX_a h
    have m4 := h.2.2.2.1
    rw [List.length_append, List.length_singleton] at m4
    refine r_test_110 ⟨fun z => absurd h.1.2.1 z, fun _ => ?_⟩
    rw [(MEx_top h.2.2.1).1, show (nI (r.reverse.length + 1) ≤ (0 : Int32)) ↔ r.reverse.length + 1 ≤ 0 from n_le (b := 0) (by omega) (by omega)]
    refine ⟨fun z => by omega, fun _ => drop_X h (Nat.zero_le _) (fun M1 f1 x1 => r_test_128 ?_)⟩
    refine ih (C ++ [u]) M1 x1 (fun M2 f2 x2 => q M2 (frD_trans f1 f2) ?_) _ _
    rw [List.append_assoc] at x2
    exact x2
theorem s_test (F f : Nat) (h : MX T a C [] op 0 M)
    (qe : ∀ e, pT T F f 3 a op = .inl e → e ≠ (0, 0) ∧ ∀ M', frE M M' → MBad e.1 e.2 M' → Q none M')
    (qo : ∀ c a1, pT T F f 3 a op = .inr (c, a1) → ∀ M', frE M M' → MX T (sk T a1) (C ++ c) [] op 0 M' → Q none M') : V_test [.ref 0] M Q := by
  refine e_test (r_test_0 ?_)
  refine (simT (Q := Q) (T := T) (F := F) (ba := 0) (M0 := M) f).2.2.2.1 a op C [] M (frE_refl M) h (fun u hu => absurd hu List.not_mem_nil) rfl rfl rfl qe (fun c a1 hc C1 r1 M1 e1 g1 n1 n2 f1 x1 => ?_) none
  rw [List.nil_append] at x1
  have hs : sqB r1.reverse = false := by
    unfold sqB
    rw [List.any_eq_false]
    intro k hk
    have := g1 _ (List.mem_reverse.mp (getD_mem (List.mem_range.mp hk)))
    rw [decide_eq_false (by omega)]; decide
  refine t_end x1 (fun _ => hs) n1 n2 (fun _ M2 f2 x2 => r_test_98 ⟨fun _ => r_test_2 ⟨fun _ => ?_, fun z => absurd rfl z⟩, fun z => absurd rfl z⟩) (fun z => by rw [hs] at z; cases z)
  refine s_110 r1 C1 M2 x2 (fun M3 f3 x3 => ?_) _ _
  rw [e1] at x3
  exact qo c a1 hc M3 (frE_trans f1 (frE_trans (frE_T f2) (frE_D f3))) x3
end
