/-! a part that is no bracket; sums, BorderStonesModel -/
section
variable {R : Option Value → mw → Prop} {T C W : List Nat} {a op ba : Nat} {M : mw}
/-- what stands for itself: a word or a number -/
def atP (T : List Nat) (a : Nat) : Sum (Nat × Nat) (List Nat × Nat) :=
  if hereB T a (wT 27) = true then .inr ([7], sk T a + 6) else if hereB T a (wT 28) = true then .inr ([8], sk T a + 4) else if hereB T a (wT 29) = true then .inr ([9], sk T a + 4)
  else match numP T a 0 9999 with
    | .inl e => .inl e
    | .inr (v, e) => .inr ([1000 + v], e)
theorem p_at (h : MX T a C W op ba M) (nc : chB T (sk T a) 40 = false) (n30 : hereB T a (wT 30) = false) (n31 : hereB T a (wT 31) = false)
    (q0 : ∀ kd pl, atP T a = .inl (kd, pl) → ∀ M', frE M M' → MBad kd pl M' → cdB M' → R none M')
    (q1 : ∀ v e, atP T a = .inr ([v], e) → ∀ M', frE M M' → MX T e (C ++ [v]) W op ba M' → R none M') {o2 o3 o4 : Option Value} : T_onePart R 2 [some (.ref 0), some (.int (nI 1)), o2, o3, o4] [] M := by
  have hT := h.1.1.2.2
  have hsk := sk_is T h.1.2.2.2.1
  have hss := sk_sk h.1.2.2.2.1
  have hh := here_sk h.1.2.2.2.1
  have hnum := num_sk h.1.2.2.2.1 0 9999
  have ngt := fun v e => num_gt (lo := 0) (hi := 9999) (v := v) (e := e) h.1.2.2.2.1
  unfold atP at q0 q1
  refine r_onePart_2 ⟨fun z => absurd z (by decide), fun _ => ⟨fun z => absurd h.1.2.1 z, fun _ => s_look a M h.1 (frT_refl M) (fun M1 f1 m1 => r_onePart_17 ?_)⟩⟩
  have x1 := MX_T h f1 m1 hsk.1
  have x16 := MX_a x1
  have x4 := x1.2.2.2.1
  have n40 : ¬ ch T (sk T a) = 40 := fun z => by
    rw [(ch_B (c := 40) hT (by omega)).mp z] at nc; cases nc
  refine ⟨fun _ => s_isHere (k := 30) x1.1 x1.2.1 (by omega) (by omega) (fun M2 f2 m2 => r_onePart_55 ?_), fun z => absurd n40 z⟩
  rw [hss] at m2
  have x2 := MX_T x1 f2 m2 (Nat.le_refl _)
  rw [hh, n30]
  refine ⟨fun z => absurd rfl z, fun _ => s_isHere (k := 31) x2.1 x2.2.1 (by omega) (by omega) (fun M3 f3 m3 => r_onePart_66 ?_)⟩
  rw [hss] at m3
  have x3 := MX_T x2 f3 m3 (Nat.le_refl _)
  rw [hh, n31]
  refine ⟨fun _ => r_onePart_2 ⟨fun _ => ⟨fun _ => ?_, fun z => absurd m3.2.1 z⟩, fun z => absurd rfl z⟩, fun z => absurd rfl z⟩
  have f3 := frT_trans f1 (frT_trans f2 f3)
  have cod : ∀ (v e : Nat) (M4 : mw), frE M M4 → MX T e C W op ba M4 → sk T a < e → (∀ M', frE M M' → MX T e (C ++ [v]) W op ba M' → R none M') → ∀ {o0 o1 o2 o3 o4 : Option Value}, V_code [.ref 0, .int (nI v)] M4 (fun u M5 => T_onePart R 229 [o0, o1, o2, o3, o4] (u.toList ++ []) M5) := by
    intro v e M4 f4 y4 he k o0 o1 o2 o3 o4
    refine s_code y4.2.2.1 rfl (by have := MX_a y4; omega) (fun M5 f5 e5 => r_onePart_229 ⟨rfl, k M5 (frE_trans f4 (frE_D f5)) ⟨MP_D f5 y4.1, MWd_D f5 y4.2.1, e5, by rw [List.length_append, List.length_singleton]; omega, y4.2.2.2.2⟩⟩)
  refine s_takes (k := 27) x3.1 x3.2.1 (by omega) (by omega) (fun c M4 f4 m4 => r_onePart_162 ⟨fun _ => ?_, fun z => absurd rfl z⟩) (fun c M4 f4 m4 => r_onePart_162 ⟨fun z => absurd z (by decide), fun _ => ⟨fun z => absurd z (by decide), fun _ => ?_⟩⟩)
  rotate_left
  · rw [hh] at c
    rw [hss, show (wT 27).length = 6 from rfl] at m4
    simp only [c, if_true] at q1
    exact cod 7 _ M4 (frE_T (frT_trans f3 f4)) (MX_T x3 f4 m4 (by omega)) (by omega) (q1 7 _ rfl)
  rw [hh] at c
  rw [hss] at m4
  have x4' := MX_T x3 f4 m4 (Nat.le_refl _)
  have f4 := frT_trans f3 f4
  simp only [c, Bool.false_eq_true, if_false] at q0 q1
  refine s_takes (k := 28) x4'.1 x4'.2.1 (by omega) (by omega) (fun c M5 f5 m5 => r_onePart_178 ⟨fun _ => ?_, fun z => absurd rfl z⟩) (fun c M5 f5 m5 => r_onePart_178 ⟨fun z => absurd z (by decide), fun _ => ⟨fun z => absurd z (by decide), fun _ => ?_⟩⟩)
  rotate_left
  · rw [hh] at c
    rw [hss, show (wT 28).length = 4 from rfl] at m5
    simp only [c, if_true] at q1
    exact cod 8 _ M5 (frE_T (frT_trans f4 f5)) (MX_T x4' f5 m5 (by omega)) (by omega) (q1 8 _ rfl)
  rw [hh] at c
  rw [hss] at m5
  have x5 := MX_T x4' f5 m5 (Nat.le_refl _)
  have f5 := frT_trans f4 f5
  simp only [c, Bool.false_eq_true, if_false] at q0 q1
  refine s_takes (k := 29) x5.1 x5.2.1 (by omega) (by omega) (fun c M6 f6 m6 => r_onePart_194 ⟨fun _ => ⟨fun _ => ?_, fun z => absurd rfl z⟩, fun z => absurd rfl z⟩) (fun c M6 f6 m6 => r_onePart_194 ⟨fun z => absurd z (by decide), fun _ => ⟨fun z => absurd z (by decide), fun _ => ?_⟩⟩)
  rotate_left
  · rw [hh] at c
    rw [hss, show (wT 29).length = 4 from rfl] at m6
    simp only [c, if_true] at q1
    exact cod 9 _ M6 (frE_T (frT_trans f5 f6)) (MX_T x5 f6 m6 (by omega)) (by omega) (q1 9 _ rfl)
  rw [hh] at c
  rw [hss] at m6
  have x6 := MX_T x5 f6 m6 (Nat.le_refl _)
  have f6 := frT_trans f5 f6
  simp only [c, Bool.false_eq_true, if_false] at q0 q1
  refine s_number (lo := 0) (hi := 9999) x6.1 rfl rfl (by omega) (by omega) (fun kd pl v hn M7 f7 b7 => r_onePart_225 ?_) (fun v e hn M7 f7 m7 _ => r_onePart_225 ?_)
  · rw [hnum] at hn
    have e7 := MEx_T f7 x6.2.2.1
    rw [hn] at q0
    obtain ⟨⟨p1, p2⟩, p3⟩ := id e7
    refine e_code (r_code_0 ?_)
    rw [m_up, if_neg (by omega), p1, show (0 : Int32) + nI C.length = nI (0 + C.length) from n_add 0 _, Nat.zero_add, n_tn (by omega)]
    refine ⟨(n_in (by omega)).mpr (by omega), rfl, r_onePart_229 ⟨rfl, q0 kd pl rfl _ (frE_trans (frE_T (frT_trans f6 f7)) (frE_D (frD_up (frD_up (frD_refl M7) (by omega)) (by omega)))) (MBad_up (MBad_up b7 (by omega)) (by omega)) ⟨C.length + 1, by omega, by rw [m_up, if_pos ⟨rfl, rfl⟩]; exact n_add _ 1⟩⟩⟩
  · rw [hnum] at hn
    obtain ⟨g1, g2, g3, g4⟩ := ngt v e hn
    rw [hn] at q1
    rw [show (1000 : Int32) + nI v = nI (1000 + v) from n_add 1000 v]
    exact cod (1000 + v) e M7 (frE_T (frT_trans f6 f7)) (MX_T x6 f7 m7 (by omega)) g1 (q1 _ _ rfl)
end
