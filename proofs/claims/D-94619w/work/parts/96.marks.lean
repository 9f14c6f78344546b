/-! signs, closings, commas behind a part, BorderStonesModel -/
theorem mkW_cong {W V : List Nat} {ba n : Nat} (h : ∀ k, k < n → W.getD k 0 = V.getD k 0) : mkW W ba n = mkW V ba n := by
  induction n with
  | zero => rfl
  | succ n ih =>
    have e1 : mkW W ba (n + 1) = if n < ba then -nI 1 else if isMk (W.getD n 0) = true then nI (W.getD n 0) else mkW W ba n := rfl
    have e2 : mkW V ba (n + 1) = if n < ba then -nI 1 else if isMk (V.getD n 0) = true then nI (V.getD n 0) else mkW V ba n := rfl
    rw [e1, e2, ih (fun k hk => h k (by omega)), h n (by omega)]
theorem gd_r2 {W p : List Nat} {k : Nat} (h1 : W.length ≤ k) (h2 : k < (W ++ p).length) : (W ++ p).getD k 0 ∈ p := by
  rw [List.length_append] at h2
  rw [List.getD_eq_getElem?_getD, List.getElem?_append_right h1, List.getElem?_eq_getElem (by omega)]
  exact List.getElem_mem _
theorem mkW_app {W p : List Nat} {ba : Nat} (hb : ba ≤ W.length) (hp : ∀ u, u ∈ p → u < 20) : mkW (W ++ p) ba (W ++ p).length = mkW W ba W.length := by
  have main : ∀ j, j ≤ p.length → mkW (W ++ p) ba (W.length + j) = mkW W ba W.length := by
    intro j
    induction j with
    | zero => intro _; exact mkW_cong (fun k hk => gd_l hk)
    | succ j ih =>
      intro hj
      have e1 : mkW (W ++ p) ba (W.length + j + 1) = if W.length + j < ba then -nI 1 else if isMk ((W ++ p).getD (W.length + j) 0) = true then nI ((W ++ p).getD (W.length + j) 0) else mkW (W ++ p) ba (W.length + j) := rfl
      have m := hp _ (gd_r2 (W := W) (p := p) (k := W.length + j) (by omega) (by rw [List.length_append]; omega))
      rw [← Nat.add_assoc, e1, if_neg (by omega), if_neg (by unfold isMk; rw [decide_eq_false (by omega), Bool.false_and]; decide)]
      exact ih (by omega)
  rw [List.length_append]
  exact main p.length (Nat.le_refl _)
theorem mkW_base (W : List Nat) : mkW W W.length W.length = -nI 1 := by
  generalize W.length = n
  cases n with
  | zero => rfl
  | succ n =>
    have e1 : mkW W (n + 1) (n + 1) = if n < n + 1 then -nI 1 else if isMk (W.getD n 0) = true then nI (W.getD n 0) else mkW W (n + 1) n := rfl
    rw [e1, if_pos (by omega)]
theorem mkW_mark {W : List Nat} {k ba : Nat} (hb : ba ≤ W.length) (hk : isMk k = true) : mkW (W ++ [k]) ba (W ++ [k]).length = nI k := by
  rw [List.length_append, List.length_singleton]
  have e1 : mkW (W ++ [k]) ba (W.length + 1) = if W.length < ba then -nI 1 else if isMk ((W ++ [k]).getD W.length 0) = true then nI ((W ++ [k]).getD W.length 0) else mkW (W ++ [k]) ba W.length := rfl
  rw [e1, if_neg (by omega), gd_r, if_pos hk]
section
variable {R : Option Value → mw → Prop} {T C W : List Nat} {a op ba : Nat} {M : mw}
/-- a sum goes on -/
theorem g_add {r : List Nat} (h : MX T a C (W ++ r.reverse) op ba M) (hb : ba ≤ W.length) (h0 : ∀ u, 1 ≤ u → u ≤ 4 → onB W u = false) (hu : ∀ u, u ∈ r → 1 ≤ u ∧ u ≤ 4) {v : Nat} (hc : (chB T (sk T a) 43 = true ∧ v = 1) ∨ (chB T (sk T a) 45 = true ∧ v = 2))
    (q : ∀ M', frE M M' → MX T (sk T a + 1) (C ++ r) (W ++ [v]) op ba M' → R (some (.int (nI 1))) M') : T_goesOn R 0 [some (.ref 0), none] [] M := by
  have hT := h.1.1.2.2
  have hsk := sk_is T h.1.2.2.2.1
  have hss := sk_sk h.1.2.2.2.1
  refine r_goesOn_0 ⟨fun z => absurd h.1.2.1 z, fun _ => s_look a M h.1 (frT_refl M) (fun M1 f1 m1 => r_goesOn_11 ?_)⟩
  have x1 := MX_T h f1 m1 hsk.1
  generalize sk T a = b at *
  have no : ∀ c, c ≠ 43 → c ≠ 45 → chB T b c = false := fun c c1 c2 => by
    rcases hc with g | g
    · exact chB_ne g.1 (by omega)
    · exact chB_ne g.1 (by omega)
  have ne41 : ¬ ch T b = 41 := fun z => by
    have z := (ch_B (b := b) (c := 41) hT (by omega)).mp z
    rw [no 41 (by omega) (by omega)] at z; cases z
  have ll : (W ++ r.reverse).length = W.length + r.length := by rw [List.length_append, List.length_reverse]
  have x4 := x1.2.2.2.1
  rw [ll] at x4
  have go : ∀ (M2 : mw), frT M M2 → MX T (b + 1) C (W ++ r.reverse) op ba M2 → T_goesOn R 243 [some (.ref 0), some (.int (nI v))] [] M2 := fun M2 f2 x2 =>
    g_243 (by rcases hc with g | g <;> omega) h0 r C M2 x2 hb (by omega) hu (fun M3 f3 x3 => q M3 (frE_trans (frE_T f2) (frE_D f3)) x3)
  have tp : ∀ (M2 : mw), MX T (b + 1) C (W ++ r.reverse) op ba M2 → ∀ c, chB T b c = true → M2.1 2 0 - 1 = nI b ∧ M2.1 0 b = nI c ∧ b < 1600 := fun M2 x2 c hcc => by
    have a2 := x2.1.1.2.1
    have a16 := hT.1
    unfold chB at hcc
    rw [Bool.and_eq_true, decide_eq_true_eq, decide_eq_true_eq] at hcc
    refine ⟨?_, by rw [a2 b hcc.1, hcc.2], by omega⟩
    rw [x2.1.2.2.1, show (1 : Int32) = nI 1 from rfl, n_sub (by omega)]; congr 1
  refine ⟨fun _ => g_sign (c := 42) x1 rfl (by omega) (by decide) hss (fun _ M2 f2 x2 => r_goesOn_124 ⟨fun z => absurd rfl z, fun _ => g_sign (c := 47) x2 rfl (by omega) (by decide) hss (fun _ M3 f3 x3 => r_goesOn_133 ⟨fun _ => ?_, fun z => absurd rfl z⟩) (fun y2 M3 f3 x3 => by rw [no 47 (by omega) (by omega)] at y2; cases y2)⟩) (fun y M2 f2 x2 => by rw [no 42 (by omega) (by omega)] at y; cases y), fun z => absurd ne41 z⟩
  have f3 := frT_trans f1 (frT_trans f2 f3)
  refine g_sign (c := 43) x3 rfl (by omega) (by decide) hss (fun y M4 f4 x4 => r_goesOn_209 ⟨fun z => absurd rfl z, fun _ => g_sign (c := 45) x4 rfl (by omega) (by decide) hss (fun y2 M5 f5 x5 => ?_) (fun y2 M5 f5 x5 => r_goesOn_218 ⟨fun z => absurd z (by decide), fun _ => ?_⟩)⟩) (fun y M4 f4 x4 => r_goesOn_209 ⟨fun _ => ?_, fun z => absurd (by decide) z⟩)
  · rcases hc with g | g
    · rw [g.1] at y; cases y
    · rw [g.1] at y2; cases y2
  · obtain ⟨t1, t2, t3⟩ := tp M5 x5 45 y2
    have ev : v = 2 := by
      rcases hc with g | g
      · rw [g.1] at y; cases y
      · exact g.2
    have gg := go M5 (frT_trans f3 (frT_trans f4 f5)) x5
    rw [ev] at gg
    rw [t1, n_tn (by omega), t2]
    exact ⟨(n_in (by omega)).mpr (by omega), fun _ => gg, fun z => absurd (by decide) z⟩
  · obtain ⟨t1, t2, t3⟩ := tp M4 x4 43 y
    have ev : v = 1 := by
      rcases hc with g | g
      · exact g.2
      · rw [chB_ne y (by omega)] at g; cases g.1
    have gg := go M4 (frT_trans f3 f4) x4
    rw [ev] at gg
    rw [t1, n_tn (by omega), t2]
    exact ⟨(n_in (by omega)).mpr (by omega), fun z => absurd rfl z, fun _ => gg⟩
/-- no sign goes on -/
theorem g_308 {mk : Int32} (h : MX T a C W op ba M) (hm : mkW W ba W.length = mk) (no : ∀ c, c = 42 ∨ c = 47 ∨ c = 43 ∨ c = 45 → chB T (sk T a) c = false) (hcl : chB T (sk T a) 41 = true → mk ≠ nI 20 ∧ mk ≠ nI 23 ∧ mk ≠ nI 24)
    (q : ∀ M', frT M M' → MX T (sk T a) C W op ba M' → ∀ {o1 : Option Value}, T_goesOn R 308 [some (.ref 0), o1] [.int mk] M') : T_goesOn R 0 [some (.ref 0), none] [] M := by
  have hT := h.1.1.2.2
  have hsk := sk_is T h.1.2.2.2.1
  have hss := sk_sk h.1.2.2.2.1
  have ha := MX_a h
  have hl : W.length < 1700 := by have := h.2.2.2.1; omega
  refine r_goesOn_0 ⟨fun z => absurd h.1.2.1 z, fun _ => s_look a M h.1 (frT_refl M) (fun M1 f1 m1 => r_goesOn_11 ?_)⟩
  have x1 := MX_T h f1 m1 hsk.1
  generalize sk T a = b at *
  have n42 := no 42 (by omega)
  have n47 := no 47 (by omega)
  have n43 := no 43 (by omega)
  have n45 := no 45 (by omega)
  have mk' : ∀ (M2 : mw) (Q : Option Value → mw → Prop), MX T b C W op ba M2 → Q (some (.int mk)) M2 → V_mark [.ref 0] M2 Q := fun M2 Q x2 q2 => by
    refine s_mark x2.2.2.1 x2.2.2.2.2.2.1 hl x2.2.2.2.2.1 ?_
    rw [hm]; exact q2
  have rest : ∀ (M2 : mw), frT M M2 → MX T b C W op ba M2 → V_takesSign [.ref 0, .int 42] M2 (fun v M3 => T_goesOn R 124 [some (.ref 0), none] (v.toList ++ []) M3) := by
    intro M2 f2 x2
    refine g_sign (c := 42) x2 rfl (by omega) (by decide) hss (fun _ M3 f3 x3 => r_goesOn_124 ⟨fun z => absurd rfl z, fun _ => ?_⟩) (fun y => by rw [n42] at y; cases y)
    refine g_sign (c := 47) x3 rfl (by omega) (by decide) hss (fun _ M4 f4 x4 => r_goesOn_133 ⟨fun _ => ?_, fun z => absurd rfl z⟩) (fun y => by rw [n47] at y; cases y)
    refine g_sign (c := 43) x4 rfl (by omega) (by decide) hss (fun _ M5 f5 x5 => r_goesOn_209 ⟨fun z => absurd rfl z, fun _ => ?_⟩) (fun y => by rw [n43] at y; cases y)
    refine g_sign (c := 45) x5 rfl (by omega) (by decide) hss (fun _ M6 f6 x6 => r_goesOn_218 ⟨fun _ => mk' M6 _ x6 ?_, fun z => absurd rfl z⟩) (fun y => by rw [n45] at y; cases y)
    exact q M6 (frT_trans f2 (frT_trans f3 (frT_trans f4 (frT_trans f5 f6)))) x6
  refine ⟨fun _ => rest M1 f1 x1, fun z => ?_⟩
  have z := (ch_B (b := b) (c := 41) hT (by omega)).mp (Decidable.not_not.mp z)
  obtain ⟨k1, k2, k3⟩ := hcl z
  exact mk' M1 _ x1 (r_goesOn_20 ⟨fun y => absurd y k1, fun _ => mk' M1 _ x1 (r_goesOn_29 ⟨fun y => absurd y k2, fun _ => mk' M1 _ x1 (r_goesOn_38 ⟨fun _ => rest M1 f1 x1, fun y => absurd k3 y⟩)⟩)⟩)
/-- the sum is at its end -/
theorem g_base (h : MX T a C W op ba M) (hm : mkW W ba W.length = -nI 1) (no : ∀ c, c = 42 ∨ c = 47 ∨ c = 43 ∨ c = 45 → chB T (sk T a) c = false)
    (q : ∀ M', frT M M' → MX T (sk T a) C W op ba M' → R (some (.int (nI 0))) M') : T_goesOn R 0 [some (.ref 0), none] [] M := by
  have ha := MX_a h
  have hl : W.length < 1700 := by have := h.2.2.2.1; omega
  refine g_308 h hm no (fun _ => by decide) (fun M1 f1 x1 => ?_)
  intro o1
  refine r_goesOn_308 ⟨fun z => absurd z (by decide), fun _ => s_mark x1.2.2.1 x1.2.2.2.2.2.1 hl x1.2.2.2.2.1 ?_⟩
  rw [hm]
  refine r_goesOn_317 ⟨fun _ => s_mark x1.2.2.1 x1.2.2.2.2.2.1 hl x1.2.2.2.2.1 ?_, fun z => absurd (by decide) z⟩
  rw [hm]
  exact r_goesOn_362 ⟨fun _ => r_goesOn_382 ⟨nr_0, q M1 f1 x1⟩, fun z => absurd rfl z⟩
/-- a bracket is not shut -/
theorem g_unshut {k : Nat} (h : MX T a C W op ba M) (hk : k = 20 ∨ k = 23 ∨ k = 24) (hm : mkW W ba W.length = nI k) (no : ∀ c, c = 42 ∨ c = 47 ∨ c = 43 ∨ c = 45 → chB T (sk T a) c = false) (ns : chB T (sk T a) 41 = false)
    (q : ∀ M', frT M M' → MBad 1 (sk T a) M' → R (some (.int (nI 0))) M') : T_goesOn R 0 [some (.ref 0), none] [] M := by
  have ha := MX_a h
  have hl : W.length < 1700 := by have := h.2.2.2.1; omega
  refine g_308 h hm no (fun z => by rw [ns] at z; cases z) (fun M1 f1 x1 => ?_)
  intro o1
  have n21 : ¬ nI k = 21 := fun z => by have := (n_eq (b := 21) (by omega) (by omega)).mp z; omega
  have n22 : ¬ nI k = 22 := fun z => by have := (n_eq (b := 22) (by omega) (by omega)).mp z; omega
  have nm : ¬ nI k = -1 := fun z => by have := (n_eqg (a := k) (b := 1) (by omega) (by omega)).mp z; omega
  refine r_goesOn_308 ⟨fun z => absurd z n21, fun _ => s_mark x1.2.2.1 x1.2.2.2.2.2.1 hl x1.2.2.2.2.1 ?_⟩
  rw [hm]
  refine r_goesOn_317 ⟨fun _ => s_mark x1.2.2.1 x1.2.2.2.2.2.1 hl x1.2.2.2.2.1 ?_, fun z => absurd n22 z⟩
  rw [hm]
  exact r_goesOn_362 ⟨fun z => absurd z nm, fun _ => ⟨fun z => absurd x1.1.2.1 z, fun _ => s_fail (kd := 1) (pl := sk T a) x1.1.2.1 rfl x1.1.2.2.1 (by omega) (fun M2 f2 _ b2 => r_goesOn_382 ⟨nr_0, q M2 (frT_trans f1 f2) b2⟩)⟩⟩
/-- a comma between two sums -/
theorem g_comma {r : List Nat} {k : Nat} (h : MX T a C (W ++ [k] ++ r.reverse) op ba M) (hb : ba ≤ W.length) (hk : k = 21 ∨ k = 22) (hu : ∀ u, u ∈ r → 1 ≤ u ∧ u ≤ 4) (no : ∀ c, c = 42 ∨ c = 47 ∨ c = 43 ∨ c = 45 → chB T (sk T a) c = false)
    (q0 : chB T (sk T a) 44 = false → ∀ M', frT M M' → MBad 1 (sk T a) M' → R (some (.int (nI 0))) M')
    (q1 : chB T (sk T a) 44 = true → ∀ M', frE M M' → MX T (sk T a + 1) (C ++ r) (W ++ [k + 2]) op ba M' → R (some (.int (nI 1))) M') : T_goesOn R 0 [some (.ref 0), none] [] M := by
  have hT := h.1.1.2.2
  have ha := MX_a h
  have hss := sk_sk h.1.2.2.2.1
  have hl : (W ++ [k] ++ r.reverse).length < 1700 := by have := h.2.2.2.1; omega
  have mk : isMk k = true := by rcases hk with g | g <;> subst g <;> decide
  have hm : mkW (W ++ [k] ++ r.reverse) ba (W ++ [k] ++ r.reverse).length = nI k := by
    rw [mkW_app (by rw [List.length_append]; omega) (fun u hu' => by have := hu u (List.mem_reverse.mp hu'); omega), mkW_mark hb mk]
  have ll : (W ++ [k] ++ r.reverse).length = W.length + 1 + r.length := by rw [List.length_append, List.length_append, List.length_reverse, List.length_singleton]
  have ask : ∀ (M1 : mw), frT M M1 → MX T (sk T a) C (W ++ [k] ++ r.reverse) op ba M1 → V_asksSign [.ref 0, .int 44] M1 (fun v M2 => T_goesOn R 328 [some (.ref 0), none] (v.toList ++ []) M2) := by
    intro M1 f1 x1
    have x4 := x1.2.2.2.1
    have x16 := MX_a x1
    rw [ll] at x4
    refine s_asksSign (c := 44) x1.1 rfl (by omega) (by decide) (fun z M2 f2 b2 => r_goesOn_328 ⟨fun y => absurd y (MBad_ne b2), fun _ => ⟨nr_0, ?_⟩⟩) (fun z g1 g2 M2 f2 m2 => r_goesOn_328 ⟨fun _ => ?_, fun y => absurd m2.2.1 y⟩)
    · rw [hss] at z b2
      refine q0 ?_ M2 (frT_trans f1 f2) b2
      cases y : chB T (sk T a) 44
      · rfl
      · exact absurd ((ch_B hT (by omega)).mpr y) z
    · rw [hss] at z m2
      have z := (ch_B hT (by omega)).mp z
      have x2 := MX_T x1 f2 m2 (Nat.le_succ _)
      have mtop : isMk ((W ++ [k]).getD ((W ++ [k]).length - 1) 0) = true := by
        rw [List.length_append, List.length_singleton, show W.length + 1 - 1 = W.length from rfl, gd_r]; exact mk
      have wl0 : (W ++ [k]).length = W.length + 1 := by rw [List.length_append]; rfl
      refine e_dropsToMark (s_dropsToMark (W0 := W ++ [k]) (by rw [wl0]; omega) (Or.inr mtop) (app_mem x2.2.2.2.2.1) r C M2 x2.2.2.1 (fun u hu' => by have := hu u hu'; omega) (by rw [wl0]; omega) (fun M3 f3 e3 => r_goesOn_341 ?_))
      obtain ⟨t1, t2⟩ := MEx_top e3
      have e1 : nI (W.length + 1) - 1 = nI W.length := by rw [show (1 : Int32) = nI 1 from rfl, n_sub (by omega)]; congr 1
      rw [t1, e1, n_tn (by omega), t2, show nI k + 2 = nI (k + 2) from n_add k 2]
      have fd : frD M3 (mM_up M3 46 W.length (nI (k + 2))) := frD_up (frD_refl M3) (by omega)
      have fd2 := frD_trans f3 fd
      refine ⟨(n_in (by omega)).mpr (by omega), (n_in (by omega)).mpr (by omega), nr_1, q1 z _ (frE_trans (frE_T (frT_trans f1 f2)) (frE_D fd2)) ⟨MP_D fd2 m2, MWd_D fd2 x2.2.1, ?_, by rw [List.length_append, List.length_append, List.length_singleton]; omega, mem_app (app_mem (app_mem x2.2.2.2.2.1)) (by omega), by rw [List.length_append]; omega, x2.2.2.2.2.2.2⟩⟩
      obtain ⟨⟨p1, p2⟩, ⟨p3, p4⟩, p5, p6⟩ := e3
      rw [wl0] at p3 p4
      refine ⟨⟨by rw [m_up, if_neg (by omega)]; exact p1, fun j hj => by rw [m_up, if_neg (by omega)]; exact p2 j hj⟩, ⟨by rw [m_up, if_neg (by omega), p3, List.length_append, List.length_singleton], fun j hj => ?_⟩, by rw [m_up, if_neg (by omega)]; exact p5, by rw [m_up, if_neg (by omega)]; exact p6⟩
      rw [List.length_append, List.length_singleton] at hj
      rw [m_up]
      by_cases e : j = W.length
      · rw [if_pos ⟨rfl, e⟩, e, gd_r]
      · rw [if_neg (by omega), p4 j hj, gd_l (by omega), gd_l (by omega)]
  refine g_308 h hm no (fun _ => by rcases hk with g | g <;> subst g <;> decide) (fun M1 f1 x1 => ?_)
  intro o1
  rcases hk with g | g
  · subst g
    exact r_goesOn_308 ⟨fun _ => ask M1 f1 x1, fun z => absurd rfl z⟩
  · subst g
    refine r_goesOn_308 ⟨fun z => absurd z (by decide), fun _ => s_mark x1.2.2.1 x1.2.2.2.2.2.1 hl x1.2.2.2.2.1 ?_⟩
    rw [hm]
    exact r_goesOn_317 ⟨fun z => absurd rfl z, fun _ => ask M1 f1 x1⟩
/-- a bracket is shut -/
theorem g_shut {r : List Nat} {k : Nat} (h : MX T a C (W ++ [k] ++ r.reverse) (op + 1) ba M) (hb : ba ≤ W.length) (hk : k = 20 ∨ k = 23 ∨ k = 24) (hu : ∀ u, u ∈ r → 1 ≤ u ∧ u ≤ 4) (hc : chB T (sk T a) 41 = true)
    (q : ∀ M', frE M M' → MX T (sk T a + 1) (C ++ r ++ (if k = 20 then [] else if k = 23 then [5] else [6])) W op ba M' → T_goesOn R 0 [some (.ref 0), none] [] M') : T_goesOn R 0 [some (.ref 0), none] [] M := by
  have hT := h.1.1.2.2
  have ha := MX_a h
  have hsk := sk_is T h.1.2.2.2.1
  have hl : (W ++ [k] ++ r.reverse).length < 1700 := by have := h.2.2.2.1; omega
  have mk : isMk k = true := by rcases hk with g | g | g <;> subst g <;> decide
  have hm : mkW (W ++ [k] ++ r.reverse) ba (W ++ [k] ++ r.reverse).length = nI k := by
    rw [mkW_app (by rw [List.length_append]; omega) (fun u hu' => by have := hu u (List.mem_reverse.mp hu'); omega), mkW_mark hb mk]
  have ll : (W ++ [k] ++ r.reverse).length = W.length + 1 + r.length := by rw [List.length_append, List.length_append, List.length_reverse, List.length_singleton]
  have wl0 : (W ++ [k]).length = W.length + 1 := by rw [List.length_append]; rfl
  refine r_goesOn_0 ⟨fun z => absurd h.1.2.1 z, fun _ => s_look a M h.1 (frT_refl M) (fun M1 f1 m1 => r_goesOn_11 ?_)⟩
  have x1 := MX_T h f1 m1 hsk.1
  generalize sk T a = b at *
  refine ⟨fun z => absurd ((ch_B (b := b) (c := 41) hT (by omega)).mpr hc) z, fun _ => ?_⟩
  have hbl : b < T.length ∧ T.getD b 0 = 41 := by
    unfold chB at hc
    rw [Bool.and_eq_true, decide_eq_true_eq, decide_eq_true_eq] at hc
    exact hc
  have x4 := x1.2.2.2.1
  have x16 := MX_a x1
  rw [ll] at x4
  have op6 := x1.2.2.2.2.2.2
  have fu : frT M1 (mM_up M1 2 0 (nI (b + 1))) := frT_up (frT_refl M1) (by omega)
  have m2 : MP T (b + 1) (mM_up M1 2 0 (nI (b + 1))) := ⟨MPt_f fu m1.1, by rw [m_up, if_neg (by omega)]; exact m1.2.1, by rw [m_up, if_pos ⟨rfl, rfl⟩], by omega, by rw [m_up, if_neg (by omega)]; exact en_next m1.2.2.2.2 (by omega) (by rw [hbl.2]; decide)⟩
  have x2 := MX_T x1 fu m2 (Nat.le_succ _)
  have dr : ∀ {o1 : Option Value}, V_dropsToMark [.ref 0] (mM_up M1 2 0 ((M1.1 2 0) + 1)) (fun v M3 => T_goesOn R 57 [some (.ref 0), o1] (v.toList ++ []) M3) := by
    intro o1
    rw [m1.2.2.1, show nI b + 1 = nI (b + 1) from n_add b 1]
    have mtop : isMk ((W ++ [k]).getD ((W ++ [k]).length - 1) 0) = true := by
      rw [wl0, show W.length + 1 - 1 = W.length from rfl, gd_r]; exact mk
    refine e_dropsToMark (s_dropsToMark (W0 := W ++ [k]) (by rw [wl0]; omega) (Or.inr mtop) (app_mem x2.2.2.2.2.1) r C _ x2.2.2.1 (fun u hu' => by have := hu u hu'; omega) (by rw [wl0]; omega) (fun M3 f3 e3 => r_goesOn_57 ?_))
    obtain ⟨t1, t2⟩ := MEx_top e3
    have e1 : nI (W.length + 1) - 1 = nI W.length := by rw [show (1 : Int32) = nI 1 from rfl, n_sub (by omega)]; congr 1
    have eo : nI (op + 1) - 1 = nI op := by rw [show (1 : Int32) = nI 1 from rfl, n_sub (by omega)]; congr 1
    have r48 : (mM_up M3 47 0 (nI W.length)).1 48 0 = nI (op + 1) := by rw [m_up, if_neg (by omega)]; exact e3.2.2.1
    rw [t1, e1, r48, eo]
    have e4 := MEx_op (n := op) (MEx_pop e3)
    have fd : frD M3 (mM_up (mM_up M3 47 0 (nI W.length)) 48 0 (nI op)) := frD_up (frD_up (frD_refl M3) (by omega)) (by omega)
    have t46 : (mM_up (mM_up M3 47 0 (nI W.length)) 48 0 (nI op)).1 46 W.length = nI k := by rw [m_up, if_neg (by omega), m_up, if_neg (by omega)]; exact t2
    generalize mM_up (mM_up M3 47 0 (nI W.length)) 48 0 (nI op) = M4 at *
    have fd2 := frD_trans f3 fd
    have fe := frE_trans (frE_T (frT_trans f1 fu)) (frE_D fd2)
    rw [e4.2.1.1, n_tn (by omega), t46]
    have m5 := app_mem (app_mem x2.2.2.2.2.1)
    have lr : (C ++ r).length = C.length + r.length := List.length_append
    have fin : ∀ v : Nat, V_code [.ref 0, .int (nI v)] M4 (fun v' M5 => ∀ {o1 : Option Value}, MX T (b + 1) (C ++ r ++ [v]) W op ba M5 ∧ frE M M5) := fun v =>
      s_code e4 rfl (by omega) (fun M5 f5 e5 => ⟨⟨MP_D (frD_trans fd2 f5) m2, MWd_D (frD_trans fd2 f5) x2.2.1, e5, by rw [List.length_append, List.length_singleton]; omega, m5, hb, by omega⟩, frE_trans fe (frE_D f5)⟩)
    have cod : ∀ v : Nat, (∀ M5, MX T (b + 1) (C ++ r ++ [v]) W op ba M5 → frE M M5 → T_goesOn R 0 [some (.ref 0), none] [] M5) → V_code [.ref 0, .int (nI v)] M4 (fun v' M5 => T_goesOn R 115 [some (.ref 0), none] (v'.toList ++ []) M5) := fun v k5 =>
      s_code e4 rfl (by omega) (fun M5 f5 e5 => r_goesOn_115 (k5 M5 ⟨MP_D (frD_trans fd2 f5) m2, MWd_D (frD_trans fd2 f5) x2.2.1, e5, by rw [List.length_append, List.length_singleton]; omega, m5, hb, by omega⟩ (frE_trans fe (frE_D f5))))
    refine ⟨(n_in (by omega)).mpr (by omega), fun z => ?_, fun z => ⟨(n_in (by omega)).mpr (by omega), fun z2 => ?_, fun z2 => ?_⟩⟩
    · have z : k = 20 := (n_eq (b := 20) (by omega) (by omega)).mp z
      rw [if_pos z, List.append_nil] at q
      exact q M4 fe ⟨MP_D fd2 m2, MWd_D fd2 x2.2.1, e4, by omega, m5, hb, by omega⟩
    · have z : ¬ k = 20 := fun y => z (by rw [y]; rfl)
      have z2 : ¬ k = 23 := fun y => z2 (by rw [y]; rfl)
      rw [if_neg z, if_neg z2] at q
      exact cod 6 (fun M5 x5 f5 => q M5 f5 x5)
    · have z : ¬ k = 20 := fun y => z (by rw [y]; rfl)
      have z2 : k = 23 := (n_eq (b := 23) (by omega) (by omega)).mp (Decidable.not_not.mp z2)
      rw [if_neg z, if_pos z2] at q
      exact cod 5 (fun M5 x5 f5 => q M5 f5 x5)
  have mk' : ∀ (Q : Option Value → mw → Prop), Q (some (.int (nI k))) M1 → V_mark [.ref 0] M1 Q := fun Q q2 => by
    refine s_mark x1.2.2.1 x1.2.2.2.2.2.1 hl x1.2.2.2.2.1 ?_
    rw [hm]; exact q2
  refine mk' _ (r_goesOn_20 ⟨fun _ => dr, fun z => mk' _ (r_goesOn_29 ⟨fun _ => dr, fun z2 => mk' _ (r_goesOn_38 ⟨fun z3 => ?_, fun _ => dr⟩)⟩)⟩)
  exfalso
  rcases hk with g | g | g
  · exact z (by rw [g]; rfl)
  · exact z2 (by rw [g]; rfl)
  · exact z3 (by rw [g]; rfl)
end
