/-! facts, BorderStonesModel -/
section
variable {Q : Option Value → mw → Prop} {T C W : List Nat} {a op ba : Nat} {M : mw}
def sqB (W : List Nat) : Bool := (List.range W.length).any (fun k => decide (W.getD k 0 = 25))
theorem s_hasSquare (h : MEx C W op ba M) (hl : W.length < 1700) (hw : ∀ u, u ∈ W → u < 100) (q : Q (some (.int (bI (sqB W)))) M) : V_hasSquare [.ref 0] M Q := by
  refine e_hasSquare (r_hasSquare_0 ?_)
  refine upTo W.length (fun k (_ : Unit) => ∀ j, j < k → W.getD j 0 ≠ 25) (fun k _ => T_hasSquare Q 2 [some (.ref 0), some (.int (nI k))] [] M) ?_ ?_ 0 () (by omega) (fun j hj => by omega)
  · intro _ hn
    refine r_hasSquare_2 ?_
    rw [h.2.1.1]
    refine ⟨fun _ => ⟨nr_0, ?_⟩, fun z => absurd (Int32.le_refl _) z⟩
    have : sqB W = false := by
      unfold sqB; rw [List.any_eq_false]
      intro k hk
      rw [decide_eq_false (hn k (List.mem_range.mp hk))]; decide
    rw [this] at q; exact q
  · intro k _ hk hn next
    have b := hw _ (getD_mem hk)
    refine r_hasSquare_2 ?_
    rw [h.2.1.1, n_le (by omega) (by omega), n_tn (by omega), h.2.1.2 k hk, show (nI (W.getD k 0) = (25 : Int32)) ↔ W.getD k 0 = 25 from n_eq (b := 25) (by omega) (by omega), show nI k + 1 = nI (k + 1) from n_add k 1]
    refine ⟨fun z => by omega, fun _ => ⟨(n_in (by omega)).mpr (by omega), fun z => next () (fun j hj => ?_), fun z => ⟨nr_1, ?_⟩⟩⟩
    · by_cases e : j = k
      · rw [e]; exact z
      · exact hn j (by omega)
    · have : sqB W = true := by
        unfold sqB; rw [List.any_eq_true]
        exact ⟨k, List.mem_range.mpr hk, decide_eq_true (Decidable.not_not.mp z)⟩
      rw [this] at q; exact q
/-- a comparison, all: what is no bracket and no 'not' -/
def cmP (T : List Nat) (F a op : Nat) : PR :=
  if hereB T a (wT 26) = true then .inr ([17], sk T a + 3)
  else bnd (pE T F 3 a op) (fun c1 a1 => if (chB T (sk T a1) 60 || chB T (sk T a1) 62 || chB T (sk T a1) 61) = true then bnd (pE T F 3 (sk T a1 + 1) op) (fun c2 a2 => .inr (c1 ++ c2 ++ [if chB T (sk T a1) 60 = true then 11 else if chB T (sk T a1) 62 = true then 12 else 13], sk T a2)) else .inl (1, sk T a1))
theorem sk_ge (T : List Nat) (a : Nat) : a ≤ sk T a := by
  refine spL_ind (T := T) (f := isBl) (fun a => a ≤ sk T a) (fun k h => ?_) (fun k h1 h2 ih => ?_) a
  · have : sk T k = k := spL_no h
    omega
  · have : sk T k = sk T (k + 1) := spL_go h1 h2
    omega
theorem sk_sk2 (T : List Nat) (a : Nat) : sk T (sk T a) = sk T a := by
  refine spL_ind (T := T) (f := isBl) (fun a => sk T (sk T a) = sk T a) (fun k h => ?_) (fun k h1 h2 ih => ?_) a
  · have : sk T k = k := spL_no h
    rw [this, this]
  · have : sk T k = sk T (k + 1) := spL_go h1 h2
    rw [this]; exact ih
theorem dl_ge (T : List Nat) (a : Nat) : a ≤ dl T a := by
  refine spL_ind (T := T) (f := isDi) (fun a => a ≤ dl T a) (fun k h => ?_) (fun k h1 h2 ih => ?_) a
  · have : dl T k = k := spL_no h
    omega
  · have : dl T k = dl T (k + 1) := spL_go h1 h2
    omega
theorem at_len {c : List Nat} {a1 : Nat} (h : atP T a = .inr (c, a1)) : c.length + a ≤ a1 := by
  have hs := sk_ge T a
  unfold atP at h
  split at h
  · cases h; simp only [List.length_singleton]; omega
  · split at h
    · cases h; simp only [List.length_singleton]; omega
    · split at h
      · cases h; simp only [List.length_singleton]; omega
      · split at h
        · cases h
        · rename_i v e hn
          cases h
          simp only [List.length_singleton]
          unfold numP at hn
          split at hn
          · rename_i c0
            simp only [Bool.and_eq_true, decide_eq_true_eq] at c0
            have g1 : dl T (sk T a) = dl T (sk T a + 1) := spL_go c0.1.1 c0.1.2
            have g2 := dl_ge T (sk T a + 1)
            split at hn
            · cases hn
            · split at hn
              · cases hn; omega
              · cases hn
          · cases hn
theorem bnd_inv {r : PR} {k : List Nat → Nat → PR} {c : List Nat} {b : Nat} (h : bnd r k = .inr (c, b)) : ∃ c1 a1, r = .inr (c1, a1) ∧ k c1 a1 = .inr (c, b) := by
  cases r with
  | inl e => cases h
  | inr x => exact ⟨x.1, x.2, rfl, h⟩
/-- no more codes than bytes -/
theorem pE_len (T : List Nat) (f : Nat) : ∀ tag a op c a1, pE T f tag a op = .inr (c, a1) → c.length + a ≤ a1 := by
  induction f with
  | zero => intro tag a op c a1 h; cases h
  | succ f ih =>
    intro tag a op c a1 h
    have hs := sk_ge T a
    unfold pE at h
    split at h
    · split at h
      · split at h
        · cases h
        · obtain ⟨c1, b1, h1, h2⟩ := bnd_inv h
          have g1 := ih _ _ _ _ _ h1
          have s1 := sk_ge T b1
          split at h2
          · cases h2; omega
          · cases h2
      · split at h
        · split at h
          · split at h
            · cases h
            · obtain ⟨c1, b1, h1, h2⟩ := bnd_inv h
              have g1 := ih _ _ _ _ _ h1
              have s1 := sk_ge T b1
              have s3 := sk_ge T (sk T a + 3)
              split at h2
              · obtain ⟨c2, b2, h3, h4⟩ := bnd_inv h2
                have g2 := ih _ _ _ _ _ h3
                have s2 := sk_ge T b2
                split at h4
                · cases h4
                  simp only [List.length_append, List.length_singleton]
                  omega
                · cases h4
              · cases h2
          · cases h
        · exact at_len h
    · split at h
      · obtain ⟨c1, b1, h1, h2⟩ := bnd_inv h
        obtain ⟨c2, b2, h3, h4⟩ := bnd_inv h2
        have g1 := ih _ _ _ _ _ h1
        have g2 := ih _ _ _ _ _ h3
        cases h4
        simp only [List.length_append]
        omega
      · split at h
        · split at h
          · obtain ⟨c1, b1, h1, h2⟩ := bnd_inv h
            obtain ⟨c2, b2, h3, h4⟩ := bnd_inv h2
            have g1 := ih _ _ _ _ _ h1
            have g2 := ih _ _ _ _ _ h3
            cases h4
            simp only [List.length_append, List.length_cons]
            omega
          · split at h
            · obtain ⟨c1, b1, h1, h2⟩ := bnd_inv h
              obtain ⟨c2, b2, h3, h4⟩ := bnd_inv h2
              have g1 := ih _ _ _ _ _ h1
              have g2 := ih _ _ _ _ _ h3
              cases h4
              simp only [List.length_append, List.length_cons]
              omega
            · cases h; simp
        · split at h
          · obtain ⟨c1, b1, h1, h2⟩ := bnd_inv h
            obtain ⟨c2, b2, h3, h4⟩ := bnd_inv h2
            have g1 := ih _ _ _ _ _ h1
            have g2 := ih _ _ _ _ _ h3
            cases h4
            simp only [List.length_append]
            omega
          · split at h
            · obtain ⟨c1, b1, h1, h2⟩ := bnd_inv h
              obtain ⟨c2, b2, h3, h4⟩ := bnd_inv h2
              have g1 := ih _ _ _ _ _ h1
              have g2 := ih _ _ _ _ _ h3
              cases h4
              simp only [List.length_append, List.length_cons]
              omega
            · split at h
              · obtain ⟨c1, b1, h1, h2⟩ := bnd_inv h
                obtain ⟨c2, b2, h3, h4⟩ := bnd_inv h2
                have g1 := ih _ _ _ _ _ h1
                have g2 := ih _ _ _ _ _ h3
                cases h4
                simp only [List.length_append, List.length_cons]
                omega
              · cases h; simp
theorem at_sk (h : a ≤ T.length) : atP T (sk T a) = atP T a := by
  unfold atP
  rw [here_sk h, here_sk h, here_sk h, num_sk h, sk_sk h]
theorem pE_sk0 (h : a ≤ T.length) (f op : Nat) : pE T f 0 (sk T a) op = pE T f 0 a op := by
  cases f with
  | zero => rfl
  | succ f =>
    unfold pE
    simp only [if_true, sk_sk h, here_sk h, at_sk h]
theorem pE_sk1 (h : a ≤ T.length) (f op : Nat) : pE T f 1 (sk T a) op = pE T f 1 a op := by
  cases f with
  | zero => rfl
  | succ f =>
    have e : ∀ b, pE T (f + 1) 1 b op = bnd (pE T f 0 b op) (fun c a1 => bnd (pE T f 2 a1 op) (fun c2 a2 => .inr (c ++ c2, a2))) := fun _ => rfl
    rw [e, e, pE_sk0 h]
theorem pE_sk3 (h : a ≤ T.length) (f op : Nat) : pE T f 3 (sk T a) op = pE T f 3 a op := by
  cases f with
  | zero => rfl
  | succ f =>
    have e : ∀ b, pE T (f + 1) 3 b op = bnd (pE T f 1 b op) (fun c a1 => bnd (pE T f 4 a1 op) (fun c2 a2 => .inr (c ++ c2, a2))) := fun _ => rfl
    rw [e, e, pE_sk1 h]
theorem code_bad {v : Int32} {kd pl : Nat} (b : MBad kd pl M) (d : cdB M) (q : ∀ M', frD M M' → MBad kd pl M' → Q none M') : V_code [.ref 0, .int v] M Q := by
  obtain ⟨n, h1, h2⟩ := d
  refine e_code (r_code_0 ?_)
  rw [m_up, if_neg (by omega), h2, show (0 : Int32) + nI n = nI (0 + n) from n_add 0 _, Nat.zero_add, n_tn (by omega)]
  exact ⟨(n_in (by omega)).mpr (by omega), rfl, q _ (frD_up (frD_up (frD_refl M) (by omega)) (by omega)) (MBad_up (MBad_up b (by omega)) (by omega))⟩
theorem s_fact (F : Nat) (h : MX T a C W op ba M) (h0 : ∀ u, 1 ≤ u → u ≤ 4 → onB W u = false)
    (qe : ∀ e, cmP T F a op = .inl e → e ≠ (0, 0) ∧ ∀ M', frE M M' → MBad e.1 e.2 M' → Q none M')
    (qo : ∀ c a1, cmP T F a op = .inr (c, a1) → ∀ M', frE M M' → MX T a1 (C ++ c) W op ba M' → Q none M') : V_fact [.ref 0] M Q := by
  have hT := h.1.1.2.2
  have hsk := sk_is T h.1.2.2.2.1
  have m4 := h.2.2.2.1
  unfold cmP at qe qo
  refine e_fact (r_fact_0 (s_takes (k := 26) h.1 h.2.1 (by omega) (by omega) (fun c M1 f1 m1 => r_fact_8 ⟨fun _ => ?_, fun z => absurd rfl z⟩) (fun c M1 f1 m1 => r_fact_8 ⟨fun z => absurd z (by decide), fun _ => ?_⟩)))
  rotate_left
  · rw [if_pos c] at qo
    rw [show (wT 26).length = 3 from rfl] at m1
    have x1 := MX_T h f1 m1 (by omega)
    have ha := MX_a x1
    exact s_code (v := 17) x1.2.2.1 rfl (by omega) (fun M2 f2 e2 => r_fact_17 ⟨rfl, qo _ _ rfl M2 (frE_trans (frE_T f1) (frE_D f2)) ⟨MP_D f2 x1.1, MWd_D f2 x1.2.1, e2, by rw [List.length_append, List.length_singleton]; omega, x1.2.2.2.2⟩⟩)
  rw [if_neg (by rw [c]; decide)] at qe qo
  have x1 := MX_T h f1 m1 hsk.1
  rw [← pE_sk3 h.1.2.2.2.1] at qe qo
  refine s_sumsTold F x1 h0 (fun e he => ⟨(qe e (bnd_l he)).1, fun M2 f2 b2 _ => r_fact_22 ⟨fun z => absurd z (MBad_ne b2), fun _ => ⟨rfl, (qe e (bnd_l he)).2 M2 (frE_trans (frE_T f1) f2) b2⟩⟩⟩) (fun c1 a1 hc1 n1 M2 f2 x2 => r_fact_22 ⟨fun _ => ?_, fun z => absurd x2.1.2.1 z⟩)
  rw [bnd_r hc1] at qe qo
  have l1 := pE_len T F _ _ _ _ _ hc1
  have s1 := sk_ge T a1
  have hb1 := x2.1.2.2.2.1
  have f2 := frE_trans (frE_T f1) f2
  have x16 := MX_a x2
  have ess : sk T (sk T a1) = sk T a1 := sk_sk2 T a1
  refine s_look _ M2 x2.1 (frT_refl M2) (fun M3 f3 m3 => r_fact_34 ?_)
  rw [ess] at m3 ⊢
  have x3 := MX_T x2 f3 m3 (Nat.le_refl _)
  have f3' := frE_trans f2 (frE_T f3)
  generalize sk T a1 = b at *
  have go : ∀ (k v : Nat), k = 60 ∨ k = 62 ∨ k = 61 → chB T b k = true → (if chB T b 60 = true then 11 else if chB T b 62 = true then 12 else 13) = v → (chB T b 60 || chB T b 62 || chB T b 61) = true →
      (∀ M', T_fact Q 77 [some (.ref 0), some (.int (ch T b))] [] M' → T_fact Q 77 [some (.ref 0), some (.int (ch T b))] [] M') → V_sumsTold [.ref 0] (mM_up M3 2 0 ((M3.1 2 0) + 1)) (fun u M4 => T_fact Q 77 [some (.ref 0), some (.int (ch T b))] (u.toList ++ []) M4) := by
    intro k v hk hc hv hany _
    rw [if_pos hany, hv] at qe qo
    have hbl : b < T.length ∧ T.getD b 0 = k := by
      unfold chB at hc
      rw [Bool.and_eq_true, decide_eq_true_eq, decide_eq_true_eq] at hc
      exact hc
    rw [m3.2.2.1, show nI b + 1 = nI (b + 1) from n_add b 1]
    have fu : frT M3 (mM_up M3 2 0 (nI (b + 1))) := frT_up (frT_refl M3) (by omega)
    have m4' : MP T (b + 1) (mM_up M3 2 0 (nI (b + 1))) := ⟨MPt_f fu m3.1, by rw [m_up, if_neg (by omega)]; exact m3.2.1, by rw [m_up, if_pos ⟨rfl, rfl⟩], by omega, by rw [m_up, if_neg (by omega)]; exact en_next m3.2.2.2.2 (by omega) (by rw [hbl.2]; rcases hk with g | g | g <;> subst g <;> decide)⟩
    have x4 := MX_T x3 fu m4' (Nat.le_succ _)
    have f4 := frE_trans f3' (frE_T fu)
    have ch60 : (ch T b = 60) ↔ chB T b 60 = true := ch_B (c := 60) hT (by omega)
    have ch62 : (ch T b = 62) ↔ chB T b 62 = true := ch_B (c := 62) hT (by omega)
    have pick : ∀ (M5 : mw), (∀ {o0 o1 : Option Value}, V_code [.ref 0, .int (nI v)] M5 (fun u M6 => T_fact Q 105 [o0, o1] (u.toList ++ []) M6)) → T_fact Q 77 [some (.ref 0), some (.int (ch T b))] [] M5 := by
      intro M5 k5
      refine r_fact_77 ?_
      rw [ch60, ch62]
      refine ⟨fun z => ⟨fun z2 => ?_, fun z2 => ?_⟩, fun z => ?_⟩
      · rw [if_neg z, if_neg z2] at hv; subst hv; exact k5
      · rw [if_neg z, if_pos (Decidable.not_not.mp z2)] at hv; subst hv; exact k5
      · rw [if_pos (Decidable.not_not.mp z)] at hv; subst hv; exact k5
    refine s_sumsTold F x4 h0 (fun e he => ⟨(qe e (bnd_l he)).1, fun M5 f5 b5 d5 => pick M5 (fun {o0 o1} => code_bad b5 d5 (fun M6 f6 b6 => r_fact_105 ⟨rfl, (qe e (bnd_l he)).2 M6 (frE_trans f4 (frE_trans f5 (frE_D f6))) b6⟩))⟩) (fun c2 a2 hc2 n2 M5 f5 x5 => pick M5 (fun {o0 o1} => ?_))
    have l2 := pE_len T F _ _ _ _ _ hc2
    have s2 := sk_ge T a2
    have a5 := MX_a x5
    have m54 := x5.2.2.2.1
    rw [bnd_r hc2] at qo
    refine s_code (v := v) x5.2.2.1 rfl (by omega) (fun M6 f6 e6 => r_fact_105 ⟨rfl, qo _ _ rfl M6 (frE_trans f4 (frE_trans f5 (frE_D f6))) ⟨MP_D f6 x5.1, MWd_D f6 x5.2.1, ?_, ?_, x5.2.2.2.2⟩⟩)
    · simp only [List.append_assoc] at e6 ⊢; exact e6
    · simp only [List.length_append, List.length_singleton] at m54 ⊢; omega
  have c60 : (ch T b = 60) ↔ chB T b 60 = true := ch_B (c := 60) hT (by omega)
  have c62 : (ch T b = 62) ↔ chB T b 62 = true := ch_B (c := 62) hT (by omega)
  have c61 : (ch T b = 61) ↔ chB T b 61 = true := ch_B (c := 61) hT (by omega)
  rw [c60, c62, c61]
  refine ⟨fun z => go 60 _ (by omega) z rfl (by rw [z]; rfl) (fun _ x => x), fun z => ⟨fun z2 => go 62 _ (by omega) z2 rfl (by rw [z2]; simp) (fun _ x => x), fun z2 => ⟨fun z3 => go 61 _ (by omega) z3 rfl (by rw [z3]; simp) (fun _ x => x), fun z3 => ?_⟩⟩⟩
  rw [if_neg (by simp [z, z2, z3])] at qe
  exact s_fail (kd := 1) (pl := b) m3.2.1 rfl m3.2.2.1 (by omega) (fun M4 f4 _ b4 => r_fact_62 ⟨rfl, (qe _ rfl).2 M4 (frE_trans f3' (frE_T f4)) b4⟩)
end
