/-! a place that is told, BorderStonesModel -/
section
variable {Q : Option Value → mw → Prop} {T : List Nat} {a : Nat} {M : mw}
/-- place, where the reader stands behind it, where the second number stood -/
def plcP (T : List Nat) (wd hg a : Nat) : Sum (Nat × Nat) (Nat × Nat × Nat) :=
  if hereB T a (wT 19) = true then
    match numP T (sk T a + 2) 0 (wd - 1) with
    | .inl e => .inl e
    | .inr (x, a1) => match numP T a1 0 (hg - 1) with
      | .inl e => .inl e
      | .inr (y, a2) => .inr (wd * y + x, a2, sk T a1)
  else .inl (1, sk T a)
theorem bad_29 {kd pl : Nat} {M' : mw} (h : MBad kd pl M) (f : M' = M) : MBad kd pl M' := by rw [f]; exact h
theorem s_placeTold {wd hg : Nat} {x : Int32} {st : Nat → Nat} (h : MP T a M) (hW : MWd M) (h33 : M.1 33 0 = nI wd) (h34 : M.1 34 0 = nI hg) (w1 : 3 ≤ wd ∧ wd ≤ 7) (g1 : 3 ≤ hg ∧ hg ≤ 7) (h36 : wd * hg ≤ 36) (hst : ∀ p, p < 36 → M.1 41 p = nI (st p)) (hs12 : ∀ p, st p < 12)
    (qe : ∀ e (v : Int32), plcP T wd hg a = .inl e → ∀ M', frT M M' → MBad e.1 e.2 M' → Q (some (.int v)) M')
    (qf : ∀ p a1 np (v : Int32), plcP T wd hg a = .inr (p, a1, np) → x ≠ 0 → 0 < st p → ∀ M', frT M M' → MBad 2 np M' → Q (some (.int v)) M')
    (qo : ∀ p a1 np, plcP T wd hg a = .inr (p, a1, np) → p < wd * hg → (x ≠ 0 → st p = 0) → ∀ M', frT M M' → MP T a1 M' → Q (some (.int (nI p))) M') : V_placeTold [.ref 0, .int x] M Q := by
  have hk := fun {M' : mw} (f : frT M M') (j : Nat) (hj : 33 ≤ j) => f.2.1 j (by omega) (by omega) (by omega) (by omega) (by omega) (by omega)
  have z1 : (1 : Int32) = nI 1 := rfl
  have bd : ∀ (kd pl : Nat) (M1 : mw), frT M M1 → MBad kd pl M1 → (∀ (v : Int32) M', frT M M' → MBad kd pl M' → Q (some (.int v)) M') → ∀ {o0 o1 o2 o3 : Option Value} (s : Int32), T_placeTold Q 31 [some (.ref 0), some (.int x), some (.int s), o3] [.int s] M1 ∨ True := fun _ _ _ _ _ _ => fun _ => Or.inr trivial
  unfold plcP at qe qf qo
  refine e_placeTold (r_placeTold_0 (s_asks (k := 19) h hW (by omega) (by omega) (fun c M1 f1 b1 => r_placeTold_8 ?_) (fun c M1 f1 m1 => r_placeTold_8 ?_)))
  · rw [if_neg (by rw [c]; decide)] at qe
    refine s_numberB b1 _ _ (r_placeTold_19 (s_numberB b1 _ _ (r_placeTold_31 ⟨fun z => absurd z (MBad_ne b1), fun _ => ⟨trivial, qe _ _ rfl M1 f1 b1⟩⟩)))
  rw [if_pos c] at qe qf qo
  rw [show (wT 19).length = 2 from rfl] at m1
  rw [hk f1 33 (by omega), h33, z1, n_sub (by omega)]
  refine s_number (lo := 0) (hi := wd - 1) m1 rfl rfl (by omega) (by omega) (fun kd pl v hn M2 f2 b2 => r_placeTold_19 (s_numberB b2 _ _ (r_placeTold_31 ⟨fun z => absurd z (MBad_ne b2), fun _ => ⟨trivial, ?_⟩⟩))) (fun vx a1 hn M2 f2 m2 _ => r_placeTold_19 ?_)
  · rw [hn] at qe
    exact qe _ _ rfl M2 (frT_trans f1 f2) b2
  rw [hn] at qe qf qo
  have f2 := frT_trans f1 f2
  obtain ⟨_, _, _, vx1⟩ := num_gt m1.2.2.2.1 hn
  rw [hk f2 34 (by omega), h34, z1, n_sub (by omega)]
  refine s_number (lo := 0) (hi := hg - 1) m2 rfl rfl (by omega) (by omega) (fun kd pl v hn M3 f3 b3 => r_placeTold_31 ⟨fun z => absurd z (MBad_ne b3), fun _ => ⟨trivial, ?_⟩⟩) (fun vy a2 hn M3 f3 m3 r9 => r_placeTold_31 ⟨fun _ => ?_, fun z => absurd m3.2.1 z⟩)
  · simp only [hn] at qe
    exact qe _ _ rfl M3 (frT_trans f2 f3) b3
  simp only [hn] at qf qo
  have f3 := frT_trans f2 f3
  obtain ⟨_, _, _, vy1⟩ := num_gt m2.2.2.2.1 hn
  have hp : wd * vy + vx < wd * hg := by
    have : wd * vy + wd ≤ wd * hg := by rw [← Nat.mul_succ]; exact Nat.mul_le_mul_left _ (by omega)
    omega
  have st1 := hs12 (wd * vy + vx)
  rw [hk f3 33 (by omega), h33, n_mul, n_add, n_tn (by omega), hk f3 41 (by omega), hst _ (by omega), show (nI (st (wd * vy + vx)) ≤ (0 : Int32)) ↔ st (wd * vy + vx) ≤ 0 from n_le (b := 0) (by omega) (by omega)]
  have fin : (x ≠ 0 → st (wd * vy + vx) = 0) → T_placeTold Q 70 [some (.ref 0), some (.int x), some (.int (nI vx)), some (.int (nI vy))] [] M3 := fun hx => by
    refine r_placeTold_70 ⟨trivial, ?_⟩
    rw [hk f3 33 (by omega), h33, n_mul, n_add]
    exact qo _ _ _ rfl hp hx M3 f3 m3
  refine ⟨fun z => fin (fun y => absurd z y), fun z => ⟨(n_in (by omega)).mpr (by omega), fun z2 => fin (fun _ => by omega), fun z2 => s_fail (kd := 2) (pl := sk T a1) m3.2.1 rfl r9 (by omega) (fun M4 f4 _ b4 => r_placeTold_70 ⟨trivial, qf _ _ _ _ rfl z (by omega) M4 (frT_trans f3 f4) b4⟩)⟩⟩
end
