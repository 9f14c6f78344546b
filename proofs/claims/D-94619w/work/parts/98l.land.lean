/-! land that is told, BorderStonesModel -/
section
variable {Q : Option Value → mw → Prop} {T : List Nat} {a : Nat} {M : mw}
def ldP (T : List Nat) (wd hg a : Nat) : Sum (Nat × Nat) (Nat × Nat × Nat) := match sdP T a with
  | .inl e => .inl e
  | .inr (v, a1) => match plcP T wd hg a1 with
    | .inl e => .inl e
    | .inr (p, a2, _) => .inr (v, p, a2)
theorem sd_lt {v a1 : Nat} (h : sdP T a = .inr (v, a1)) : v < 2 := by
  unfold sdP at h
  split at h
  · cases h; omega
  · split at h
    · cases h; omega
    · cases h
theorem s_placeB {kd pl : Nat} (b : MBad kd pl M) (x : Int32) (q : Q (some (.int (nI 0))) M) : V_placeTold [.ref 0, .int x] M Q :=
  e_placeTold (r_placeTold_0 (s_asksB b (r_placeTold_8 (s_numberB b _ _ (r_placeTold_19 (s_numberB b _ _ (r_placeTold_31 ⟨fun z => absurd z (MBad_ne b), fun _ => ⟨trivial, q⟩⟩)))))))
theorem s_landIsTold {wd hg : Nat} {st : Nat → Nat} (h : MP T a M) (hW : MWd M) (h33 : M.1 33 0 = nI wd) (h34 : M.1 34 0 = nI hg) (w1 : 3 ≤ wd ∧ wd ≤ 7) (g1 : 3 ≤ hg ∧ hg ≤ 7) (h36 : wd * hg ≤ 36) (hst : ∀ p, p < 36 → M.1 41 p = nI (st p)) (hs12 : ∀ p, st p < 12)
    (qe : ∀ e, ldP T wd hg a = .inl e → ∀ M', frT M M' → MBad e.1 e.2 M' → Q none M')
    (qo : ∀ v p a1, ldP T wd hg a = .inr (v, p, a1) → v < 2 → p < wd * hg → ∀ M', frT M M' → MP T a1 M' → Q none (mM_up M' 42 p (nI (1 + v)))) : V_landIsTold [.ref 0] M Q := by
  have hk := fun {M' : mw} (f : frT M M') (j : Nat) (hj : 33 ≤ j) => f.2.1 j (by omega) (by omega) (by omega) (by omega) (by omega) (by omega)
  unfold ldP at qe qo
  refine e_landIsTold (r_landIsTold_0 (s_sideTold h hW (fun e v hs M1 f1 b1 => r_landIsTold_4 (s_placeB b1 _ (r_landIsTold_10 ⟨fun _ => ⟨rfl, ?_⟩, fun z => absurd (MBad_ne b1) z⟩))) (fun v a1 hs M1 f1 m1 => r_landIsTold_4 ?_)))
  · simp only [hs] at qe
    exact qe e rfl M1 f1 b1
  have hv := sd_lt hs
  simp only [hs] at qe qo
  refine s_placeTold (st := st) m1 (MWd_f f1 hW) (by rw [hk f1 33 (by omega)]; exact h33) (by rw [hk f1 34 (by omega)]; exact h34) w1 g1 h36 (fun p hp => by rw [hk f1 41 (by omega)]; exact hst p hp) hs12 (fun e u hp M2 f2 b2 => r_landIsTold_10 ⟨fun _ => ⟨rfl, ?_⟩, fun z => absurd (MBad_ne b2) z⟩) (fun p a2 np u hp hx => absurd rfl hx) (fun p a2 np hp hlt _ M2 f2 m2 => r_landIsTold_10 ⟨fun z => absurd m2.2.1 z, fun _ => ?_⟩)
  · simp only [hp] at qe
    exact qe e rfl M2 (frT_trans f1 f2) b2
  · simp only [hp] at qo
    rw [n_tn (by omega), show (1 : Int32) + nI v = nI (1 + v) from n_add 1 v]
    exact ⟨(n_in (by omega)).mpr (by omega), rfl, qo _ _ _ rfl hv hlt M2 (frT_trans f1 f2) m2⟩
end
