/-! small parts of statements, BorderStonesModel -/
section
variable {Q : Option Value → mw → Prop} {T : List Nat} {a : Nat} {M : mw}
theorem s_isFull {what room n pl : Nat} {x y z : Int32} (h : M.1 5 0 = 0) (hx : x = nI what) (hy : y = nI room) (hz : z = nI pl) (hw : what < 6) (hr : room < 1000) (hn : n < 1000) (hM : M.1 37 what = nI n)
    (q0 : n ≠ room → Q (some (.int (nI 0))) M) (q1 : n = room → ∀ M', frT M M' → MBad 5 pl M' → Q (some (.int (nI 1))) M') : V_isFull [.ref 0, .int x, .int y, .int z] M Q := by
  subst hx hy
  refine e_isFull (r_isFull_0 ⟨fun c => absurd h c, fun _ => ?_⟩)
  rw [n_tn (by omega), hM, n_eq (by omega) (by omega)]
  refine ⟨(n_in (by omega)).mpr (by omega), fun c => r_isFull_23 ⟨fun _ => ⟨nr_0, q0 c⟩, fun y => absurd h y⟩, fun c => s_fail (kd := 5) (pl := pl) h rfl hz (by omega) (fun M1 f1 _ b1 => r_isFull_23 ⟨fun y => absurd y (MBad_ne b1), fun _ => ⟨nr_1, q1 (Decidable.not_not.mp c) M1 f1 b1⟩⟩)⟩
/-- the kind of a name -/
def kdOf (N : List Int64) (v : Int64) : Option Nat := fstP (fun k => decide (N.getD k 0 = v)) N.length
theorem s_kindOf {N : List Int64} {v : Int64} (hl : N.length ≤ 5) (h1 : M.1 37 0 = nI N.length) (h2 : ∀ k, k < N.length → M.2 38 k = N.getD k 0) (q : Q (some (.int (plI (kdOf N v)))) M) : V_kindOf [.ref 0, .long v] M Q := by
  have e0 : Int32.toNatClampNeg 0 = 0 := by decide
  refine e_kindOf (r_kindOf_0 ?_)
  refine upTo N.length (fun k (_ : Unit) => ∀ j, j < k → N.getD j 0 ≠ v) (fun k _ => ∀ {o2 : Option Value}, T_kindOf Q 2 [some (.ref 0), some (.long v), o2, some (.int (nI k))] [] M) ?_ ?_ 0 () (by omega) (fun j hj => by omega)
  · intro _ hn o2
    refine r_kindOf_2 ?_
    rw [e0, h1]
    refine ⟨(n_in (a := 0) (by omega)).mpr (by omega), fun _ => ⟨trivial, ?_⟩, fun z => absurd (Int32.le_refl _) z⟩
    have : kdOf N v = none := fstP_none (fun u hu => decide_eq_false (hn u hu))
    rw [this] at q; exact q
  · intro k _ hk hn next o2
    refine r_kindOf_2 ?_
    rw [e0, h1, n_le (by omega) (by omega), n_tn (by omega), h2 k hk, lg_cmp_eq, show nI k + 1 = nI (k + 1) from n_add k 1]
    refine ⟨(n_in (a := 0) (by omega)).mpr (by omega), fun z => by omega, fun _ => ⟨(n_in (by omega)).mpr (by omega), fun z => next () (fun j hj => ?_), fun z => ⟨trivial, ?_⟩⟩⟩
    · by_cases e : j = k
      · rw [e]; exact z
      · exact hn j (by omega)
    · have : kdOf N v = some k := fstP_some hk (decide_eq_true (Decidable.not_not.mp z)) (fun u hu => decide_eq_false (hn u hu))
      rw [this] at q; exact q
/-- a side that is told -/
def sdP (T : List Nat) (a : Nat) : Sum (Nat × Nat) (Nat × Nat) := if hereB T a (wT 17) = true then .inr (0, sk T a + 3) else if hereB T a (wT 18) = true then .inr (1, sk T a + 4) else .inl (1, sk T a)
theorem s_sideTold (h : MP T a M) (hW : MWd M) (qe : ∀ e (v : Int32), sdP T a = .inl e → ∀ M', frT M M' → MBad e.1 e.2 M' → Q (some (.int v)) M') (qo : ∀ v a1, sdP T a = .inr (v, a1) → ∀ M', frT M M' → MP T a1 M' → Q (some (.int (nI v))) M') : V_sideTold [.ref 0] M Q := by
  have hss := sk_sk h.2.2.2.1
  have hs := here_sk h.2.2.2.1
  unfold sdP at qe qo
  refine e_sideTold (r_sideTold_0 (s_takes (k := 17) h hW (by omega) (by omega) (fun c M1 f1 m1 => r_sideTold_8 ⟨fun _ => ?_, fun z => absurd rfl z⟩) (fun c M1 f1 m1 => r_sideTold_8 ⟨fun z => absurd z (by decide), fun _ => ⟨trivial, ?_⟩⟩)))
  · rw [if_neg (by rw [c]; decide)] at qe qo
    refine s_asks (k := 18) m1 (MWd_f f1 hW) (by omega) (by omega) (fun c2 M2 f2 b2 => r_sideTold_21 ⟨trivial, ?_⟩) (fun c2 M2 f2 m2 => r_sideTold_21 ⟨trivial, ?_⟩)
    · rw [hs] at c2
      rw [hss] at b2
      rw [if_neg (by rw [c2]; decide)] at qe
      exact qe _ _ rfl M2 (frT_trans f1 f2) b2
    · rw [hs] at c2
      rw [hss, show (wT 18).length = 4 from rfl] at m2
      rw [if_pos c2] at qo
      exact qo _ _ rfl M2 (frT_trans f1 f2) m2
  · rw [if_pos c] at qo
    rw [show (wT 17).length = 3 from rfl] at m1
    exact qo _ _ rfl M1 f1 m1
end
