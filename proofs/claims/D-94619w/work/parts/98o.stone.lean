/-! a stone, a rule that is told, BorderStonesModel -/
section
variable {Q : Option Value → mw → Prop} {T : List Nat} {a : Nat} {M : mw}
def stoP (T : List Nat) (wd hg : Nat) (t : TB) (b a : Nat) : Sum (Nat × Nat) (TB × Nat) := if tN t = 20 then .inl (5, b) else match nmP T a with
  | .inl e => .inl e
  | .inr e => match kdL (tK t) (wdL T (sk T a) (e - sk T a)) with
    | none => .inl (3, sk T a)
    | some k => match sdP T e with
      | .inl e => .inl e
      | .inr (v, a1) => match plcP T wd hg a1 with
        | .inl e => .inl e
        | .inr (p, a2, np) => if 0 < tS t p then .inl (2, np) else .inr ((tK t, (fun u => if u = p then 2 + 2 * k + v else tS t u), tL t, tN t + 1, tR t), a2)
theorem t_50B {x4 : Int32} {kd pl : Nat} {s0 : Int32} (b : MBad kd pl M) (q : Q none M) {o1 o2 o3 o5 o6 : Option Value} : T_stoneIsTold Q 50 [some (.ref 0), o1, o2, o3, some (.int x4), o5, o6] [.int s0] M :=
  r_stoneIsTold_50 (s_placeB b _ (r_stoneIsTold_57 ⟨fun z => absurd z (MBad_ne b), fun _ => ⟨rfl, q⟩⟩))
theorem t_46B {x4 : Int32} {kd pl : Nat} (b : MBad kd pl M) (q : Q none M) {o1 o2 o3 o5 o6 : Option Value} : T_stoneIsTold Q 46 [some (.ref 0), o1, o2, o3, some (.int x4), o5, o6] [] M :=
  r_stoneIsTold_46 (e_sideTold (r_sideTold_0 (s_takesB b (r_sideTold_8 ⟨fun _ => s_asksB b (r_sideTold_21 ⟨trivial, t_50B b q⟩), fun z => absurd rfl z⟩))))
theorem s_kindAny {n : Nat} {v : Int64} (hl : n ≤ 5) (h1 : M.1 37 0 = nI n) (q : ∀ x, Q (some (.int x)) M) : V_kindOf [.ref 0, .long v] M Q := by
  have e : n = ((List.range n).map (fun k => M.2 38 k)).length := by rw [List.length_map, List.length_range]
  refine s_kindOf (N := (List.range n).map (fun k => M.2 38 k)) (by omega) (by rw [← e]; exact h1) (fun k hk => ?_) (q _)
  rw [← e] at hk
  rw [List.getD_eq_getElem?_getD, List.getElem?_map, List.getElem?_range hk]; rfl
theorem MTB_stone {wd hg : Nat} {t : TB} {p v : Nat} (h : MTB wd hg t M) (hp : p < 36) : MTB wd hg (tK t, (fun u => if u = p then v else tS t u), tL t, tN t + 1, tR t) (mM_up (mM_up M 41 p (nI v)) 37 1 (nI (tN t + 1))) := by
  obtain ⟨⟨a1, a2⟩, ⟨a3, a4⟩, ⟨a5, a6⟩, a7, ⟨a8, a9⟩, b1, b2⟩ := h
  have up : ∀ j i, j ≠ 37 → j ≠ 41 → (mM_up (mM_up M 41 p (nI v)) 37 1 (nI (tN t + 1))).1 j i = M.1 j i := fun j i h1 h2 => by
    rw [m_up, if_neg (by omega), m_up, if_neg (by omega)]
  have u37 : ∀ i, i ≠ 1 → (mM_up (mM_up M 41 p (nI v)) 37 1 (nI (tN t + 1))).1 37 i = M.1 37 i := fun i h1 => by
    rw [m_up, if_neg (by omega), m_up, if_neg (by omega)]
  refine ⟨⟨by rw [up _ _ (by omega) (by omega)]; exact a1, by rw [up _ _ (by omega) (by omega)]; exact a2⟩, ⟨by rw [u37 0 (by omega)]; exact a3, fun k hkk => by rw [up _ _ (by omega) (by omega), up _ _ (by omega) (by omega), m_up2, m_up2]; exact a4 k hkk⟩, ⟨by rw [m_up, if_pos ⟨rfl, rfl⟩]; rfl, fun u hu => ?_⟩, fun u hu => by rw [up _ _ (by omega) (by omega)]; exact a7 u hu, ⟨by rw [u37 2 (by omega)]; exact a8, fun k hkk => by rw [up _ _ (by omega) (by omega), up _ _ (by omega) (by omega), up _ _ (by omega) (by omega)]; exact a9 k hkk⟩, by rw [up _ _ (by omega) (by omega)]; exact b1, fun k hkk => by rw [up _ _ (by omega) (by omega)]; exact b2 k hkk⟩
  show _ = nI (if u = p then v else tS t u)
  by_cases e : u = p
  · rw [if_pos e, m_up, if_neg (by omega), m_up, if_pos ⟨rfl, e⟩]
  · rw [if_neg e, m_up, if_neg (by omega), m_up, if_neg (fun z => e z.2)]; exact a6 u hu
theorem s_stoneIsTold {wd hg : Nat} {t : TB} {b : Nat} {x : Int32} (h : MP T a M) (hW : MWd M) (hb : MTB wd hg t M) (ht : tOk t) (hf : fOk wd hg) (hx : x = nI b)
    (qe : ∀ e, stoP T wd hg t b a = .inl e → ∀ M', frB M M' → MBad e.1 e.2 M' → Q none M')
    (qo : ∀ t' a1, stoP T wd hg t b a = .inr (t', a1) → ∀ M', frB M M' → MP T a1 M' → MWd M' → MTB wd hg t' M' → Q none M') : V_stoneIsTold [.ref 0, .int x] M Q := by
  unfold stoP at qe qo
  have hl := ht.1
  have hN := ht.2.2.2.2.1
  have hst := fun p => (ht.2.2.1 p).1
  refine e_stoneIsTold (r_stoneIsTold_0 (s_isFull (what := 1) (room := 20) (pl := b) (n := tN t) h.2.1 rfl rfl hx (by omega) (by omega) (by omega) hb.2.2.1.1 (fun c => r_stoneIsTold_8 ⟨fun _ => ?_, fun z => absurd rfl z⟩) (fun c M1 f1 b1 => r_stoneIsTold_8 ⟨fun z => absurd z (by decide), fun _ => ⟨rfl, ?_⟩⟩)))
  rotate_left
  · rw [if_pos c] at qe
    exact qe _ rfl M1 (frB_T f1) b1
  rw [if_neg c] at qe qo
  refine s_name h hW (fun kd pl v hn M1 f1 b1 => r_stoneIsTold_16 (s_kindAny hl (MTB_T f1 hb).2.1.1 (fun y => r_stoneIsTold_22 ⟨fun _ => t_46B b1 ?_, fun z => absurd (MBad_ne b1) z⟩))) (fun e hn M1 f1 m1 n32 => r_stoneIsTold_16 ?_)
  · simp only [hn] at qe
    exact qe _ rfl M1 (frB_T f1) b1
  simp only [hn] at qe qo
  obtain ⟨e1, e2, e3, e4⟩ := nm_ok h.2.2.2.1 hn
  have wok := wdL_ok (b := sk T a) (k := e - sk T a) (by omega) (by omega) e4
  have b1 := MTB_T f1 hb
  rw [nmV_L e4]
  have q37 := b1.2.1.1
  refine s_kindOf (N := (tK t).map (fun q => Int64.ofNat (nmL q.1))) (by rw [List.length_map]; omega) (by rw [List.length_map]; exact q37) (MKd_names b1) ?_
  rw [kd_eq (fun q hq => (ht.2.1 q hq).1) wok]
  have hlt : ∀ p, kdL (tK t) (wdL T (sk T a) (e - sk T a)) = some p → p < 2147483648 := fun p hp => by have := kdL_lt hp; omega
  refine r_stoneIsTold_22 ⟨fun z => absurd m1.2.1 z, fun _ => ⟨fun z => ?_, fun z => s_fail (kd := 3) (pl := sk T a) m1.2.1 rfl n32 (by omega) (fun M2 f2 _ b2 => t_46B b2 ?_)⟩⟩
  rotate_left
  · rw [pl_m1 hlt] at z
    simp only [Decidable.not_not.mp z] at qe
    exact qe _ rfl M2 (frB_T (frT_trans f1 f2)) b2
  rw [pl_m1 hlt] at z
  cases hk : kdL (tK t) (wdL T (sk T a) (e - sk T a)) with
  | none => exact absurd hk z
  | some k =>
  have hkl := kdL_lt hk
  simp only [hk] at qe qo
  have hW1 := MWd_f f1 hW
  refine r_stoneIsTold_46 (s_sideTold m1 hW1 (fun e v hs M2 f2 b2 => t_50B b2 ?_) (fun v a1 hs M2 f2 m2 => r_stoneIsTold_50 ?_))
  · simp only [hs] at qe
    exact qe e rfl M2 (frB_T (frT_trans f1 f2)) b2
  have hv := sd_lt hs
  simp only [hs] at qe qo
  have f2' := frT_trans f1 f2
  have b2 := MTB_T f2' hb
  refine s_placeTold (st := tS t) m2 (MWd_f f2' hW) b2.1.1 b2.1.2 hf.1 hf.2.1 hf.2.2 b2.2.2.1.2 (fun p => by have := hst p; omega) (fun e u hp M3 f3 b3 => r_stoneIsTold_57 ⟨fun z => absurd z (MBad_ne b3), fun _ => ⟨rfl, ?_⟩⟩) (fun p a2 np u hp hx0 h0 M3 f3 b3 => r_stoneIsTold_57 ⟨fun z => absurd z (MBad_ne b3), fun _ => ⟨rfl, ?_⟩⟩) (fun p a2 np hp hlt2 h0 M3 f3 m3 => r_stoneIsTold_57 ⟨fun _ => ?_, fun z => absurd m3.2.1 z⟩)
  · simp only [hp] at qe
    exact qe e rfl M3 (frB_T (frT_trans f2' f3)) b3
  · simp only [hp] at qe
    rw [if_pos h0] at qe
    exact qe _ rfl M3 (frB_T (frT_trans f2' f3)) b3
  · simp only [hp] at qo
    rw [if_neg (by have := h0 (by decide); omega)] at qo
    have f3' := frT_trans f2' f3
    have b3 := MTB_T f3' hb
    have e1 : Int32.toNatClampNeg 1 = 1 := by decide
    have p36 := hf.2.2
    have i1 : vp_in 1 6 := (n_in (a := 1) (by omega)).mpr (by omega)
    have q37 := b3.2.2.1.1
    rw [e1, n_tn (by omega), show plI (some k) = nI k from rfl, show (2 : Int32) + 2 * nI k + nI v = nI (2 + 2 * k + v) from by rw [show (2 : Int32) * nI k = nI (2 * k) from n_mul 2 k, show (2 : Int32) + nI (2 * k) = nI (2 + 2 * k) from n_add 2 _, n_add]]
    refine ⟨(n_in (by omega)).mpr (by omega), i1, i1, rfl, ?_⟩
    rw [m_up, if_neg (by omega), q37, show nI (tN t) + 1 = nI (tN t + 1) from n_add _ 1]
    exact qo _ _ rfl _ (frB_trans (frB_T f3') (frB_up (frB_up (frB_refl M3) (by unfold pB; omega)) (by unfold pB; omega))) (MP_c (up33 (by omega) (up33 (by omega) (fun _ _ _ => rfl))) m3) (MWd_c (up33 (by omega) (up33 (by omega) (fun _ _ _ => rfl))) (MWd_f f3' hW)) (MTB_stone b3 (by omega))
def lanP (T : List Nat) (wd hg : Nat) (t : TB) (a : Nat) : Sum (Nat × Nat) (TB × Nat) := match ldP T wd hg a with
  | .inl e => .inl e
  | .inr (v, p, a1) => .inr ((tK t, tS t, (fun u => if u = p then 1 + v else tL t u), tN t, tR t), a1)
theorem MTB_land {wd hg : Nat} {t : TB} {p v : Nat} (h : MTB wd hg t M) : MTB wd hg (tK t, tS t, (fun u => if u = p then v else tL t u), tN t, tR t) (mM_up M 42 p (nI v)) := by
  obtain ⟨⟨a1, a2⟩, ⟨a3, a4⟩, ⟨a5, a6⟩, a7, ⟨a8, a9⟩, b1, b2⟩ := h
  have up : ∀ j i, j ≠ 42 → (mM_up M 42 p (nI v)).1 j i = M.1 j i := fun j i h1 => by
    rw [m_up, if_neg (by omega)]
  refine ⟨⟨by rw [up _ _ (by omega)]; exact a1, by rw [up _ _ (by omega)]; exact a2⟩, ⟨by rw [up _ _ (by omega)]; exact a3, fun k hkk => by rw [up _ _ (by omega), up _ _ (by omega), m_up2]; exact a4 k hkk⟩, ⟨by rw [up _ _ (by omega)]; exact a5, fun u hu => by rw [up _ _ (by omega)]; exact a6 u hu⟩, fun u hu => ?_, ⟨by rw [up _ _ (by omega)]; exact a8, fun k hkk => by rw [up _ _ (by omega), up _ _ (by omega), up _ _ (by omega)]; exact a9 k hkk⟩, by rw [up _ _ (by omega)]; exact b1, fun k hkk => by rw [up _ _ (by omega)]; exact b2 k hkk⟩
  show _ = nI (if u = p then v else tL t u)
  by_cases e : u = p
  · rw [if_pos e, m_up, if_pos ⟨rfl, e⟩]
  · rw [if_neg e, m_up, if_neg (fun z => e z.2)]; exact a7 u hu
theorem s_landT {wd hg : Nat} {t : TB} (h : MP T a M) (hW : MWd M) (hb : MTB wd hg t M) (ht : tOk t) (hf : fOk wd hg)
    (qe : ∀ e, lanP T wd hg t a = .inl e → ∀ M', frB M M' → MBad e.1 e.2 M' → Q none M')
    (qo : ∀ t' a1, lanP T wd hg t a = .inr (t', a1) → ∀ M', frB M M' → MP T a1 M' → MWd M' → MTB wd hg t' M' → Q none M') : V_landIsTold [.ref 0] M Q := by
  unfold lanP at qe qo
  have hl := ht.1
  have hst := fun p => (ht.2.2.1 p).1
  refine s_landIsTold (st := tS t) h hW hb.1.1 hb.1.2 hf.1 hf.2.1 hf.2.2 hb.2.2.1.2 (fun p => by have := hst p; omega) (fun e hp M1 f1 b1 => ?_) (fun v p a1 hp hv hlt M1 f1 m1 => ?_)
  · simp only [hp] at qe
    exact qe e rfl M1 (frB_T f1) b1
  · simp only [hp] at qo
    exact qo _ _ rfl _ (frB_trans (frB_T f1) (frB_up (frB_refl M1) (by unfold pB; omega))) (MP_c (up33 (by omega) (fun _ _ _ => rfl)) m1) (MWd_c (up33 (by omega) (fun _ _ _ => rfl)) (MWd_f f1 hW)) (MTB_land (MTB_T f1 hb))
end
