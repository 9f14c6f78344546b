/-! own words, names, BorderStonesModel -/
theorem one_l {A B : Prop} (h : A) : (¬ (1 : Int32) = 0 → A) ∧ (¬ ¬ (1 : Int32) = 0 → B) := ⟨fun _ => h, fun z => absurd (by decide) z⟩
theorem zer_r {A B : Prop} (h : B) : (¬ (0 : Int32) = 0 → A) ∧ (¬ ¬ (0 : Int32) = 0 → B) := ⟨fun z => absurd rfl z, fun _ => h⟩
def ownB (T : List Nat) (b : Nat) : Bool := (List.range 22).any (fun k => wEq T b (wT (10 + k)))
set_option maxHeartbeats 2000000 in
theorem s_isOwnHere {Q : Option Value → mw → Prop} {T : List Nat} {b : Nat} {M : mw} (hM : MP T b M) (hW : MWd M) (hb : sk T b = b) (hw : isWd T b = true) (q : ∀ M', frT M M' → MP T b M' → Q (some (.int (bI (ownB T b)))) M') : V_isOwnHere [.ref 0] M Q := by
  have eh : ∀ w, hereB T b w = wEq T b w := fun w => by unfold hereB; rw [hb, hw, Bool.true_and]
  have yes : ∀ k, k < 22 → wEq T b (wT (10 + k)) = true → ∀ M', frT M M' → MP T b M' → Q (some (.int (nI 1))) M' := fun k hk h M' f m => by
    have q := q M' f m
    have : ownB T b = true := by unfold ownB; rw [List.any_eq_true]; exact ⟨k, List.mem_range.mpr hk, h⟩
    rw [this] at q; exact q
  have no : (∀ k, k < 22 → wEq T b (wT (10 + k)) = false) → ∀ M', frT M M' → MP T b M' → Q (some (.int (nI 0))) M' := fun h M' f m => by
    have q := q M' f m
    have : ownB T b = false := by unfold ownB; rw [List.any_eq_false]; intro k hk; rw [h k (List.mem_range.mp hk)]; decide
    rw [this] at q; exact q
  have step : ∀ (k : Nat), k < 22 → ∀ (M1 : mw) (R : Option Value → mw → Prop), frT M M1 → MP T b M1 → (∀ z M2, z = wEq T b (wT (10 + k)) → frT M M2 → MP T b M2 → R (some (.int (bI z))) M2) → V_isHere [.ref 0, .ref (10 + k + 1)] M1 R := by
    intro k hk M1 R f m h
    refine s_isHere m (MWd_f f hW) (by omega) (by omega) (fun M2 f2 m2 => ?_)
    rw [hb] at m2
    rw [eh]
    exact h _ M2 rfl (frT_trans f f2) m2

  refine e_isOwnHere (r_isOwnHere_0 (step 0 (by omega) M _ (frT_refl M) hM (fun z0 M1 e0 f1 m1 => r_isOwnHere_8 ?_)))
  refine ⟨fun c => (one_l (one_l (one_l ⟨nr_1, yes 0 (by omega) (by rw [← e0]; exact bI_n0 c) M1 f1 m1⟩))), fun c0 => step 1 (by omega) M1 _ f1 m1 (fun z1 M2 e1 f2 m2 => r_isOwnHere_19 ?_)⟩
  refine ⟨fun c => (one_l (one_l (one_l ⟨nr_1, yes 1 (by omega) (by rw [← e1]; exact bI_n0 c) M2 f2 m2⟩))), fun c1 => step 2 (by omega) M2 _ f2 m2 (fun z2 M3 e2 f3 m3 => r_isOwnHere_30 ?_)⟩
  refine ⟨fun c => (one_l (one_l (one_l ⟨nr_1, yes 2 (by omega) (by rw [← e2]; exact bI_n0 c) M3 f3 m3⟩))), fun c2 => step 3 (by omega) M3 _ f3 m3 (fun z3 M4 e3 f4 m4 => r_isOwnHere_41 ?_)⟩
  refine ⟨fun c => (one_l (one_l (one_l ⟨nr_1, yes 3 (by omega) (by rw [← e3]; exact bI_n0 c) M4 f4 m4⟩))), fun c3 => step 4 (by omega) M4 _ f4 m4 (fun z4 M5 e4 f5 m5 => r_isOwnHere_52 ?_)⟩
  refine ⟨fun c => (one_l (one_l (one_l ⟨nr_1, yes 4 (by omega) (by rw [← e4]; exact bI_n0 c) M5 f5 m5⟩))), fun c4 => step 5 (by omega) M5 _ f5 m5 (fun z5 M6 e5 f6 m6 => r_isOwnHere_63 ?_)⟩
  refine ⟨fun c5 => zer_r (step 6 (by omega) M6 _ f6 m6 (fun z6 M7 e6 f7 m7 => r_isOwnHere_84 ?_)), fun c => (one_l (one_l (one_l ⟨nr_1, yes 5 (by omega) (by rw [← e5]; exact bI_n0 c) M6 f6 m6⟩)))⟩
  refine ⟨fun c => (one_l (one_l ⟨nr_1, yes 6 (by omega) (by rw [← e6]; exact bI_n0 c) M7 f7 m7⟩)), fun c6 => step 7 (by omega) M7 _ f7 m7 (fun z7 M8 e7 f8 m8 => r_isOwnHere_95 ?_)⟩
  refine ⟨fun c => (one_l (one_l ⟨nr_1, yes 7 (by omega) (by rw [← e7]; exact bI_n0 c) M8 f8 m8⟩)), fun c7 => step 8 (by omega) M8 _ f8 m8 (fun z8 M9 e8 f9 m9 => r_isOwnHere_106 ?_)⟩
  refine ⟨fun c => (one_l (one_l ⟨nr_1, yes 8 (by omega) (by rw [← e8]; exact bI_n0 c) M9 f9 m9⟩)), fun c8 => step 9 (by omega) M9 _ f9 m9 (fun z9 M10 e9 f10 m10 => r_isOwnHere_117 ?_)⟩
  refine ⟨fun c => (one_l (one_l ⟨nr_1, yes 9 (by omega) (by rw [← e9]; exact bI_n0 c) M10 f10 m10⟩)), fun c9 => step 10 (by omega) M10 _ f10 m10 (fun z10 M11 e10 f11 m11 => r_isOwnHere_128 ?_)⟩
  refine ⟨fun c => (one_l (one_l ⟨nr_1, yes 10 (by omega) (by rw [← e10]; exact bI_n0 c) M11 f11 m11⟩)), fun c10 => step 11 (by omega) M11 _ f11 m11 (fun z11 M12 e11 f12 m12 => r_isOwnHere_139 ?_)⟩
  refine ⟨fun c11 => zer_r (step 12 (by omega) M12 _ f12 m12 (fun z12 M13 e12 f13 m13 => r_isOwnHere_160 ?_)), fun c => (one_l (one_l ⟨nr_1, yes 11 (by omega) (by rw [← e11]; exact bI_n0 c) M12 f12 m12⟩))⟩
  refine ⟨fun c => (one_l ⟨nr_1, yes 12 (by omega) (by rw [← e12]; exact bI_n0 c) M13 f13 m13⟩), fun c12 => step 13 (by omega) M13 _ f13 m13 (fun z13 M14 e13 f14 m14 => r_isOwnHere_171 ?_)⟩
  refine ⟨fun c => (one_l ⟨nr_1, yes 13 (by omega) (by rw [← e13]; exact bI_n0 c) M14 f14 m14⟩), fun c13 => step 14 (by omega) M14 _ f14 m14 (fun z14 M15 e14 f15 m15 => r_isOwnHere_182 ?_)⟩
  refine ⟨fun c => (one_l ⟨nr_1, yes 14 (by omega) (by rw [← e14]; exact bI_n0 c) M15 f15 m15⟩), fun c14 => step 15 (by omega) M15 _ f15 m15 (fun z15 M16 e15 f16 m16 => r_isOwnHere_193 ?_)⟩
  refine ⟨fun c => (one_l ⟨nr_1, yes 15 (by omega) (by rw [← e15]; exact bI_n0 c) M16 f16 m16⟩), fun c15 => step 16 (by omega) M16 _ f16 m16 (fun z16 M17 e16 f17 m17 => r_isOwnHere_204 ?_)⟩
  refine ⟨fun c => (one_l ⟨nr_1, yes 16 (by omega) (by rw [← e16]; exact bI_n0 c) M17 f17 m17⟩), fun c16 => step 17 (by omega) M17 _ f17 m17 (fun z17 M18 e17 f18 m18 => r_isOwnHere_215 ?_)⟩
  refine ⟨fun c17 => zer_r (step 18 (by omega) M18 _ f18 m18 (fun z18 M19 e18 f19 m19 => r_isOwnHere_236 ?_)), fun c => (one_l ⟨nr_1, yes 17 (by omega) (by rw [← e17]; exact bI_n0 c) M18 f18 m18⟩)⟩
  refine ⟨fun c => ⟨nr_1, yes 18 (by omega) (by rw [← e18]; exact bI_n0 c) M19 f19 m19⟩, fun c18 => step 19 (by omega) M19 _ f19 m19 (fun z19 M20 e19 f20 m20 => r_isOwnHere_247 ?_)⟩
  refine ⟨fun c => ⟨nr_1, yes 19 (by omega) (by rw [← e19]; exact bI_n0 c) M20 f20 m20⟩, fun c19 => step 20 (by omega) M20 _ f20 m20 (fun z20 M21 e20 f21 m21 => r_isOwnHere_258 ?_)⟩
  refine ⟨fun c => ⟨nr_1, yes 20 (by omega) (by rw [← e20]; exact bI_n0 c) M21 f21 m21⟩, fun c20 => step 21 (by omega) M21 _ f21 m21 (fun z21 M22 e21 f22 m22 => r_isOwnHere_269 ?_)⟩
  refine ⟨fun c21 => ⟨nr_0, no ?_ M22 f22 m22⟩, fun c => ⟨nr_1, yes 21 (by omega) (by rw [← e21]; exact bI_n0 c) M22 f22 m22⟩⟩
  intro k hk
  have : k = 0 ∨ k = 1 ∨ k = 2 ∨ k = 3 ∨ k = 4 ∨ k = 5 ∨ k = 6 ∨ k = 7 ∨ k = 8 ∨ k = 9 ∨ k = 10 ∨ k = 11 ∨ k = 12 ∨ k = 13 ∨ k = 14 ∨ k = 15 ∨ k = 16 ∨ k = 17 ∨ k = 18 ∨ k = 19 ∨ k = 20 ∨ k = 21 := by omega
  rcases this with h | h | h | h | h | h | h | h | h | h | h | h | h | h | h | h | h | h | h | h | h | h <;> subst h
  · rw [← e0]; exact bI_nn0 c0
  · rw [← e1]; exact bI_nn0 c1
  · rw [← e2]; exact bI_nn0 c2
  · rw [← e3]; exact bI_nn0 c3
  · rw [← e4]; exact bI_nn0 c4
  · rw [← e5]; exact bI_e0 c5
  · rw [← e6]; exact bI_nn0 c6
  · rw [← e7]; exact bI_nn0 c7
  · rw [← e8]; exact bI_nn0 c8
  · rw [← e9]; exact bI_nn0 c9
  · rw [← e10]; exact bI_nn0 c10
  · rw [← e11]; exact bI_e0 c11
  · rw [← e12]; exact bI_nn0 c12
  · rw [← e13]; exact bI_nn0 c13
  · rw [← e14]; exact bI_nn0 c14
  · rw [← e15]; exact bI_nn0 c15
  · rw [← e16]; exact bI_nn0 c16
  · rw [← e17]; exact bI_e0 c17
  · rw [← e18]; exact bI_nn0 c18
  · rw [← e19]; exact bI_nn0 c19
  · rw [← e20]; exact bI_nn0 c20
  · rw [← e21]; exact bI_e0 c21
/-- a name as a number -/
def nmV (T : List Nat) (b : Nat) : Nat → Nat
  | 0 => 0
  | k + 1 => 27 * nmV T b k + T.getD (b + k) 0 - 96
def nmP (T : List Nat) (a : Nat) : Sum (Nat × Nat) Nat :=
  if (isWd T (sk T a) && !ownB T (sk T a)) = true then
    if 6 < wl T (sk T a) - sk T a then .inl (1, sk T a + 6) else .inr (wl T (sk T a))
  else .inl (1, sk T a)
theorem nmV_lt {T : List Nat} {b : Nat} {k : Nat} (h : ∀ j, j < k → isLe (T.getD (b + j) 0) = true) : nmV T b k < 27 ^ k := by
  induction k with
  | zero => exact (by decide : 0 < 1)
  | succ k ih =>
    have := ih (fun j hj => h j (by omega))
    have hk := h k (by omega)
    unfold isLe at hk
    rw [Bool.and_eq_true, decide_eq_true_eq, decide_eq_true_eq] at hk
    have e : nmV T b (k + 1) = 27 * nmV T b k + T.getD (b + k) 0 - 96 := rfl
    rw [e, Nat.pow_succ]
    omega
set_option maxHeartbeats 1000000 in
theorem s_name {Q : Option Value → mw → Prop} {T : List Nat} {a : Nat} {M : mw} (hM : MP T a M) (hW : MWd M)
    (qe : ∀ kd pl (v : Int64), nmP T a = .inl (kd, pl) → ∀ M', frT M M' → MBad kd pl M' → Q (some (.long v)) M')
    (qo : ∀ e, nmP T a = .inr e → ∀ M', frT M M' → MP T e M' → M'.1 32 0 = nI (sk T a) → Q (some (.long (Int64.ofNat (nmV T (sk T a) (e - sk T a))))) M') : V_name [.ref 0] M Q := by
  refine e_name (r_name_0 ⟨fun _ => s_look a M hM (frT_refl M) (fun M1 f1 m1 => r_name_13 ?_), fun z => absurd hM.2.1 z⟩)
  unfold nmP at qe qo
  have hs := sk_is T hM.2.2.2.1
  have hss := sk_sk hM.2.2.2.1
  generalize sk T a = b at *
  obtain ⟨⟨a1, a2, a3⟩, a4, a5, a6, a7⟩ := id m1
  have l16 := a3.1
  have bad : ∀ (M2 : mw), frT M M2 → MP T b M2 → ¬ (isWd T b && !ownB T b) = true → V_fail [.ref 0, .int 1, .int (M2.1 2 0)] M2 (fun v M3 => T_name Q 46 [some (.ref 0), none, none] (v.toList ++ []) M3) := by
    intro M2 f2 m2 h
    refine s_fail (kd := 1) (pl := b) m2.2.1 rfl m2.2.2.1 (by omega) (fun M3 f3 _ b3 => r_name_46 ⟨rfl, qe 1 b _ ?_ M3 (frT_trans f2 f3) b3⟩)
    rw [if_neg h]
  have hch : (∀ z : Bool, (z = true → b < T.length ∧ isLe (T.getD b 0) = true) → (z = false → ¬ (b < T.length ∧ isLe (T.getD b 0) = true)) → T_name Q 16 [some (.ref 0), none, none] [.int (bI z)] M1) → V_isLetter [.int (ch T b)] M1 (fun v M2 => T_name Q 16 [some (.ref 0), none, none] (v.toList ++ []) M2) := by
    intro h
    unfold ch
    by_cases g : b < T.length
    · rw [if_pos g]
      have b256 := a3.2 _ (getD_mem g)
      exact s_isLetter (by omega) (h (isLe (T.getD b 0)) (fun z => ⟨g, z⟩) (fun z y => by rw [y.2] at z; cases z))
    · rw [if_neg g]
      exact s_isLetterN (h false (fun z => by cases z) (fun _ y => g y.1))
  refine hch (fun z z1 z0 => r_name_16 ⟨fun c => bad M1 f1 m1 (fun y => ?_), fun c => ?_⟩)
  · have := z0 (bI_e0 c)
    unfold isWd at y
    simp only [Bool.and_eq_true, decide_eq_true_eq] at y
    exact this y.1.1
  obtain ⟨g, gd⟩ := z1 (bI_n0 c)
  have ee : (M1.1 2 0 = M1.1 4 0) ↔ prt T b = true := by
    rw [a5, ← a7.2]; exact ⟨fun h => h.symm, fun h => h.symm⟩
  rw [ee]
  refine ⟨fun c2 => bad M1 f1 m1 (by unfold isWd; rw [c2]; simp), fun c2 => ?_⟩
  have c2 : prt T b = false := by simpa using c2
  have hc : isWd T b = true := by unfold isWd; rw [decide_eq_true g, gd, c2]; rfl
  refine s_isOwnHere m1 (MWd_f f1 hW) hss hc (fun M2 f2 m2 => r_name_34 ?_)
  have f2 := frT_trans f1 f2
  refine ⟨fun c3 => ?_, fun c3 => bad M2 f2 m2 (by rw [bI_n0 c3]; simp)⟩
  have c3 := bI_e0 c3
  rw [if_pos (by rw [hc, c3]; rfl)] at qe qo
  have sp := spL_is T isLe b a6
  have spe : spL T isLe b = wl T b := rfl
  rw [spe] at sp
  have ne : b < wl T b := by
    have : wl T b = wl T (b + 1) := spL_go g gd
    have := (spL_is T isLe (b + 1) (by omega)).1
    have e2 : spL T isLe (b + 1) = wl T (b + 1) := rfl
    omega
  have digs : ∀ k, b + k ≤ wl T b → ∀ j, j < k → isLe (T.getD (b + j) 0) = true := fun k hk j hj => sp.2.2.1 (b + j) (by omega) (by omega)
  have fin : ∀ (k : Nat) (M3 : mw), b + k = wl T b → k ≤ 6 → frT M M3 → M3.1 32 0 = nI b → M3.1 2 0 = nI (b + k) → M3.1 5 0 = 0 → Q (some (.long (Int64.ofNat (nmV T b k)))) (mM_up M3 4 0 (M3.1 2 0)) := by
    intro k M3 hk hk6 f3 r9 r2 r5
    have ek : wl T b - b = k := by omega
    rw [ek, if_neg (by omega)] at qo
    rw [r2]
    have fu : frT M3 (mM_up M3 4 0 (nI (b + k))) := frT_up (frT_refl M3) (by omega)
    have qo := qo _ rfl _ (frT_trans f3 fu) ⟨MPt_f (frT_trans f3 fu) hM.1, ?_, ?_, by omega, ?_⟩ ?_
    · rw [ek] at qo; exact qo
    · rw [m_up, if_neg (by omega)]; exact r5
    · rw [m_up, if_neg (by omega), r2, hk]
    · rw [m_up, if_pos ⟨rfl, rfl⟩, hk]
      refine ⟨by rw [n_T (by omega)]; exact Int.le_refl _, fun _ => ?_, fun _ => rfl⟩
      unfold prt
      rw [sp.2.2.1 (wl T b - 1) (by omega) (by omega), decide_eq_true (show 0 < wl T b by omega)]; rfl
    · rw [m_up, if_neg (by omega)]; exact r9
  have loop : ∀ (n k : Nat) (M3 : mw), wl T b - (b + k) = n → b + k ≤ wl T b → k ≤ 6 → frT M M3 → M3.1 32 0 = nI b → M3.1 2 0 = nI (b + k) → M3.1 5 0 = 0 → ∀ {o2 : Option Value}, T_name Q 58 [some (.ref 0), some (.long (Int64.ofNat (nmV T b k))), o2] [] M3 := by
    intro n
    induction n with
    | zero =>
      intro k M3 hn hk hk6 f3 r9 r2 r5 o2
      have m3 := MPt_f f3 hM.1
      have fi := fin k M3 (by omega) hk6 f3 r9 r2 r5
      refine r_name_58 ?_
      rw [m3.1, r2, n_le (by omega) (by omega), n_tn (by omega)]
      rw [r2] at fi
      refine ⟨fun _ => ⟨rfl, fi⟩, fun c3 => ⟨(n_in (by omega)).mpr (by omega), ?_⟩⟩
      have b256 := a3.2 _ (getD_mem (show b + k < T.length by omega))
      rw [m3.2.1 (b + k) (by omega)]
      refine s_isLetter (by omega) (r_name_81 ⟨fun _ => ⟨rfl, by rw [r2]; exact fi⟩, fun z => ?_⟩)
      have := sp.2.2.2 (by omega)
      rw [show wl T b = b + k from by omega] at this
      rw [this] at z
      exact absurd rfl z
    | succ n ih =>
      intro k M3 hn hk hk6 f3 r9 r2 r5 o2
      have m3 := MPt_f f3 hM.1
      have dk := sp.2.2.1 (b + k) (by omega) (by omega)
      have b256 := a3.2 _ (getD_mem (show b + k < T.length by omega))
      refine r_name_58 ?_
      rw [m3.1, r2, n_le (by omega) (by omega), n_tn (by omega), m3.2.1 (b + k) (by omega)]
      refine ⟨fun z => by omega, fun _ => ⟨(n_in (by omega)).mpr (by omega), s_isLetter (by omega) (r_name_81 ⟨fun z => by rw [dk] at z; exact absurd z (by decide), fun _ => ?_⟩)⟩⟩
      have ed : nI (b + k) - nI b = nI k := by rw [n_sub (by omega)]; congr 1; omega
      rw [r2, r9, ed, show (nI k = (6 : Int32)) ↔ k = 6 from n_eq (b := 6) (by omega) (by omega), n_tn (by omega), m3.2.1 (b + k) (by omega)]
      refine ⟨fun c4 => ⟨(n_in (by omega)).mpr (by omega), ?_⟩, fun c4 => ?_⟩
      · have dk' := dk
        unfold isLe at dk'
        rw [Bool.and_eq_true, decide_eq_true_eq, decide_eq_true_eq] at dk'
        have ev : (27 : Int64) * Int64.ofNat (nmV T b k) + Int32.toInt64 (nI (T.getD (b + k) 0)) - 97 + 1 = Int64.ofNat (nmV T b (k + 1)) := by
          rw [show (27 : Int64) * Int64.ofNat (nmV T b k) = Int64.ofNat (27 * nmV T b k) from j_mul 27 _, j_of (by omega), j_add, show Int64.ofNat (27 * nmV T b k + T.getD (b + k) 0) - 97 = Int64.ofNat (27 * nmV T b k + T.getD (b + k) 0 - 97) from j_sub (b := 97) (by omega), show ∀ m : Nat, Int64.ofNat m + 1 = Int64.ofNat (m + 1) from fun m => j_add m 1]
          congr 1
          have e : nmV T b (k + 1) = 27 * nmV T b k + T.getD (b + k) 0 - 96 := rfl
          omega
        rw [ev, show nI (b + k) + 1 = nI (b + (k + 1)) from n_add (b + k) 1]
        refine ih (k + 1) _ (by omega) (by omega) (by omega) (frT_up f3 (by omega)) ?_ ?_ ?_
        · rw [m_up, if_neg (by omega)]; exact r9
        · rw [m_up, if_pos ⟨rfl, rfl⟩]
        · rw [m_up, if_neg (by omega)]; exact r5
      · have c4 := Decidable.not_not.mp c4
        rw [if_pos (by omega)] at qe
        refine s_fail (kd := 1) (pl := b + 6) r5 rfl (by rw [c4]) (by omega) (fun M4 f4 _ b4 => r_name_107 ⟨rfl, qe 1 (b + 6) _ rfl M4 (frT_trans f3 f4) b4⟩)
  have f9 : frT M2 (mM_up M2 32 0 (M2.1 2 0)) := frT_up (frT_refl M2) (by omega)
  refine loop (wl T b - (b + 0)) 0 _ rfl (by omega) (by omega) (frT_trans f2 f9) ?_ ?_ ?_
  · rw [m_up, if_pos ⟨rfl, rfl⟩]; exact m2.2.2.1
  · rw [m_up, if_neg (by omega)]; exact m2.2.2.1
  · rw [m_up, if_neg (by omega)]; exact m2.2.1
theorem s_nameB {Q : Option Value → mw → Prop} {M : mw} {kd pl : Nat} (h : MBad kd pl M) (q : Q (some (.long 0)) M) : V_name [.ref 0] M Q :=
  e_name (r_name_0 ⟨fun z => absurd z (MBad_ne h), fun _ => ⟨rfl, q⟩⟩)
