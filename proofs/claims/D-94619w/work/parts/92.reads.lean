/-! the reader's words and numbers, BorderStonesModel -/
def MBad (kd pl : Nat) (M : mw) : Prop := M.1 5 0 = nI kd ∧ M.1 6 0 = nI pl ∧ (0 < kd ∧ kd < 10)
theorem MBad_ne {kd pl : Nat} {M : mw} (h : MBad kd pl M) : ¬ M.1 5 0 = 0 := fun z => by
  rw [h.1] at z
  have := (n_eq (b := 0) (by have := h.2.2; omega) (by omega)).mp z
  have := h.2.2
  omega
theorem sk_sk {T : List Nat} {a : Nat} (h : a ≤ T.length) : sk T (sk T a) = sk T a := spL_no (spL_is T isBl a h).2.2.2
theorem s_fail {Q : Option Value → mw → Prop} {M : mw} {kd pl : Nat} {x y : Int32} (h : M.1 5 0 = 0) (hx : x = nI kd) (hy : y = nI pl) (hk : 0 < kd ∧ kd < 10) (q : ∀ M', frT M M' → M'.1 9 = M.1 9 → MBad kd pl M' → Q none M') : V_fail [.ref 0, .int x, .int y] M Q := by
  subst hx hy
  refine e_fail (r_fail_0 ⟨fun _ => ⟨rfl, q _ (frT_bad (fun z => by have := (n_eq (a := kd) (b := 0) (by omega) (by omega)).mp z; omega)) ?_ ⟨?_, ?_, hk⟩⟩, fun z => absurd h z⟩)
  · funext i; rw [m_up, if_neg (by omega), m_up, if_neg (by omega)]
  · rw [m_up, if_neg (by omega), m_up, if_pos ⟨rfl, rfl⟩]
  · rw [m_up, if_pos ⟨rfl, rfl⟩]
theorem s_failB {Q : Option Value → mw → Prop} {M : mw} {kd pl : Nat} (h : MBad kd pl M) (x y : Int32) (q : Q none M) : V_fail [.ref 0, .int x, .int y] M Q :=
  e_fail (r_fail_0 ⟨fun z => absurd z (MBad_ne h), fun _ => ⟨rfl, q⟩⟩)
theorem here_len {T : List Nat} {a : Nat} {w : List Nat} (h : hereB T a w = true) : wl T (sk T a) = sk T a + w.length ∨ w.length = 0 := by
  unfold hereB wEq at h
  rw [Bool.and_eq_true, Bool.and_eq_true, decide_eq_true_eq] at h
  omega
theorem prt_word {T : List Nat} {a e : Nat} (h1 : a < e) (h2 : ∀ j, a ≤ j → j < e → isLe (T.getD j 0) = true) : prt T e = true := by
  unfold prt
  rw [h2 (e - 1) (by omega) (by omega), decide_eq_true (show 0 < e by omega)]; rfl
theorem s_takes {Q : Option Value → mw → Prop} {T : List Nat} {a k : Nat} {M : mw} (hM : MP T a M) (hW : MWd M) (h1 : 10 ≤ k) (h2 : k < 32)
    (q0 : hereB T a (wT k) = false → ∀ M', frT M M' → MP T (sk T a) M' → Q (some (.int (nI 0))) M') (q1 : hereB T a (wT k) = true → ∀ M', frT M M' → MP T (sk T a + (wT k).length) M' → Q (some (.int (nI 1))) M') : V_takes [.ref 0, .ref (k + 1)] M Q := by
  obtain ⟨w1, w2, w3, w4⟩ := wT_ok k h2 h1
  refine e_takes (r_takes_0 (s_isHere hM hW h1 h2 (fun M1 f1 m1 => r_takes_5 ⟨fun c => ⟨w1, nr_1, ?_⟩, fun c => ⟨nr_0, q0 (bI_nn0 c) M1 f1 m1⟩⟩)))
  have c := bI_n0 c
  have hl : wl T (sk T a) = sk T a + (wT k).length := (here_len c).resolve_right (by omega)
  obtain ⟨⟨a1, a2, a3⟩, a4, a5, a6, a7⟩ := id m1
  have l16 := a3.1
  have sp := spL_is T isLe (sk T a) a6
  have sp2 : spL T isLe (sk T a) = sk T a + (wT k).length := hl
  rw [w2, a5, show nI (sk T a) + Int32.ofNat (wT k).length = nI (sk T a + (wT k).length) from n_add _ _, m_up, if_pos ⟨rfl, rfl⟩]
  have fu : frT M1 (mM_up (mM_up M1 2 0 (nI (sk T a + (wT k).length))) 4 0 (nI (sk T a + (wT k).length))) := frT_up (frT_up (frT_refl M1) (by omega)) (by omega)
  refine q1 c _ (frT_trans f1 fu) ⟨MPt_f fu m1.1, ?_, ?_, by omega, ?_⟩
  · rw [m_up, if_neg (by omega), m_up, if_neg (by omega)]; exact a4
  · rw [m_up, if_neg (by omega), m_up, if_pos ⟨rfl, rfl⟩]
  · rw [m_up, if_pos ⟨rfl, rfl⟩]
    refine ⟨by rw [n_T (by omega)]; exact Int.le_refl _, fun _ => prt_word (a := sk T a) (by omega) (fun j g1 g2 => sp.2.2.1 j g1 (by omega)), fun _ => rfl⟩
theorem s_takesB {Q : Option Value → mw → Prop} {M : mw} {kd pl k : Nat} (h : MBad kd pl M) (q : Q (some (.int (nI 0))) M) : V_takes [.ref 0, .ref (k + 1)] M Q :=
  e_takes (r_takes_0 (e_isHere (r_isHere_0 ⟨fun _ => ⟨nr_0, r_takes_5 ⟨fun z => absurd rfl z, fun _ => ⟨nr_0, q⟩⟩⟩, fun z => absurd (MBad_ne h) z⟩)))
theorem s_asks {Q : Option Value → mw → Prop} {T : List Nat} {a k : Nat} {M : mw} (hM : MP T a M) (hW : MWd M) (h1 : 10 ≤ k) (h2 : k < 32)
    (q0 : hereB T a (wT k) = false → ∀ M', frT M M' → MBad 1 (sk T a) M' → Q none M') (q1 : hereB T a (wT k) = true → ∀ M', frT M M' → MP T (sk T a + (wT k).length) M' → Q none M') : V_asks [.ref 0, .ref (k + 1)] M Q := by
  refine e_asks (r_asks_0 ⟨fun c => absurd hM.2.1 c, fun _ => s_takes hM hW h1 h2 (fun c M1 f1 m1 => r_asks_12 ⟨fun z => absurd rfl z, fun _ => s_fail (kd := 1) (pl := sk T a) m1.2.1 rfl m1.2.2.1 (by omega) (fun M2 f2 _ b2 => r_asks_24 ⟨rfl, q0 c M2 (frT_trans f1 f2) b2⟩)⟩) (fun c M1 f1 m1 => r_asks_12 ⟨fun _ => r_asks_24 ⟨rfl, q1 c M1 f1 m1⟩, fun z => absurd (by decide) z⟩)⟩)
theorem s_asksB {Q : Option Value → mw → Prop} {M : mw} {kd pl k : Nat} (h : MBad kd pl M) (q : Q none M) : V_asks [.ref 0, .ref (k + 1)] M Q :=
  e_asks (r_asks_0 ⟨fun _ => r_asks_24 ⟨rfl, q⟩, fun z => absurd (MBad_ne h) z⟩)
theorem s_takesSign {Q : Option Value → mw → Prop} {T : List Nat} {a c : Nat} {x : Int32} {M : mw} (hM : MP T a M) (hx : x = nI c) (hc : c < 256) (hn : isLe c = false ∧ isDi c = false)
    (q0 : ch T (sk T a) ≠ nI c → ∀ M', frT M M' → MP T (sk T a) M' → Q (some (.int (nI 0))) M') (q1 : ch T (sk T a) = nI c → sk T a < T.length → T.getD (sk T a) 0 = c → ∀ M', frT M M' → MP T (sk T a + 1) M' → Q (some (.int (nI 1))) M') : V_takesSign [.ref 0, .int x] M Q := by
  subst hx
  refine e_takesSign (r_takesSign_0 ⟨fun z => absurd hM.2.1 z, fun _ => s_look a M hM (frT_refl M) (fun M1 f1 m1 => r_takesSign_11 ⟨fun z => ⟨nr_1, ?_⟩, fun z => ⟨nr_0, q0 z M1 f1 m1⟩⟩)⟩)
  obtain ⟨⟨a1, a2, a3⟩, a4, a5, a6, a7⟩ := id m1
  have l16 := a3.1
  have z' := z
  unfold ch at z'
  by_cases g : sk T a < T.length
  rotate_left
  · rw [if_neg g] at z'
    exact absurd ((n_eqg (a := c) (b := 1) (by omega) (by omega)).mp z'.symm).2 (by omega)
  rw [if_pos g] at z'
  have b256 := a3.2 _ (getD_mem g)
  rw [n_eq (by omega) (by omega)] at z'
  rw [a5, show nI (sk T a) + 1 = nI (sk T a + 1) from n_add _ 1]
  have fu : frT M1 (mM_up M1 2 0 (nI (sk T a + 1))) := frT_up (frT_refl M1) (by omega)
  refine q1 z g z' _ (frT_trans f1 fu) ⟨MPt_f fu m1.1, ?_, ?_, by omega, ?_⟩
  · rw [m_up, if_neg (by omega)]; exact a4
  · rw [m_up, if_pos ⟨rfl, rfl⟩]
  · rw [m_up, if_neg (by omega)]
    exact en_next a7 (by omega) (by rw [z']; exact hn)
theorem s_takesSignB {Q : Option Value → mw → Prop} {M : mw} {kd pl : Nat} (h : MBad kd pl M) (x : Int32) (q : Q (some (.int (nI 0))) M) : V_takesSign [.ref 0, .int x] M Q :=
  e_takesSign (r_takesSign_0 ⟨fun _ => ⟨nr_0, q⟩, fun z => absurd (MBad_ne h) z⟩)
theorem s_asksSign {Q : Option Value → mw → Prop} {T : List Nat} {a c : Nat} {x : Int32} {M : mw} (hM : MP T a M) (hx : x = nI c) (hc : c < 256) (hn : isLe c = false ∧ isDi c = false)
    (q0 : ch T (sk T a) ≠ nI c → ∀ M', frT M M' → MBad 1 (sk T a) M' → Q none M') (q1 : ch T (sk T a) = nI c → sk T a < T.length → T.getD (sk T a) 0 = c → ∀ M', frT M M' → MP T (sk T a + 1) M' → Q none M') : V_asksSign [.ref 0, .int x] M Q := by
  refine e_asksSign (r_asksSign_0 ⟨fun z => absurd hM.2.1 z, fun _ => s_takesSign hM hx hc hn (fun z M1 f1 m1 => r_asksSign_12 ⟨fun y => absurd rfl y, fun _ => s_fail (kd := 1) (pl := sk T a) m1.2.1 rfl m1.2.2.1 (by omega) (fun M2 f2 _ b2 => r_asksSign_24 ⟨rfl, q0 z M2 (frT_trans f1 f2) b2⟩)⟩) (fun z g1 g2 M1 f1 m1 => r_asksSign_12 ⟨fun _ => r_asksSign_24 ⟨rfl, q1 z g1 g2 M1 f1 m1⟩, fun y => absurd (by decide) y⟩)⟩)
theorem s_asksSignB {Q : Option Value → mw → Prop} {M : mw} {kd pl : Nat} (h : MBad kd pl M) (x : Int32) (q : Q none M) : V_asksSign [.ref 0, .int x] M Q :=
  e_asksSign (r_asksSign_0 ⟨fun _ => r_asksSign_24 ⟨rfl, q⟩, fun z => absurd (MBad_ne h) z⟩)
/-- a number that is told -/
def numV (T : List Nat) (b : Nat) : Nat → Nat
  | 0 => 0
  | k + 1 => 10 * numV T b k + T.getD (b + k) 0 - 48
def numP (T : List Nat) (a lo hi : Nat) : Sum (Nat × Nat) (Nat × Nat) :=
  if (decide (sk T a < T.length) && isDi (T.getD (sk T a) 0) && !prt T (sk T a)) = true then
    if 4 < dl T (sk T a) - sk T a then .inl (1, sk T a + 4)
    else if lo ≤ numV T (sk T a) (dl T (sk T a) - sk T a) ∧ numV T (sk T a) (dl T (sk T a) - sk T a) ≤ hi then .inr (numV T (sk T a) (dl T (sk T a) - sk T a), dl T (sk T a))
    else .inl (2, sk T a)
  else .inl (1, sk T a)
theorem numV_lt {T : List Nat} {b : Nat} {k : Nat} (h : ∀ j, j < k → isDi (T.getD (b + j) 0) = true) : numV T b k < 10 ^ k := by
  induction k with
  | zero => exact (by decide : 0 < 1)
  | succ k ih =>
    have := ih (fun j hj => h j (by omega))
    have hk := h k (by omega)
    unfold isDi at hk
    rw [Bool.and_eq_true, decide_eq_true_eq, decide_eq_true_eq] at hk
    have e : numV T b (k + 1) = 10 * numV T b k + T.getD (b + k) 0 - 48 := rfl
    rw [e, Nat.pow_succ]
    omega
set_option maxHeartbeats 1000000 in
theorem s_number {Q : Option Value → mw → Prop} {T : List Nat} {a lo hi : Nat} {x y : Int32} {M : mw} (hM : MP T a M) (hx : x = nI lo) (hy : y = nI hi) (hlo : lo < 100000) (hhi : hi < 100000)
    (qe : ∀ kd pl (v : Int32), numP T a lo hi = .inl (kd, pl) → ∀ M', frT M M' → MBad kd pl M' → Q (some (.int v)) M')
    (qo : ∀ v e, numP T a lo hi = .inr (v, e) → ∀ M', frT M M' → MP T e M' → M'.1 9 0 = nI (sk T a) → Q (some (.int (nI v))) M') : V_number [.ref 0, .int x, .int y] M Q := by
  subst hx hy
  refine e_number (r_number_0 ⟨fun _ => s_look a M hM (frT_refl M) (fun M1 f1 m1 => r_number_13 ?_), fun z => absurd hM.2.1 z⟩)
  unfold numP at qe qo
  have hs := sk_is T hM.2.2.2.1
  generalize sk T a = b at *
  obtain ⟨⟨a1, a2, a3⟩, a4, a5, a6, a7⟩ := id m1
  have l16 := a3.1
  have bad : ¬ (decide (b < T.length) && isDi (T.getD b 0) && !prt T b) = true → ∀ {o1 o2 o3 : Option Value}, V_fail [.ref 0, .int 1, .int (M1.1 2 0)] M1 (fun v M2 => T_number Q 39 [some (.ref 0), o1, o2, o3] (v.toList ++ []) M2) := by
    intro h o1 o2 o3
    refine s_fail (kd := 1) (pl := b) a4 rfl a5 (by omega) (fun M2 f2 _ b2 => r_number_39 ⟨trivial, qe 1 b _ ?_ M2 (frT_trans f1 f2) b2⟩)
    rw [if_neg h]
  have hch : ∀ {o1 o2 : Option Value} {w : Option Value}, (∀ z : Bool, (z = true → b < T.length ∧ isDi (T.getD b 0) = true) → (z = false → ¬ (b < T.length ∧ isDi (T.getD b 0) = true)) → T_number Q 16 [some (.ref 0), some (.int (nI lo)), some (.int (nI hi)), none] [.int (bI z)] M1) → V_isDigit [.int (ch T b)] M1 (fun v M2 => T_number Q 16 [some (.ref 0), some (.int (nI lo)), some (.int (nI hi)), none] (v.toList ++ []) M2) := by
    intro _ _ _ h
    unfold ch
    by_cases g : b < T.length
    · rw [if_pos g]
      have b256 := a3.2 _ (getD_mem g)
      exact s_isDigit (by omega) (h (isDi (T.getD b 0)) (fun z => ⟨g, z⟩) (fun z y => by rw [y.2] at z; cases z))
    · rw [if_neg g]
      exact s_isDigitN (h false (fun z => by cases z) (fun _ y => g y.1))
  refine hch (o1 := none) (o2 := none) (w := none) (fun z z1 z0 => r_number_16 ⟨fun c => bad (fun y => ?_), fun c => ?_⟩)
  · have := z0 (bI_e0 c)
    rw [Bool.and_eq_true, Bool.and_eq_true, decide_eq_true_eq] at y
    exact this ⟨y.1.1, y.1.2⟩
  obtain ⟨g, gd⟩ := z1 (bI_n0 c)
  rw [a5]
  have ee : (nI b = M1.1 4 0) ↔ prt T b = true := by
    rw [← a7.2]; exact ⟨fun h => h.symm, fun h => h.symm⟩
  rw [ee]
  refine ⟨fun c2 => ?_, fun c2 => by
    have c2 := Decidable.not_not.mp c2
    have := bad (by rw [c2, Bool.not_true, Bool.and_false]; decide) (o1 := some (.int (nI lo))) (o2 := some (.int (nI hi))) (o3 := none)
    rw [a5] at this
    exact this⟩
  have c2 : prt T b = false := by simpa using c2
  have hc : (decide (b < T.length) && isDi (T.getD b 0) && !prt T b) = true := by rw [decide_eq_true g, gd, c2]; rfl
  simp only [hc, if_true] at qe qo
  have sp := spL_is T isDi b a6
  have spe : spL T isDi b = dl T b := rfl
  rw [spe] at sp
  have ne : b < dl T b := by
    have : dl T b = dl T (b + 1) := spL_go g gd
    have := (spL_is T isDi (b + 1) (by omega)).1
    have e2 : spL T isDi (b + 1) = dl T (b + 1) := rfl
    omega
  have digs : ∀ k, b + k ≤ dl T b → ∀ j, j < k → isDi (T.getD (b + j) 0) = true := fun k hk j hj => sp.2.2.1 (b + j) (by omega) (by omega)
  -- the loop
  have fin : ∀ (k : Nat) (M2 : mw), b + k = dl T b → k ≤ 4 → frT M M2 → M2.1 9 0 = nI b → M2.1 2 0 = nI (b + k) → M2.1 5 0 = 0 → ∀ {o3 : Option Value}, V_isIn [.long (Int32.toInt64 (nI (numV T b k))), .long (Int32.toInt64 (nI lo)), .long (Int32.toInt64 (nI hi))] (mM_up M2 4 0 (M2.1 2 0)) (fun v M3 => T_number Q 149 [some (.ref 0), some (.int (nI lo)), some (.int (nI hi)), some (.int (nI (numV T b k)))] (v.toList ++ []) M3) := by
    intro k M2 hk hk4 f2 r9 r2 r5 o3
    have nv := numV_lt (digs k (by omega))
    have p4 : 10 ^ k ≤ 10 ^ 4 := Nat.pow_le_pow_right (by omega) hk4
    have p4' : (10 : Nat) ^ 4 = 10000 := by decide
    have ek : dl T b - b = k := by omega
    rw [ek, if_neg (by omega)] at qe qo
    rw [r2]
    have fu : frT M2 (mM_up M2 4 0 (nI (b + k))) := frT_up (frT_refl M2) (by omega)
    refine s_isIn32 _ _ _ (r_number_149 ⟨fun z => r_number_161 ⟨trivial, ?_⟩, fun z => ?_⟩)
    · have z := bI_n0 z
      rw [decide_eq_true_eq, n_T (by omega), n_T (by omega), n_T (by omega)] at z
      rw [if_pos (by omega)] at qo
      refine qo _ _ rfl _ (frT_trans f2 fu) ⟨MPt_f (frT_trans f2 fu) hM.1, ?_, ?_, by omega, ?_⟩ ?_
      · rw [m_up, if_neg (by omega)]; exact r5
      · rw [m_up, if_neg (by omega), r2, hk]
      · rw [m_up, if_pos ⟨rfl, rfl⟩, hk]
        refine ⟨by rw [n_T (by omega)]; exact Int.le_refl _, fun _ => ?_, fun _ => rfl⟩
        unfold prt
        rw [sp.2.2.1 (dl T b - 1) (by omega) (by omega), decide_eq_true (show 0 < dl T b by omega), Bool.or_true]; rfl
      · rw [m_up, if_neg (by omega)]; exact r9
    · have z := bI_nn0 z
      rw [decide_eq_false_iff_not, n_T (by omega), n_T (by omega), n_T (by omega)] at z
      rw [if_neg (by omega)] at qe
      refine s_fail (kd := 2) (pl := b) (by rw [m_up, if_neg (by omega)]; exact r5) rfl (by rw [m_up, if_neg (by omega)]; exact r9) (by omega) (fun M3 f3 _ b3 => r_number_161 ⟨trivial, qe 2 b _ rfl M3 (frT_trans (frT_trans f2 fu) f3) b3⟩)
  have loop : ∀ (n k : Nat) (M2 : mw), dl T b - (b + k) = n → b + k ≤ dl T b → k ≤ 4 → frT M M2 → M2.1 9 0 = nI b → M2.1 2 0 = nI (b + k) → M2.1 5 0 = 0 → T_number Q 51 [some (.ref 0), some (.int (nI lo)), some (.int (nI hi)), some (.int (nI (numV T b k)))] [] M2 := by
    intro n
    induction n with
    | zero =>
      intro k M2 hn hk hk4 f2 r9 r2 r5
      have m2 := MPt_f f2 hM.1
      refine r_number_51 ?_
      have fi := fin k M2 (by omega) hk4 f2 r9 r2 r5 (o3 := none)
      rw [m2.1, r2, n_le (by omega) (by omega), n_tn (by omega)]
      rw [r2] at fi
      refine ⟨fun _ => fi, fun c3 => ⟨(n_in (by omega)).mpr (by omega), ?_⟩⟩
      have b256 := a3.2 _ (getD_mem (show b + k < T.length by omega))
      rw [m2.2.1 (b + k) (by omega)]
      refine s_isDigit (by omega) (r_number_74 ⟨fun _ => by rw [r2]; exact fi, fun z => ?_⟩)
      have := sp.2.2.2 (by omega)
      rw [show dl T b = b + k from by omega] at this
      rw [this] at z
      exact absurd rfl z
    | succ n ih =>
      intro k M2 hn hk hk4 f2 r9 r2 r5
      have m2 := MPt_f f2 hM.1
      have dk := sp.2.2.1 (b + k) (by omega) (by omega)
      have b256 := a3.2 _ (getD_mem (show b + k < T.length by omega))
      refine r_number_51 ?_
      rw [m2.1, r2, n_le (by omega) (by omega), n_tn (by omega), m2.2.1 (b + k) (by omega)]
      refine ⟨fun z => by omega, fun _ => ⟨(n_in (by omega)).mpr (by omega), s_isDigit (by omega) (r_number_74 ⟨fun z => by rw [dk] at z; exact absurd z (by decide), fun _ => ?_⟩)⟩⟩
      have ed : nI (b + k) - nI b = nI k := by rw [n_sub (by omega)]; congr 1; omega
      rw [r2, r9, ed, show (nI k = (4 : Int32)) ↔ k = 4 from n_eq (b := 4) (by omega) (by omega), n_tn (by omega), m2.2.1 (b + k) (by omega)]
      refine ⟨fun c4 => ⟨(n_in (by omega)).mpr (by omega), ?_⟩, fun c4 => ?_⟩
      · have dk' := dk
        unfold isDi at dk'
        rw [Bool.and_eq_true, decide_eq_true_eq, decide_eq_true_eq] at dk'
        have ev : (10 : Int32) * nI (numV T b k) + nI (T.getD (b + k) 0) - 48 = nI (numV T b (k + 1)) := by
          rw [show (10 : Int32) * nI (numV T b k) = nI (10 * numV T b k) from n_mul 10 _, n_add]
          exact n_sub (b := 48) (by omega)
        rw [ev, show nI (b + k) + 1 = nI (b + (k + 1)) from n_add (b + k) 1]
        refine ih (k + 1) _ (by omega) (by omega) (by omega) (frT_up f2 (by omega)) ?_ ?_ ?_
        · rw [m_up, if_neg (by omega)]; exact r9
        · rw [m_up, if_pos ⟨rfl, rfl⟩]
        · rw [m_up, if_neg (by omega)]; exact r5
      · have c4 := Decidable.not_not.mp c4
        rw [if_pos (by omega)] at qe
        refine s_fail (kd := 1) (pl := b + 4) r5 rfl (by rw [c4]) (by omega) (fun M3 f3 _ b3 => r_number_99 ⟨trivial, qe 1 (b + 4) _ rfl M3 (frT_trans f2 f3) b3⟩)
  have f9 : frT M1 (mM_up M1 9 0 (nI b)) := frT_up (frT_refl M1) (by omega)
  refine loop (dl T b - (b + 0)) 0 _ rfl (by omega) (by omega) (frT_trans f1 f9) ?_ ?_ ?_
  · rw [m_up, if_pos ⟨rfl, rfl⟩]
  · rw [m_up, if_neg (by omega)]; exact a5
  · rw [m_up, if_neg (by omega)]; exact a4
theorem s_numberB {Q : Option Value → mw → Prop} {M : mw} {kd pl : Nat} (h : MBad kd pl M) (x y : Int32) (q : Q (some (.int (nI 0))) M) : V_number [.ref 0, .int x, .int y] M Q :=
  e_number (r_number_0 ⟨fun z => absurd z (MBad_ne h), fun _ => ⟨trivial, q⟩⟩)
