/-! the tape -/
def by8 (y : Int32) : Nat := y.toBitVec.toNat % 256
theorem by8_lt (y : Int32) : by8 y < 256 := Nat.mod_lt _ (by omega)
theorem by8_and (y : Int32) : y &&& 255 = nI (by8 y) := by
  apply Int32.toBitVec_inj.mp
  show y.toBitVec &&& 255#32 = BitVec.ofNat 32 (y.toBitVec.toNat % 256)
  apply BitVec.eq_of_toNat_eq
  rw [BitVec.toNat_and, show (255#32).toNat = 2 ^ 8 - 1 from rfl, Nat.and_two_pow_sub_one_eq_mod, BitVec.toNat_ofNat]
  omega
theorem by8_8 (y : Int32) : Int32.toInt8 (nI (by8 y)) = Int32.toInt8 y := by
  apply Int8.toBitVec_inj.mp
  rw [Int32.toBitVec_toInt8, Int32.toBitVec_toInt8, BitVec.signExtend_eq_setWidth_of_le _ (by omega), BitVec.signExtend_eq_setWidth_of_le _ (by omega)]
  apply BitVec.eq_of_toNat_eq
  rw [BitVec.toNat_setWidth, BitVec.toNat_setWidth]
  show (BitVec.ofNat 32 (y.toBitVec.toNat % 256)).toNat % 256 = y.toBitVec.toNat % 256
  rw [BitVec.toNat_ofNat]
  omega
theorem by8_sx (y : Int32) : Int8.toInt32 (Int32.toInt8 (Int8.toInt32 (Int32.toInt8 y))) = sx (by8 y) := by
  rw [← by8_8 y]
  exact sx_sx (by8_lt y)
def fdX (a b c d e : Int32) (k : Nat) : Int32 := if 16 ≤ k then e else if 12 ≤ k then d else if 8 ≤ k then c else if 4 ≤ k then b else a
def fdB (a b c d e : Int32) (k : Nat) : Nat := by8 (fdX a b c d e k >>> (nI (8 * (3 - k % 4)) &&& 31))
def fdL (a b c d e : Int32) : Nat → List Nat
  | 0 => []
  | k + 1 => fdL a b c d e k ++ [fdB a b c d e k]
theorem fdL_len (a b c d e : Int32) (k : Nat) : (fdL a b c d e k).length = k := by
  induction k with
  | zero => rfl
  | succ k ih => unfold fdL; rw [List.length_append, ih]; rfl
def ptL (a : Int32) : List Nat := [by8 (a >>> (nI 24 &&& 31)), by8 (a >>> (nI 16 &&& 31)), by8 (a >>> (nI 8 &&& 31)), by8 (a >>> (nI 0 &&& 31))]
theorem fd_pt (a b c d e : Int32) : fdL a b c d e 20 = ptL a ++ ptL b ++ ptL c ++ ptL d ++ ptL e := by
  simp only [fdL, ptL, fdB, fdX, List.nil_append, List.cons_append, Nat.reduceLeDiff, ↓reduceIte, Nat.reduceMod, Nat.reduceSub, Nat.reduceMul, Nat.zero_mod, Nat.sub_zero, Nat.sub_self, Nat.mul_zero, Nat.reduceAdd]
def MT (T : List Nat) (M : mw) : Prop := M.1 1 0 = nI T.length ∧ ∀ k, k < T.length → M.1 0 k = nI (T.getD k 0)
def tpOk (T : List Nat) : Prop := T.length ≤ 1600 ∧ ∀ x, x ∈ T → x < 256
def fdR (T : List Nat) (a b c d e : Int32) : List Nat := if T.length + 20 ≤ 1600 then T ++ fdL a b c d e 20 else T
def fdV (T : List Nat) : Int32 := if T.length + 20 ≤ 1600 then nI (T.length + 20) else -nI 1
theorem fdL_lt (a b c d e : Int32) (k : Nat) : ∀ x, x ∈ fdL a b c d e k → x < 256 := by
  induction k with
  | zero => intro x hx; exact absurd hx List.not_mem_nil
  | succ k ih =>
    intro x hx
    unfold fdL at hx
    rcases List.mem_append.mp hx with h | h
    · exact ih x h
    · rw [List.mem_singleton.mp h]; exact by8_lt _
theorem fdR_ok {T : List Nat} (h : tpOk T) (a b c d e : Int32) : tpOk (fdR T a b c d e) := by
  unfold fdR
  split
  · refine ⟨by rw [List.length_append, fdL_len]; omega, fun x hx => ?_⟩
    rcases List.mem_append.mp hx with g | g
    · exact h.2 x g
    · exact fdL_lt _ _ _ _ _ _ x g
  · exact h
set_option maxHeartbeats 1000000 in
theorem s_feed {Q : Option Value → mw → Prop} {M : mw} {T : List Nat} (hT : MT T M) (hl : T.length ≤ 1600) (a b c d e : Int32) (q : ∀ M', fr 0 1 M M' → MT (fdR T a b c d e) M' → Q (some (.int (fdV T))) M') : V_feed [.ref 0, .int a, .int b, .int c, .int d, .int e] M Q := by
  have z20 : (20 : Int32) = nI 20 := rfl
  have z16 : (1600 : Int32) = nI 1600 := rfl
  unfold fdR fdV at q
  refine e_feed (r_feed_0 ?_)
  rw [hT.1, show nI T.length + 20 = nI (T.length + 20) from n_add _ 20, z16, n_le (by omega) (by omega)]
  refine ⟨fun c0 => ?_, fun c0 => ⟨trivial, ?_⟩⟩
  rotate_left
  · rw [if_neg c0, if_neg c0] at q; exact q M (fr_refl _ _ _) hT
  rw [if_pos c0, if_pos c0] at q
  have main := upTo 20 (fun k (M1 : mw) => fr 0 1 M M1 ∧ MT (T ++ fdL a b c d e k) M1) (fun k M1 => ∀ {o7 : Option Value}, T_feed Q 18 [some (.ref 0), some (.int a), some (.int b), some (.int c), some (.int d), some (.int e), some (.int (nI k)), o7] [] M1) ?_ ?_
  · exact main 0 M (by omega) ⟨fr_refl _ _ _, by rw [show fdL a b c d e 0 = [] from rfl, List.append_nil]; exact hT⟩
  · intro M1 ⟨f1, t1⟩ o7
    refine r_feed_18 ⟨fun _ => ⟨trivial, ?_⟩, fun z => absurd (by decide) z⟩
    rw [t1.1, List.length_append, fdL_len]
    exact q M1 f1 t1
  · intro k M1 hk ⟨f1, t1⟩ next o7
    have hl1 : (T ++ fdL a b c d e k).length = T.length + k := by rw [List.length_append, fdL_len]
    have step : ∀ (x : Int32), fdX a b c d e k = x → ∀ {o7 : Option Value}, ¬ (4 : Int32) = 0 ∧ (vp_in (M1.1 1 0) 1600 ∧ T_feed Q 18 [some (.ref 0), some (.int a), some (.int b), some (.int c), some (.int d), some (.int e), some (.int (nI k + 1)), o7] [] (mM_up (mM_up M1 0 (Int32.toNatClampNeg (M1.1 1 0)) ((x >>> (8 * (3 - (bs_irem (nI k) 4)) &&& 31)) &&& 255)) 1 0 (((mM_up M1 0 (Int32.toNatClampNeg (M1.1 1 0)) ((x >>> (8 * (3 - (bs_irem (nI k) 4)) &&& 31)) &&& 255)).1 1 0) + 1))) := by
      intro x hx o7
      have er : bs_irem (nI k) 4 = nI (k % 4) := n_rem (b := 4) (by omega) (by omega)
      have e3 : (3 : Int32) - nI (k % 4) = nI (3 - k % 4) := n_sub (a := 3) (by omega)
      have e8 : (8 : Int32) * nI (3 - k % 4) = nI (8 * (3 - k % 4)) := n_mul 8 _
      rw [er, e3, e8, by8_and, m_up, if_neg (by omega), t1.1, hl1, n_tn (by omega), show nI k + 1 = nI (k + 1) from n_add k 1, show nI (T.length + k) + 1 = nI (T.length + k + 1) from n_add _ 1]
      have eb : by8 (x >>> (nI (8 * (3 - k % 4)) &&& 31)) = fdB a b c d e k := by unfold fdB; rw [hx]
      rw [eb]
      have ef : T ++ fdL a b c d e (k + 1) = (T ++ fdL a b c d e k) ++ [fdB a b c d e k] := by rw [List.append_assoc]; rfl
      rw [ef] at next
      refine ⟨by decide, (n_in (by omega)).mpr (by omega), next _ ⟨fr_trans f1 (fr_trans (fr_up (lo := 0) (hi := 1) M1 _ _ (by omega)) (fr_up (lo := 0) (hi := 1) _ _ _ (by omega)) (lo := 0) (hi := 1) (by omega) (by omega)) (by omega) (by omega), ?_, fun j hj => ?_⟩⟩
      · rw [m_up, if_pos ⟨rfl, rfl⟩, List.length_append, List.length_singleton, hl1]
      · rw [List.length_append, List.length_singleton] at hj
        rw [m_up, if_neg (by omega), m_up]
        by_cases ej : j = (T ++ fdL a b c d e k).length
        · rw [if_pos ⟨rfl, by omega⟩, ej, gd_r]
        · rw [if_neg (by omega), gd_l (by omega)]; exact t1.2 j (by omega)
    refine r_feed_18 ?_
    rw [z20, n_le (by omega) (by omega), show (4 : Int32) ≤ nI k ↔ 4 ≤ k from n_le (a := 4) (by omega) (by omega), show (8 : Int32) ≤ nI k ↔ 8 ≤ k from n_le (a := 8) (by omega) (by omega), show (12 : Int32) ≤ nI k ↔ 12 ≤ k from n_le (a := 12) (by omega) (by omega), show (16 : Int32) ≤ nI k ↔ 16 ≤ k from n_le (a := 16) (by omega) (by omega)]
    refine ⟨fun z => by omega, fun _ => ⟨fun c1 => ⟨fun c2 => ⟨fun c3 => ⟨fun c4 => step e ?_, fun c4 => step d ?_⟩, fun c3 => step c ?_⟩, fun c2 => step b ?_⟩, fun c1 => step a ?_⟩⟩
    · unfold fdX; rw [if_pos c4]
    · unfold fdX; rw [if_neg c4, if_pos c3]
    · unfold fdX; rw [if_neg (by omega), if_neg c3, if_pos c2]
    · unfold fdX; rw [if_neg (by omega), if_neg (by omega), if_neg c2, if_pos c1]
    · unfold fdX; rw [if_neg (by omega), if_neg (by omega), if_neg (by omega), if_neg c1]
/-- the tape's end set back -/
theorem gd_take {T : List Nat} {n k : Nat} (hk : k < n) : (T.take n).getD k 0 = T.getD k 0 := by
  rw [List.getD_eq_getElem?_getD, List.getD_eq_getElem?_getD, List.getElem?_take_of_lt hk]
theorem tk_len {T : List Nat} {n : Nat} (h : n ≤ T.length) : (T.take n).length = n := by rw [List.length_take]; omega
theorem s_end {Q : Option Value → mw → Prop} {M : mw} {T : List Nat} (hT : MT T M) (hl : T.length ≤ 1600) (a : Int32) (q0 : ¬ (0 ≤ a.toInt ∧ a.toInt ≤ T.length) → Q (some (.int (nI 0))) M) (q1 : ∀ n, a = nI n → n ≤ T.length → ∀ M', fr 0 1 M M' → MT (T.take n) M' → Q (some (.int (nI 1))) M') : V_end [.ref 0, .int a] M Q := by
  refine e_end (r_end_0 ?_)
  rw [hT.1, Int32.lt_iff_toInt_lt, Int32.le_iff_toInt_le, n_T (by omega), i_0]
  refine ⟨fun c => ⟨nr_0, q0 (by omega)⟩, fun c => ⟨fun c2 => ?_, fun c2 => ⟨nr_0, q0 (by omega)⟩⟩⟩
  obtain ⟨n, hn, rfl⟩ := vld_ex (a := a) (n := T.length + 1) ⟨by omega, by omega⟩
  refine ⟨nr_1, q1 n rfl (by omega) _ (fr_up (lo := 0) (hi := 1) M _ _ (by omega)) ⟨?_, fun k hk => ?_⟩⟩
  · rw [m_up, if_pos ⟨rfl, rfl⟩, tk_len (by omega)]
  · rw [tk_len (by omega)] at hk
    rw [m_up, if_neg (by omega), gd_take hk]; exact hT.2 k (by omega)
theorem s_fault {Q : Option Value → mw → Prop} {M : mw} (a : Int32) (q : Q (some (.int (if a = nI 0 then M.1 7 0 else if a = nI 1 then M.1 8 0 else -nI 1))) M) : V_fault [.ref 0, .int a] M Q := by
  refine e_fault (r_fault_0 ⟨fun c => ⟨fun c2 => ⟨trivial, ?_⟩, fun c2 => ⟨trivial, ?_⟩⟩, fun c => ⟨trivial, ?_⟩⟩)
  · rw [if_neg (show ¬ a = nI 0 from c), if_neg (show ¬ a = nI 1 from c2)] at q; exact q
  · rw [if_neg (show ¬ a = nI 0 from c), if_pos (show a = nI 1 from Decidable.not_not.mp c2)] at q; exact q
  · rw [if_pos (show a = nI 0 from Decidable.not_not.mp c)] at q; exact q
/-! X -/
def XTa (T : List Nat) (w : xw) : Prop := (xR w 256 1 = 340 ∧ xS w 340 = (54, 1600)) ∧ xI w 256 2 = nI T.length ∧ ∀ k, k < T.length → xI w 340 k = sx (T.getD k 0)
def xfT (w w' : xw) : Prop := (xN w' = xN w ∧ xB w' = xB w) ∧ (xS w' = xS w ∧ xR w' = xR w) ∧ xL w' = xL w ∧ (∀ i, i ≠ 256 → i ≠ 340 → xI w' i = xI w i) ∧ ∀ k, k ≠ 2 → xI w' 256 k = xI w 256 k
theorem xfT_refl (w : xw) : xfT w w := ⟨⟨rfl, rfl⟩, ⟨rfl, rfl⟩, rfl, fun _ _ _ => rfl, fun _ _ => rfl⟩
theorem xfT_trans {w w1 w2 : xw} (h : xfT w w1) (g : xfT w1 w2) : xfT w w2 :=
  ⟨⟨g.1.1.trans h.1.1, g.1.2.trans h.1.2⟩, ⟨g.2.1.1.trans h.2.1.1, g.2.1.2.trans h.2.1.2⟩, g.2.2.1.trans h.2.2.1, fun i h1 h2 => (g.2.2.2.1 i h1 h2).trans (h.2.2.2.1 i h1 h2), fun k hk => (g.2.2.2.2 k hk).trans (h.2.2.2.2 k hk)⟩
theorem xfT_2 (w : xw) (v : Int32) : xfT w (xUpI w 256 2 v) := ⟨⟨rfl, rfl⟩, ⟨rfl, rfl⟩, rfl, fun i h _ => x_uI_ne h, fun k hk => by rw [x_uI, if_neg (by omega)]⟩
theorem xfT_340 (w : xw) (k : Nat) (v : Int32) : xfT w (xUpI w 340 k v) := ⟨⟨rfl, rfl⟩, ⟨rfl, rfl⟩, rfl, fun i _ h => x_uI_ne h, fun k hk => by rw [x_uI_ne (by omega)]⟩
section
variable {Q : Option Value → xw → Prop} {w : xw} {B : Bd} {s t : GS} {a b : Nat} {H : List GS}
theorem x_put {T : List Nat} (hs : (xS w 256).1 = 1) (h : XTa T w) (hl : T.length + 4 ≤ 1600) (a : Int32) (q : ∀ w', xfT w w' → XTa (T ++ ptL a) w' → Q none w') : V_X0_put [.ref 256, .int a] w Q := by
  have step : ∀ (w1 : xw) (U : List Nat) (x : Nat), U.length < 1600 → x ≤ 24 → xfT w w1 → XTa U w1 → (∀ w2, xfT w w2 → XTa (U ++ [by8 (a >>> (nI x &&& 31))]) w2 → T_X0_put Q 3 [some (.ref 256), some (.int a), some (.int (nI x + -8))] [] w2) → T_X0_put Q 3 [some (.ref 256), some (.int a), some (.int (nI x))] [] w1 := by
    intro w1 U x hU hx f1 h1 k
    obtain ⟨⟨r1, r2⟩, r3, r4⟩ := h1
    have hs1 : (xS w1 256).1 = 1 := by rw [f1.2.1.1]; exact hs
    refine r_X0_put_3 ?_
    rw [xS_uI, r1, r2, r3, n_tn (by omega), by8_sx, show nI U.length + 1 = nI (U.length + 1) from n_add _ 1]
    refine ⟨fun z => by rw [show (0 : Int32) = nI 0 from rfl, n_lt (by omega) (by omega)] at z; omega, fun _ => ⟨hs1, by omega, hs1, hs1, by omega, rfl, by omega, (n_in (by omega)).mpr (by omega), k _ (xfT_trans f1 (xfT_trans (xfT_2 _ _) (xfT_340 _ _ _))) ⟨⟨r1, r2⟩, ?_, fun j hj => ?_⟩⟩⟩
    · rw [x_uI_ne (by omega), x_uI, if_pos ⟨rfl, rfl⟩, List.length_append, List.length_singleton]
    · rw [List.length_append, List.length_singleton] at hj
      rw [x_uI]
      by_cases e : j = U.length
      · rw [if_pos ⟨rfl, e⟩, e, gd_r]
      · rw [if_neg (by omega), x_uI_ne (by omega), gd_l (by omega)]; exact r4 j (by omega)
  have len : ∀ (U : List Nat) (x : Nat), (U ++ [x]).length = U.length + 1 := fun U x => by rw [List.length_append]; rfl
  refine e_X0_put (r_X0_put_0 ?_)
  refine step w T 24 (by omega) (by omega) (xfT_refl w) h (fun w1 f1 t1 => ?_)
  refine step w1 _ 16 (by rw [len]; omega) (by omega) f1 t1 (fun w2 f2 t2 => ?_)
  refine step w2 _ 8 (by rw [len, len]; omega) (by omega) f2 t2 (fun w3 f3 t3 => ?_)
  refine step w3 _ 0 (by rw [len, len, len]; omega) (by omega) f3 t3 (fun w4 f4 t4 => ?_)
  refine r_X0_put_3 ⟨fun _ => ⟨rfl, q w4 f4 ?_⟩, fun z => absurd (by decide) z⟩
  rw [List.append_assoc, List.append_assoc, List.append_assoc] at t4
  exact t4
theorem pt_len (a : Int32) : (ptL a).length = 4 := rfl
theorem x_feed {T : List Nat} (hs : (xS w 256).1 = 1) (h : XTa T w) (hl : T.length ≤ 1600) (a b c d e : Int32) (q : ∀ w', xfT w w' → XTa (fdR T a b c d e) w' → Q (some (.int (fdV T))) w') : V_X0_feed [.ref 256, .int a, .int b, .int c, .int d, .int e] w Q := by
  unfold fdR fdV at q
  refine e_X0_feed (r_X0_feed_0 ?_)
  rw [h.2.1, show nI T.length + 20 = nI (T.length + 20) from n_add _ 20, show (1600 : Int32) = nI 1600 from rfl, n_le (by omega) (by omega)]
  refine ⟨hs, fun c0 => ⟨hs, ?_⟩, fun c0 => ⟨trivial, ?_⟩⟩
  rotate_left
  · rw [if_neg c0, if_neg c0] at q; exact q w (xfT_refl w) h
  rw [if_pos c0, if_pos c0, fd_pt] at q
  have hs' : ∀ {w' : xw}, xfT w w' → (xS w' 256).1 = 1 := fun f => by rw [f.2.1.1]; exact hs
  refine x_put hs h (by omega) a (fun w1 f1 t1 => r_X0_feed_20 ⟨hs' f1, ?_⟩)
  refine x_put (hs' f1) t1 (by rw [List.length_append, pt_len]; omega) b (fun w2 f2 t2 => r_X0_feed_25 ?_)
  have f2 := xfT_trans f1 f2
  refine ⟨hs' f2, x_put (hs' f2) t2 (by rw [List.length_append, List.length_append, pt_len, pt_len]; omega) c (fun w3 f3 t3 => r_X0_feed_30 ?_)⟩
  have f3 := xfT_trans f2 f3
  refine ⟨hs' f3, x_put (hs' f3) t3 (by rw [List.length_append, List.length_append, List.length_append, pt_len, pt_len, pt_len]; omega) d (fun w4 f4 t4 => r_X0_feed_36 ?_)⟩
  have f4 := xfT_trans f3 f4
  refine ⟨hs' f4, x_put (hs' f4) t4 (by rw [List.length_append, List.length_append, List.length_append, List.length_append, pt_len, pt_len, pt_len, pt_len]; omega) e (fun w5 f5 t5 => r_X0_feed_42 ?_)⟩
  have f5 := xfT_trans f4 f5
  have lt5 : (T ++ ptL a ++ ptL b ++ ptL c ++ ptL d ++ ptL e).length = T.length + 20 := by
    rw [List.length_append, List.length_append, List.length_append, List.length_append, List.length_append, pt_len, pt_len, pt_len, pt_len, pt_len]
  have q := q w5 f5 (by simp only [List.append_assoc] at t5 ⊢; exact t5)
  refine ⟨hs' f5, trivial, ?_⟩
  rw [t5.2.1, lt5]
  exact q
theorem x_end {T : List Nat} (hs : (xS w 256).1 = 1) (hT : XTa T w) (hl : T.length ≤ 1600) (a : Int32) (q0 : ¬ (0 ≤ a.toInt ∧ a.toInt ≤ T.length) → Q (some (.int (nI 0))) w) (q1 : ∀ n, a = nI n → n ≤ T.length → ∀ w', xfT w w' → XTa (T.take n) w' → Q (some (.int (nI 1))) w') : V_X0_end [.ref 256, .int a] w Q := by
  refine e_X0_end (r_X0_end_0 ?_)
  rw [hT.2.1, Int32.lt_iff_toInt_lt, Int32.le_iff_toInt_le, n_T (by omega), i_0]
  refine ⟨fun c => ⟨nr_0, q0 (by omega)⟩, fun c => ⟨hs, fun c2 => ?_, fun c2 => ⟨nr_0, q0 (by omega)⟩⟩⟩
  obtain ⟨n, hn, rfl⟩ := vld_ex (a := a) (n := T.length + 1) ⟨by omega, by omega⟩
  refine ⟨hs, by omega, nr_1, q1 n rfl (by omega) _ (xfT_2 w _) ⟨hT.1, ?_, fun k hk => ?_⟩⟩
  · rw [x_uI, if_pos ⟨rfl, rfl⟩, tk_len (by omega)]
  · rw [tk_len (by omega)] at hk
    rw [x_uI_ne (by omega), gd_take hk]; exact hT.2.2 k (by omega)
theorem x_taken {T : List Nat} (hs : (xS w 256).1 = 1) (hT : XTa T w) (q : xfT w (xUpI w 256 2 0) → XTa [] (xUpI w 256 2 0) → (∀ k, k < T.length → xI (xUpI w 256 2 0) 340 k = sx (T.getD k 0)) → Q (some (.int (nI T.length))) (xUpI w 256 2 0)) : V_X0_taken [.ref 256] w Q := by
  refine e_X0_taken (r_X0_taken_0 ?_)
  rw [hT.2.1]
  exact ⟨hs, hs, by omega, trivial, q (xfT_2 w _) ⟨hT.1, by rw [x_uI, if_pos ⟨rfl, rfl⟩]; rfl, (fun k hk => absurd hk (Nat.not_lt_zero k))⟩ (fun k hk => by rw [x_uI_ne (by omega)]; exact hT.2.2 k hk)⟩
theorem x_fault (hs : (xS w 256).1 = 1) (a : Int32) (q : Q (some (.int (if a = nI 0 then xI w 256 3 else if a = nI 1 then xI w 256 4 else -nI 1))) w) : V_X0_fault [.ref 256, .int a] w Q := by
  refine e_X0_fault (r_X0_fault_0 ⟨fun c => ⟨fun c2 => ⟨trivial, ?_⟩, fun c2 => ⟨hs, trivial, ?_⟩⟩, fun c => ⟨hs, trivial, ?_⟩⟩)
  · rw [if_neg (show ¬ a = nI 0 from c), if_neg (show ¬ a = nI 1 from c2)] at q; exact q
  · rw [if_neg (show ¬ a = nI 0 from c), if_pos (show a = nI 1 from Decidable.not_not.mp c2)] at q; exact q
  · rw [if_pos (show a = nI 0 from Decidable.not_not.mp c)] at q; exact q
end
