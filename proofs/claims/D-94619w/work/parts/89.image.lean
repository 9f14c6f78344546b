/-! the image of a state -/
def imC (s : GS) (p : Nat) : Nat := (if gS s p = 0 then 0 else gS s p - 1) * 3 + gL s p
def im1 (s : GS) : Nat → List Nat
  | 0 => [gD s]
  | p + 1 => im1 s p ++ [imC s p]
def im2 (N : Nat) (s : GS) : Nat → List Nat
  | 0 => im1 s N
  | p + 1 => im2 N s p ++ [if mb (owedAll s) p = true then 1 else 0]
def ckN (L : List Nat) : Nat → Nat
  | 0 => 71
  | k + 1 => (5 * ckN L k + L.getD k 0) % 239
def imgL (N : Nat) (s : GS) : List Nat := im2 N s N ++ [ckN (im2 N s N) (im2 N s N).length]
theorem im1_len (s : GS) (p : Nat) : (im1 s p).length = p + 1 := by
  induction p with
  | zero => rfl
  | succ p ih => unfold im1; rw [List.length_append, ih]; rfl
theorem im2_len (N : Nat) (s : GS) (p : Nat) : (im2 N s p).length = N + 1 + p := by
  induction p with
  | zero => exact im1_len s N
  | succ p ih => unfold im2; rw [List.length_append, ih]; rfl
theorem imgL_len (N : Nat) (s : GS) : (imgL N s).length = 2 * N + 2 := by
  unfold imgL; rw [List.length_append, im2_len, List.length_singleton]; omega
theorem ckN_lt (L : List Nat) (k : Nat) : ckN L k < 239 := by
  cases k with
  | zero => exact (by decide : 71 < 239)
  | succ k => exact Nat.mod_lt _ (by omega)
theorem imC_lt {B : Bd} {s : GS} (hK : bK B ≤ 5) (hg : gOk B s) (p : Nat) : imC s p < 256 := by
  have h1 := s12 hK hg.1 p
  have h2 := hg.2.2.1 p
  unfold imC; split <;> omega
theorem im1_lt {B : Bd} {s : GS} (hK : bK B ≤ 5) (hg : gOk B s) (n : Nat) : ∀ x, x ∈ im1 s n → x < 256 := by
  have hd := hg.2.2.2.2.1
  induction n with
  | zero => intro x hx; have : x = gD s := List.mem_singleton.mp hx; omega
  | succ n ih =>
    intro x hx
    unfold im1 at hx
    rcases List.mem_append.mp hx with h | h
    · exact ih x h
    · rw [List.mem_singleton.mp h]; exact imC_lt hK hg n
theorem im2_lt {B : Bd} {s : GS} (hK : bK B ≤ 5) (hg : gOk B s) (N n : Nat) : ∀ x, x ∈ im2 N s n → x < 256 := by
  induction n with
  | zero => exact im1_lt hK hg N
  | succ n ih =>
    intro x hx
    unfold im2 at hx
    rcases List.mem_append.mp hx with h | h
    · exact ih x h
    · rw [List.mem_singleton.mp h]; split <;> omega
theorem getD_lt {L : List Nat} {n : Nat} (h : ∀ x, x ∈ L → x < n) (h0 : 0 < n) (k : Nat) : L.getD k 0 < n := by
  rcases Nat.lt_or_ge k L.length with c | c
  · exact h _ (getD_mem c)
  · rw [List.getD_eq_getElem?_getD, List.getElem?_eq_none c]; exact h0
/-- the octets written, BorderStonesModel -/
def MO (L : List Nat) (M : mw) : Prop := M.1 85 0 = nI L.length ∧ ∀ k, k < L.length → M.1 84 k = nI (L.getD k 0)
theorem s_writes {Q : Option Value → mw → Prop} {M : mw} {L : List Nat} {a : Nat} (h : MO L M) (hl : L.length < 80) (q : ∀ M', fr 84 85 M M' → MO (L ++ [a]) M' → Q none M') : V_writes [.ref 0, .int (nI a)] M Q := by
  refine e_writes (r_writes_0 ?_)
  rw [m_up, if_neg (by omega), h.1, n_tn (by omega), show nI L.length + 1 = nI (L.length + 1) from n_add _ 1]
  refine ⟨(n_in (by omega)).mpr (by omega), rfl, q _ (fr_trans (fr_up (lo := 84) (hi := 85) M _ _ (by omega)) (fr_up (lo := 84) (hi := 85) _ _ _ (by omega)) (by omega) (by omega)) ⟨?_, fun k hk => ?_⟩⟩
  · rw [m_up, if_pos ⟨rfl, rfl⟩, List.length_append, List.length_singleton]
  · rw [List.length_append, List.length_singleton] at hk
    rw [m_up, if_neg (by omega), m_up]
    by_cases e : k = L.length
    · rw [if_pos ⟨rfl, e⟩, e, gd_r]
    · rw [if_neg (by omega), gd_l (by omega)]; exact h.2 k (by omega)
theorem s_image {Q : Option Value → mw → Prop} {M : mw} {B : Bd} {s : GS} (hN : bN B ≤ 36) (hK : bK B ≤ 5) (hM : MB B M) (hG : MG s M) (hg : gOk B s)
    (q : ∀ M', fr 84 85 M M' → MO (imgL (bN B) s) M' → Q (some (.int (nI (2 * bN B + 2)))) M') : V_image [.ref 0] M Q := by
  have h12 := s12 hK hg.1
  have h16 := hg.2.2.2.2.2.1
  have e108 : Int32.toNatClampNeg 108 = 108 := by decide
  have z3 : (3 : Int32) = nI 3 := rfl
  have z1 : (1 : Int32) = nI 1 := rfl
  have r : (mM_up M 85 0 0).1 56 108 = nI (gD s) := hG.2.2.2.1
  have f0 : fr 84 85 M (mM_up M 85 0 0) := fr_up M _ _ (by omega)
  -- the check
  have third : ∀ M1 : mw, fr 84 85 M M1 → MO (im2 (bN B) s (bN B)) M1 → T_image Q 102 [some (.ref 0), some (.int (nI 71)), some (.int (nI 0))] [] M1 := by
    intro M1 f1 o1
    have l1 := im2_len (bN B) s (bN B)
    have b1 := im2_lt hK hg (bN B) (bN B)
    have eI : imgL (bN B) s = im2 (bN B) s (bN B) ++ [ckN (im2 (bN B) s (bN B)) (im2 (bN B) s (bN B)).length] := rfl
    have lI := imgL_len (bN B) s
    rw [eI] at q lI
    generalize im2 (bN B) s (bN B) = L at *
    refine upTo L.length (fun _ (_ : Unit) => True) (fun k _ => T_image Q 102 [some (.ref 0), some (.int (nI (ckN L k))), some (.int (nI k))] [] M1) ?_ ?_ 0 () (by omega) trivial
    · intro _ _
      refine r_image_102 ?_
      rw [o1.1]
      refine ⟨fun _ => s_writes o1 (by omega) (fun M2 f2 o2 => r_image_136 ⟨trivial, ?_⟩), fun z => absurd (Int32.le_refl _) z⟩
      rw [o2.1, lI]
      exact q M2 (fr_trans f1 f2 (by omega) (by omega)) o2
    · intro k _ hk _ next
      have b2 := getD_lt b1 (by omega) k
      have b3 := ckN_lt L k
      refine r_image_102 ?_
      rw [o1.1, n_tn (by omega), o1.2 k hk, show (5 : Int32) * nI (ckN L k) = nI (5 * ckN L k) from n_mul 5 _, n_add, show bs_irem (nI (5 * ckN L k + L.getD k 0)) 239 = nI ((5 * ckN L k + L.getD k 0) % 239) from n_rem (b := 239) (by omega) (by omega), show nI k + 1 = nI (k + 1) from n_add k 1]
      exact ⟨fun z => by rw [n_le (by omega) (by omega)] at z; omega, fun _ => ⟨(n_in (by omega)).mpr (by omega), by decide, next () trivial⟩⟩
  have second : ∀ M1 : mw, fr 84 85 M M1 → MO (im1 s (bN B)) M1 → ∀ {o2 : Option Value}, T_image Q 70 [some (.ref 0), some (.int (nI 0)), o2] [] M1 := by
    intro M1 f1 o1
    refine upTo (bN B) (fun p (M2 : mw) => fr 84 85 M M2 ∧ MO (im2 (bN B) s p) M2) (fun p M2 => ∀ {o2 : Option Value}, T_image Q 70 [some (.ref 0), some (.int (nI p)), o2] [] M2) ?_ ?_ 0 M1 (by omega) ⟨f1, o1⟩
    · intro M2 ⟨f2, o2⟩ _
      exact r_image_70 (s_places (MB_fr f2 (by omega) hM) (r_image_75 ⟨fun _ => third M2 f2 o2, fun z => absurd (Int32.le_refl _) z⟩))
    · intro p M2 hp ⟨f2, o2⟩ next _
      have l2 := im2_len (bN B) s p
      refine r_image_70 (s_places (MB_fr f2 (by omega) hM) (r_image_75 ⟨fun z => by rw [n_le (by omega) (by omega)] at z; omega, fun _ => s_allOwed (MG_fr f2 (by omega) hG) h16 (r_image_83 ?_)⟩))
      rw [mb_ti _ (by omega)]
      refine s_writes o2 (by omega) (fun M3 f3 o3 => r_image_91 ?_)
      rw [show nI p + 1 = nI (p + 1) from n_add p 1]
      exact next M3 ⟨fr_trans f2 f3 (by omega) (by omega), o3⟩
  refine e_image (r_image_0 ?_)
  rw [e108, r]
  refine ⟨(n_in (a := 108) (by omega)).mpr (by omega), s_writes (L := []) (a := gD s) ⟨by rw [m_up, if_pos ⟨rfl, rfl⟩]; rfl, (fun k hk => absurd hk (Nat.not_lt_zero k))⟩ (by decide) (fun M1 f1 o1 => r_image_16 ?_)⟩
  refine upTo (bN B) (fun p (M2 : mw) => fr 84 85 M M2 ∧ MO (im1 s p) M2) (fun p M2 => ∀ {o2 : Option Value}, T_image Q 18 [some (.ref 0), some (.int (nI p)), o2] [] M2) ?_ ?_ 0 M1 (by omega) ⟨fr_trans f0 f1 (by omega) (by omega), o1⟩
  · intro M2 ⟨f2, o2⟩ _
    exact r_image_18 (s_places (MB_fr f2 (by omega) hM) (r_image_23 ⟨fun _ => second M2 f2 o2, fun z => absurd (Int32.le_refl _) z⟩))
  · intro p M2 hp ⟨f2, o2⟩ next _
    have l2 := im1_len s p
    have g2 := MG_fr f2 (by omega) hG
    have s1 := h12 p
    have r1 := g2.1 p (by omega)
    have r2 := g2.2.1 p (by omega)
    have fin : V_writes [.ref 0, .int (nI (imC s p))] M2 (fun v M1 => T_image Q 62 [some (.ref 0), some (.int (nI p)), none] (v.toList ++ []) M1) := by
      refine s_writes o2 (by omega) (fun M3 f3 o3 => r_image_62 ?_)
      rw [show nI p + 1 = nI (p + 1) from n_add p 1]
      exact next M3 ⟨fr_trans f2 f3 (by omega) (by omega), o3⟩
    refine r_image_18 (s_places (MB_fr f2 (by omega) hM) (r_image_23 ⟨fun z => by rw [n_le (by omega) (by omega)] at z; omega, fun _ => s_isFree (MG_MS g2) (fun p => by have := h12 p; omega) (by omega) (r_image_32 ?_)⟩))
    rw [show (36 : Int32) + nI p = nI (36 + p) from n_add 36 p, n_tn (by omega), n_tn (by omega), r1, r2]
    refine ⟨fun c => ⟨(n_in (by omega)).mpr (by omega), (n_in (by omega)).mpr (by omega), ?_⟩, fun c => ⟨(n_in (by omega)).mpr (by omega), ?_⟩⟩
    · have c := bI_e0 c
      rw [decide_eq_false_iff_not] at c
      rw [z1, z3, n_sub (by omega), n_mul, n_add]
      unfold imC at fin
      rw [if_neg c] at fin
      exact fin
    · have c := bI_n0 c
      rw [decide_eq_true_eq] at c
      rw [show (0 : Int32) * 3 = nI 0 from by decide, n_add]
      unfold imC at fin
      rw [if_pos c] at fin
      exact fin
def octR (L : List Nat) (a : Int32) : Int32 := if 0 ≤ a.toInt ∧ a.toInt < (L.length : Int) then nI (L.getD a.toNatClampNeg 0) else -nI 1
theorem s_octet {Q : Option Value → mw → Prop} {M : mw} {L : List Nat} (h : MO L M) (hl : L.length ≤ 80) (a : Int32) (q : Q (some (.int (octR L a))) M) : V_octet [.ref 0, .int a] M Q := by
  refine e_octet (r_octet_0 ?_)
  rw [h.1, Int32.lt_iff_toInt_lt, Int32.le_iff_toInt_le, n_T (by omega), i_0]
  unfold octR at q
  refine ⟨fun c => ⟨trivial, ?_⟩, fun c => ⟨fun c2 => ⟨trivial, ?_⟩, fun c2 => ?_⟩⟩
  · rw [if_neg (by omega)] at q; exact q
  · rw [if_neg (by omega)] at q; exact q
  · rw [if_pos (by omega)] at q
    obtain ⟨k, hk, rfl⟩ := vld_ex (a := a) (n := L.length) ⟨by omega, by omega⟩
    rw [n_tn (by omega)] at q ⊢
    rw [h.2 k hk]
    exact ⟨(n_in (by omega)).mpr (by omega), trivial, q⟩
/-! X -/
/-- a byte that holds a number -/
def sx (n : Nat) : Int32 := Int8.toInt32 (Int32.toInt8 (nI n))
theorem sx_sx {n : Nat} (h : n < 256) : Int8.toInt32 (Int32.toInt8 (sx n)) = sx n := by
  have : ∀ n, n < 256 → Int8.toInt32 (Int32.toInt8 (sx n)) = sx n := by decide +kernel
  exact this n h
theorem sx_and {n : Nat} (h : n < 256) : sx n &&& 255 = nI n := by
  have : ∀ n, n < 256 → sx n &&& 255 = nI n := by decide +kernel
  exact this n h
def XOt (L : List Nat) (w : xw) : Prop := xI w 256 22 = nI L.length ∧ ∀ k, k < L.length → xI w 793 k = sx (L.getD k 0)
def xfI (w w' : xw) : Prop := (xN w' = xN w ∧ xB w' = xB w) ∧ (xS w' = xS w ∧ xR w' = xR w) ∧ xL w' = xL w ∧ (∀ i, i ≠ 256 → i ≠ 793 → xI w' i = xI w i) ∧ ∀ k, k ≠ 22 → xI w' 256 k = xI w 256 k
theorem xfI_trans {w w1 w2 : xw} (h : xfI w w1) (g : xfI w1 w2) : xfI w w2 :=
  ⟨⟨g.1.1.trans h.1.1, g.1.2.trans h.1.2⟩, ⟨g.2.1.1.trans h.2.1.1, g.2.1.2.trans h.2.1.2⟩, g.2.2.1.trans h.2.2.1, fun i h1 h2 => (g.2.2.2.1 i h1 h2).trans (h.2.2.2.1 i h1 h2), fun k hk => (g.2.2.2.2 k hk).trans (h.2.2.2.2 k hk)⟩
theorem xfI_22 (w : xw) (v : Int32) : xfI w (xUpI w 256 22 v) := ⟨⟨rfl, rfl⟩, ⟨rfl, rfl⟩, rfl, fun i h _ => x_uI_ne h, fun k hk => by rw [x_uI, if_neg (by omega)]⟩
theorem xfI_793 (w : xw) (k : Nat) (v : Int32) : xfI w (xUpI w 793 k v) := ⟨⟨rfl, rfl⟩, ⟨rfl, rfl⟩, rfl, fun i _ h => x_uI_ne h, fun k hk => by rw [x_uI_ne (by omega)]⟩
theorem XA_I {B : Bd} {b : Nat} {s : GS} {w w' : xw} (h : xfI w w') (g : XA B b s w) : XA B b s w' := by
  obtain ⟨g1, g2, g3⟩ := g
  refine ⟨⟨?_, ?_⟩, XO_sr h.2.1 g2, XG_i (fun i h1 h2 => ⟨h.2.2.2.1 i (by omega) (by omega), by rw [h.2.2.1]⟩) g3⟩
  · have := g1.1
    unfold XT at *
    rw [h.2.1.1, h.2.1.2]; exact this
  · show XBv B b (xS w') (xR w') (xI w') (xL w')
    rw [h.2.1.1, h.2.1.2]
    exact XBv_cong g1.2 (fun i hi => h.2.2.2.1 i hi.2.1 (by have := hi.2.2; omega)) (fun i hi => by rw [h.2.2.1])
section
variable {Q : Option Value → xw → Prop} {w : xw} {B : Bd} {s t : GS} {a b : Nat} {H : List GS}
theorem x_writes {L : List Nat} {a : Nat} {v : Int32} (hA : XA B b s w) (h : XOt L w) (hl : L.length < 74) (hv : v = nI a) (ha : a < 256) (q : ∀ w', xfI w w' → XOt (L ++ [a]) w' → Q none w') : V_X0_writes [.ref 256, .int v] w Q := by
  obtain ⟨hE, hO, hG⟩ := hA
  subst hv
  refine e_X0_writes (r_X0_writes_0 ?_)
  rw [xS_uI, XO_21 hO, XO_s21 hO, h.1, n_tn (by omega), show nI L.length + 1 = nI (L.length + 1) from n_add _ 1]
  refine ⟨XE_s hE, by omega, XE_s hE, XE_s hE, by omega, rfl, by omega, (n_in (by omega)).mpr (by omega), rfl, q _ (xfI_trans (xfI_22 w _) (xfI_793 _ _ _)) ⟨?_, fun k hk => ?_⟩⟩
  · rw [x_uI_ne (by omega), x_uI, if_pos ⟨rfl, rfl⟩, List.length_append, List.length_singleton]
  · rw [List.length_append, List.length_singleton] at hk
    rw [x_uI]
    by_cases e : k = L.length
    · rw [if_pos ⟨rfl, e⟩, e, gd_r]; exact sx_sx ha
    · rw [if_neg (by omega), x_uI_ne (by omega), gd_l (by omega)]; exact h.2 k (by omega)
set_option maxHeartbeats 1000000 in
theorem x_image (hN : bN B ≤ 36) (hK : bK B ≤ 5) (hA : XA B b s w) (hg : gOk B s)
    (q : ∀ w', xfI w w' → XOt (imgL (bN B) s) w' → Q (some (.int (nI (2 * bN B + 2)))) w') : V_X0_image [.ref 256] w Q := by
  have h12 := s12 hK hg.1
  have h16 := hg.2.2.2.2.2.1
  have hd := hg.2.2.2.2.1
  have z3 : (3 : Int32) = nI 3 := rfl
  have z2 : (2 : Int32) = nI 2 := rfl
  have z1 : (1 : Int32) = nI 1 := rfl
  -- the check
  have third : ∀ w1 : xw, xfI w w1 → XOt (im2 (bN B) s (bN B)) w1 → T_X0_image Q 131 [some (.ref 256), some (.int (nI 71)), some (.int (nI 0))] [] w1 := by
    intro w1 f1 o1
    have hA1 := XA_I f1 hA
    have l1 := im2_len (bN B) s (bN B)
    have b1 := im2_lt hK hg (bN B) (bN B)
    have eI : imgL (bN B) s = im2 (bN B) s (bN B) ++ [ckN (im2 (bN B) s (bN B)) (im2 (bN B) s (bN B)).length] := rfl
    have lI := imgL_len (bN B) s
    rw [eI] at q lI
    generalize im2 (bN B) s (bN B) = L at *
    refine upTo L.length (fun _ (_ : Unit) => True) (fun k _ => T_X0_image Q 131 [some (.ref 256), some (.int (nI (ckN L k))), some (.int (nI k))] [] w1) ?_ ?_ 0 () (by omega) trivial
    · intro _ _
      refine r_X0_image_131 ?_
      rw [o1.1]
      refine ⟨XE_s hA1.1, fun _ => ⟨XE_s hA1.1, x_writes hA1 o1 (by omega) rfl (by have := ckN_lt L L.length; omega) (fun w2 f2 o2 => r_X0_image_169 ⟨XE_s (XA_I f2 hA1).1, trivial, ?_⟩)⟩, fun z => absurd (Int32.le_refl _) z⟩
      rw [o2.1, lI]
      exact q w2 (xfI_trans f1 f2) o2
    · intro k _ hk _ next
      have b2 := getD_lt b1 (by omega) k
      have b3 := ckN_lt L k
      refine r_X0_image_131 ?_
      rw [o1.1, XO_21 hA1.2.1, XO_s21 hA1.2.1, n_tn (by omega), o1.2 k hk, sx_and b2, show (5 : Int32) * nI (ckN L k) = nI (5 * ckN L k) from n_mul 5 _, n_add, show bs_irem (nI (5 * ckN L k + L.getD k 0)) 239 = nI ((5 * ckN L k + L.getD k 0) % 239) from n_rem (b := 239) (by omega) (by omega), show nI k + 1 = nI (k + 1) from n_add k 1]
      exact ⟨XE_s hA1.1, fun z => by rw [n_le (by omega) (by omega)] at z; omega, fun _ => ⟨XE_s hA1.1, by omega, rfl, (n_in (by omega)).mpr (by omega), by decide, next () trivial⟩⟩
  have second : ∀ w1 : xw, xfI w w1 → XOt (im1 s (bN B)) w1 → ∀ {o2 : Option Value}, T_X0_image Q 96 [some (.ref 256), some (.int (nI 0)), o2] [] w1 := by
    intro w1 f1 o1
    refine upTo (bN B) (fun p (w2 : xw) => xfI w w2 ∧ XOt (im2 (bN B) s p) w2) (fun p w2 => ∀ {o2 : Option Value}, T_X0_image Q 96 [some (.ref 256), some (.int (nI p)), o2] [] w2) ?_ ?_ 0 w1 (by omega) ⟨f1, o1⟩
    · intro w2 ⟨f2, o2⟩ _
      have hA2 := XA_I f2 hA
      exact r_X0_image_96 ⟨XE_s hA2.1, x_placeMany hA2.1 (r_X0_image_101 ⟨fun _ => third w2 f2 o2, fun z => absurd (Int32.le_refl _) z⟩)⟩
    · intro p w2 hp ⟨f2, o2⟩ next _
      have hA2 := XA_I f2 hA
      have l2 := im2_len (bN B) s p
      refine r_X0_image_96 ⟨XE_s hA2.1, x_placeMany hA2.1 (r_X0_image_101 ⟨fun z => by rw [n_le (by omega) (by omega)] at z; omega, fun _ => ?_⟩)⟩
      rw [XO_7 hA2.2.1]
      refine ⟨XE_s hA2.1, by omega, XP_s (XO_n hA2.2.1), x_owedPlaces (XO_n hA2.2.1) hA2.2.2 h16 (r_X0_image_112 ⟨XE_s hA2.1, ?_⟩)⟩
      refine x_writes hA2 o2 (by omega) (mb_ti _ (by omega)) (by split <;> omega) (fun w3 f3 o3 => r_X0_image_120 ?_)
      rw [show nI p + 1 = nI (p + 1) from n_add p 1]
      exact next w3 ⟨xfI_trans f2 f3, o3⟩
  refine e_X0_image (r_X0_image_0 ?_)
  have f0 := xfI_22 w 0
  have hA0 := XA_I f0 hA
  have o0 : XOt [] (xUpI w 256 22 0) := ⟨by rw [x_uI, if_pos ⟨rfl, rfl⟩]; rfl, (fun k hk => absurd hk (Nat.not_lt_zero k))⟩
  generalize xUpI w 256 22 0 = w0 at *
  rw [XO_7 hA0.2.1, hA0.2.2.1]
  refine ⟨XE_s hA.1, by omega, XE_s hA0.1, by omega, XP_s (XO_n hA0.2.1), XE_s hA0.1, x_writes hA0 o0 (by decide) rfl (by omega) (fun w1 f1 o1 => r_X0_image_16 ?_)⟩
  refine upTo (bN B) (fun p (w2 : xw) => xfI w w2 ∧ XOt (im1 s p) w2) (fun p w2 => ∀ {o2 : Option Value}, T_X0_image Q 18 [some (.ref 256), some (.int (nI p)), o2] [] w2) ?_ ?_ 0 w1 (by omega) ⟨xfI_trans f0 f1, o1⟩
  · intro w2 ⟨f2, o2⟩ _
    have hA2 := XA_I f2 hA
    exact r_X0_image_18 ⟨XE_s hA2.1, x_placeMany hA2.1 (r_X0_image_23 ⟨fun _ => second w2 f2 o2, fun z => absurd (Int32.le_refl _) z⟩)⟩
  · intro p w2 hp ⟨f2, o2⟩ next _
    have hA2 := XA_I f2 hA
    obtain ⟨hE2, hO2, hG2⟩ := id hA2
    have hP := XO_n hO2
    have l2 := im1_len s p
    have s1 := h12 p
    have gl := hg.2.2.1 p
    have ml : ∀ x, x < 2 → mb (xL w2 (345 + 2) x) p = decide (gL s p = 1 + x) := fun x hx => by
      rw [hG2.2.2.2.2.1 x hx, mb_ldL _ _ (by omega), decide_eq_true (show p < 36 by omega), Bool.true_and]
    have ms : ∀ x, x < 2 → mb (xL w2 (345 + 1) x) p = isOfG (gS s) p x := fun x hx => by
      rw [hG2.2.2.2.1 x hx, mb_stL _ _ (by omega), decide_eq_true (show p < 36 by omega), Bool.true_and]
    have land : ∀ (m : Nat) (v : Int32), v = nI (3 * m) → imC s p = m * 3 + gL s p → ∀ {o2 : Option Value}, V_X0_sideOf [.ref (345 + 2), .int (nI p)] w2 (fun u w1 => T_X0_image Q 82 [some (.ref 256), some (.int (nI p)), o2] (u.toList ++ [.int v, .ref 256]) w1) := by
      intro m v hv hm o2'
      refine x_sideOf (f := fun p => decide (gL s p = 1 + 0)) (g := fun p => decide (gL s p = 1 + 1)) (XP_s2 hP) (by omega) (ml 0 (by omega)) (ml 1 (by omega)) (r_X0_image_82 ⟨XE_s hE2, ?_⟩)
      refine x_writes (a := imC s p) hA2 o2 (by omega) ?_ (imC_lt hK hg p) (fun w3 f3 o3 => r_X0_image_88 ?_)
      · rw [hm, hv, z1]
        by_cases c1 : gL s p = 1
        · simp only [c1]
          rw [if_pos (by decide), n_add, n_add]; congr 1; omega
        · by_cases c2 : gL s p = 2
          · simp only [c2]
            rw [if_neg (by decide), if_pos (by decide), n_add, n_add]; congr 1; omega
          · have c0 : gL s p = 0 := by omega
            simp only [c0]
            rw [if_neg (by decide), if_neg (by decide), Int32.add_assoc, show (-nI 1 + nI 1 : Int32) = nI 0 from by decide, n_add]; congr 1; omega
      · rw [show nI p + 1 = nI (p + 1) from n_add p 1]
        exact next w3 ⟨xfI_trans f2 f3, o3⟩
    refine r_X0_image_18 ⟨XE_s hE2, x_placeMany hE2 (r_X0_image_23 ⟨fun z => by rw [n_le (by omega) (by omega)] at z; omega, fun _ => ?_⟩)⟩
    rw [XO_7 hO2]
    refine ⟨XE_s hE2, by omega, XP_s hP, x_has hP hG2 (by omega) (r_X0_image_34 ?_)⟩
    rw [XO_7 hO2, XP_r3 hP, XP_r2 hP, XP_r7 hP, XP_s3 hP, n_tn (by omega)]
    refine ⟨fun c => ⟨XE_s hE2, by omega, XP_s hP, by omega, land 0 _ (by decide) ?_⟩, fun c => ?_⟩
    · have c := bI_e0 c
      rw [decide_eq_false_iff_not, Decidable.not_not] at c
      unfold imC; rw [if_pos c]
    · have c := bI_n0 c
      rw [decide_eq_true_eq] at c
      refine ⟨XE_s hE2, by omega, XP_s hP, by omega, rfl, (n_in (by omega)).mpr (by omega), XE_s hE2, by omega, XP_s hP, by omega, x_sideOf (f := fun p => isOfG (gS s) p 0) (g := fun p => isOfG (gS s) p 1) (XP_s1 hP) (by omega) (ms 0 (by omega)) (ms 1 (by omega)) (r_X0_image_61 ?_)⟩
      rw [XO_7 hO2, XP_r3 hP, hG2.2.2.2.2.2.1 p (by omega) c]
      have sd : (if isOfG (gS s) p 0 = true then nI 0 else if isOfG (gS s) p 1 = true then nI 1 else -nI 1) = nI (gS s p % 2) := by
        unfold isOfG
        rcases Nat.mod_two_eq_zero_or_one (gS s p) with e | e <;> simp [e, show 0 < gS s p from by omega]
      rw [sd]
      refine ⟨XE_s hE2, by omega, XP_s hP, by omega, land (gS s p - 1) _ ?_ ?_⟩
      · rw [z1, z2, z3, n_mul, n_add, n_add, n_mul]
        congr 1
        unfold kdG
        omega
      · unfold imC; rw [if_neg c]
theorem x_octet {L : List Nat} (hA : XA B b s w) (h : XOt L w) (hL : ∀ x, x ∈ L → x < 256) (hl : L.length ≤ 74) (a : Int32) (q : Q (some (.int (octR L a))) w) : V_X0_octet [.ref 256, .int a] w Q := by
  obtain ⟨hE, hO, hG⟩ := hA
  refine e_X0_octet (r_X0_octet_0 ?_)
  rw [h.1, XO_21 hO, XO_s21 hO, Int32.lt_iff_toInt_lt, Int32.lt_iff_toInt_lt, n_T (by omega), i_0]
  unfold octR at q
  refine ⟨fun c => ⟨trivial, ?_⟩, fun c => ⟨XE_s hE, fun c2 => ?_, fun c2 => ⟨trivial, ?_⟩⟩⟩
  · rw [if_neg (by omega)] at q; exact q
  · rw [if_pos (by omega)] at q
    obtain ⟨k, hk, rfl⟩ := vld_ex (a := a) (n := L.length) ⟨by omega, by omega⟩
    rw [n_tn (by omega)] at q ⊢
    rw [h.2 k hk, sx_and (getD_lt hL (by omega) k)]
    exact ⟨XE_s hE, by omega, rfl, (n_in (by omega)).mpr (by omega), trivial, q⟩
  · rw [if_neg (by omega)] at q; exact q
end
