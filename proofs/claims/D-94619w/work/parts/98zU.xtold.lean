/-! X: a border that is told -/
section
variable {T : List Nat} {w w' : xw}
/-- reading a border with the id b: what may differ -/
def xqb (b : Nat) (w w' : xw) : Prop := xN w ≤ xN w' ∧ (∀ i, i < xN w → xS w' i = xS w i) ∧ (∀ i, i < b → xL w' i = xL w i ∧ xR w' i = xR w i) ∧ ∀ i j, i < b → ¬ (i = 341 ∧ (j = 2 ∨ j = 3 ∨ j = 4)) → ¬ (i = 342 ∧ (j = 6 ∨ j = 7)) → xI w' i j = xI w i j
theorem xqb_refl (b : Nat) (w : xw) : xqb b w w := ⟨Nat.le_refl _, fun _ _ => rfl, fun _ _ => ⟨rfl, rfl⟩, fun _ _ _ _ _ => rfl⟩
theorem xqb_trans {b : Nat} {w1 w2 : xw} (h : xqb b w w1) (g : xqb b w1 w2) : xqb b w w2 := ⟨Nat.le_trans h.1 g.1, fun i hi => (g.2.1 i (Nat.lt_of_lt_of_le hi h.1)).trans (h.2.1 i hi), fun i hi => by
    obtain ⟨a2, a3⟩ := h.2.2.1 i hi
    obtain ⟨b2, b3⟩ := g.2.2.1 i hi
    exact ⟨b2.trans a2, b3.trans a3⟩, fun i j hi x y => (g.2.2.2 i j hi x y).trans (h.2.2.2 i j hi x y)⟩
theorem xqb_q {b : Nat} {w1 : xw} (h : xq w w1) (hb : b ≤ xN w) : xqb b w w1 := ⟨h.1, fun i hi => (h.2.1 i hi).1, fun i hi => (h.2.1 i (by omega)).2, fun i j hi x y => h.2.2 i j (by omega) x y⟩
theorem xqb_k {b : Nat} {E : Nat → Prop} (h : xk E w w') (hE : ∀ i, E i → b ≤ i) (hb : b ≤ xN w) : xqb b w w' := ⟨h.1, h.2.1, fun i hi => (h.2.2 i (by omega) (fun z => by have := hE i z; omega)).2, fun i j hi _ _ => by rw [(h.2.2 i (by omega) (fun z => by have := hE i z; omega)).1]⟩
/-- Kind o: the letters of its name, its reach, its marks -/
def XKi (q : List Nat × Nat × Nat) (o : Nat) (w : xw) : Prop := ((xS w o).1 = 7 ∧ o < xN w) ∧ xI w o 1 = nI q.2.1 ∧ xI w o 2 = nI q.2.2 ∧ XStr (q.1.map (fun c => c + 96)) (xR w o 0) w
/-- Rule o: a sum, a test -/
def XRu (P : Nat → Prop) (r : List Nat × List Nat) (o : Nat) (w : xw) : Prop := ((xS w o).1 = 12 ∧ o < xN w) ∧ XVd 24 P r.1 (xR w o 0) w ∧ XTd 24 P r.2 (xR w o 1) w
/-- cells of the Border b that are written once it was made -/
def bC (b A D i : Nat) : Prop := i < b + 83 ∨ i = A ∨ i = D
def fC (b A D lim i : Nat) : Prop := i < lim ∧ ¬ bC b A D i
def sdI (v : Nat) : Int32 := if v = 0 then -1 else nI (v % 2)
def ldI (v : Nat) : Int32 := if v = 0 then -1 else nI (v - 1)
/-- its shape and what is never told -/
def XBs (b : Nat) (w : xw) : Prop := ((xS w b).1 = 2 ∧ 794 ≤ b ∧ b + 83 ≤ xN w) ∧ (xR w b 4 = b + 1 ∧ xR w b 5 = b + 3 ∧ xR w b 6 = b + 5 ∧ xR w b 7 = b + 6 ∧ xR w b 8 = b + 7 ∧ xR w b 9 = b + 8 ∧ xR w b 10 = b + 9 ∧ xR w b 11 = b + 46) ∧ (∀ j, j < 4 → xS w (b + 5 + j) = (51, 36)) ∧
  (xS w (b + 9) = (58, 36) ∧ ∀ p, p < 36 → xR w (b + 9) p = b + 10 + p ∧ xS w (b + 10 + p) = (51, 36)) ∧ xS w (b + 46) = (59, 36) ∧ ∀ p, p < 36 → xR w (b + 46) p = b + 47 + p ∧ xS w (b + 47 + p) = (52, 36)
def XBz (b : Nat) (w : xw) : Prop := xL w b 12 = 0 ∧ (∀ p q, p < 36 → q < 36 → xI w (b + 10 + p) q = 0) ∧ ∀ p q, p < 36 → q < 36 → xL w (b + 47 + p) q = 0
def XTc (wd hg : Nat) (t : TB) (n b : Nat) (KL RL : List Nat) (A D lim : Nat) (w : xw) : Prop := (xI w b 0 = nI wd ∧ xI w b 1 = nI hg ∧ xI w b 2 = nI n ∧ xI w b 3 = nI (tN t)) ∧
  (((A = b + 2 ∨ b + 83 ≤ A) ∧ A ≠ D) ∧ (D = b + 4 ∨ b + 83 ≤ D) ∧ (∃ cap, XLa KL (b + 1) A cap w) ∧ ∃ cap, XLa RL (b + 3) D cap w) ∧
  (KL.length = (tK t).length ∧ ∀ k, k < (tK t).length → XKi ((tK t).getD k ([], 0, 0)) (KL.getD k 0) w ∧ fC b A D lim (KL.getD k 0) ∧ fC b A D lim (xR w (KL.getD k 0) 0) ∧ fC b A D lim (xR w (xR w (KL.getD k 0) 0) 0)) ∧
  (RL.length = (tR t).length ∧ ∀ k, k < (tR t).length → XRu (fC b A D lim) ((tR t).getD k ([], [])) (RL.getD k 0) w ∧ fC b A D lim (RL.getD k 0)) ∧
  (∀ p, p < 36 → xI w (b + 5) p = sdI (tS t p) ∧ (tS t p ≠ 0 → xI w (b + 6) p = nI ((tS t p - 2) / 2)) ∧ xI w (b + 7) p = ldI (tL t p))
def XTx (wd hg : Nat) (t : TB) (n b : Nat) (KL RL : List Nat) (A D lim : Nat) (w : xw) : Prop := XBs b w ∧ XBz b w ∧ XTc wd hg t n b KL RL A D lim w
def XTB (wd hg : Nat) (t : TB) (n b : Nat) (w : xw) : Prop := ∃ KL RL A D lim, lim ≤ xN w ∧ XTx wd hg t n b KL RL A D lim w
theorem XBs_s {b : Nat} (h : XBs b w) (hn : xN w ≤ xN w') (hs : ∀ i, i < xN w → xS w' i = xS w i) (hr : xR w' b = xR w b ∧ xR w' (b + 9) = xR w (b + 9) ∧ xR w' (b + 46) = xR w (b + 46)) : XBs b w' := by
  obtain ⟨⟨a1, a2, a3⟩, a4, a5, ⟨a6, a7⟩, a8, a9⟩ := h
  refine ⟨⟨by rw [hs b (by omega)]; exact a1, a2, by omega⟩, by rw [hr.1]; exact a4, fun j hj => by rw [hs _ (by omega)]; exact a5 j hj, ⟨by rw [hs _ (by omega)]; exact a6, fun p hp => ⟨by rw [hr.2.1]; exact (a7 p hp).1, by rw [hs _ (by omega)]; exact (a7 p hp).2⟩⟩, by rw [hs _ (by omega)]; exact a8, fun p hp => ⟨by rw [hr.2.2]; exact (a9 p hp).1, by rw [hs _ (by omega)]; exact (a9 p hp).2⟩⟩
theorem XBz_s {b : Nat} (h : XBz b w) (hi : ∀ p, p < 36 → xI w' (b + 10 + p) = xI w (b + 10 + p)) (hl : xL w' b = xL w b) (hm : ∀ p, p < 36 → xL w' (b + 47 + p) = xL w (b + 47 + p)) : XBz b w' := by
  obtain ⟨a1, a2, a3⟩ := h
  exact ⟨by rw [hl]; exact a1, fun p q hp hq => by rw [hi p hp]; exact a2 p q hp hq, fun p q hp hq => by rw [hm p hp]; exact a3 p q hp hq⟩
theorem XKi_k {E : Nat → Prop} {q : List Nat × Nat × Nat} {o : Nat} (h : XKi q o w) (k : xk E w w') (h1 : ¬ E o) (h2 : ¬ E (xR w o 0)) (h3 : ¬ E (xR w (xR w o 0) 0)) : XKi q o w' := by
  obtain ⟨⟨a1, a2⟩, a3, a4, ⟨⟨b1, b2, b3⟩, b4, ⟨b5, b6⟩, b7, b8, b9, c1⟩⟩ := h
  obtain ⟨e1, e2, e3⟩ := k.2.2 o a2 h1
  obtain ⟨g1, g2, g3⟩ := k.2.2 _ b3 h2
  obtain ⟨i1, i2, i3⟩ := k.2.2 _ b6 h3
  have nn := k.1
  refine ⟨⟨by rw [k.2.1 o a2]; exact a1, by omega⟩, by rw [e1]; exact a3, by rw [e1]; exact a4, ?_⟩
  rw [e3]
  exact ⟨⟨by rw [k.2.1 _ b3]; exact b1, b2, by omega⟩, by rw [g1]; exact b4, ⟨by rw [g3]; exact b5, by rw [g3]; omega⟩, by rw [g3, k.2.1 _ b6]; exact b7, fun j hj => by rw [g3, i1]; exact b8 j hj, b9, c1⟩
theorem XRu_k {E P P' : Nat → Prop} {r : List Nat × List Nat} {o : Nat} (h : XRu P r o w) (k : xk E w w') (h1 : ¬ E o) (hP : ∀ i, P i → i < xN w ∧ ¬ E i) (hs : ∀ i, P i → P' i) : XRu P' r o w' := by
  obtain ⟨⟨a1, a2⟩, a3, a4⟩ := h
  obtain ⟨e1, e2, e3⟩ := k.2.2 o a2 h1
  have nn := k.1
  refine ⟨⟨by rw [k.2.1 o a2]; exact a1, by omega⟩, ?_, ?_⟩
  · rw [e3]; exact XVd_m a3 (Nat.le_refl _) (xsm_k k hP) hs
  · rw [e3]; exact XTd_m a4 (Nat.le_refl _) (xsm_k k hP) hs
/-- other cells may differ -/
theorem XTx_k {E : Nat → Prop} {wd hg n b : Nat} {t : TB} {KL RL : List Nat} {A D lim : Nat} (h : XTx wd hg t n b KL RL A D lim w) (k : xk E w w') (hE : ∀ i, E i → ¬ (b ≤ i ∧ i < b + 83) ∧ i ≠ A ∧ i ≠ D) (hl : lim ≤ xN w) (hE2 : ∀ i, fC b A D lim i → ¬ E i) : XTx wd hg t n b KL RL A D lim w' := by
  obtain ⟨hs, hz, h0, ⟨c1, c2, ⟨cA, hA⟩, cD, hD⟩, ⟨k1, k2⟩, ⟨r1, r2⟩, g⟩ := h
  obtain ⟨⟨_, b8, b83⟩, _⟩ := id hs
  have nn := k.1
  have ne : ∀ i, (b ≤ i ∧ i < b + 83) ∨ i = A ∨ i = D → ¬ E i := fun i hi z => by have := hE i z; omega
  have c := fun i (h1 : b ≤ i) (h2 : i < b + 83) => k.2.2 i (by omega) (ne i (by omega))
  refine ⟨XBs_s hs k.1 k.2.1 ⟨(c b (by omega) (by omega)).2.2, (c _ (by omega) (by omega)).2.2, (c _ (by omega) (by omega)).2.2⟩, XBz_s hz (fun p hp => (c _ (by omega) (by omega)).1) (c b (by omega) (by omega)).2.1 (fun p hp => (c _ (by omega) (by omega)).2.1), by rw [(c b (by omega) (by omega)).1]; exact h0, ⟨c1, c2, ⟨cA, XLa_k hA k (ne _ (by omega)) (ne _ (by omega))⟩, cD, XLa_k hD k (ne _ (by omega)) (ne _ (by omega))⟩, ⟨k1, fun j hj => ?_⟩, ⟨r1, fun j hj => ?_⟩, fun p hp => ?_⟩
  · obtain ⟨d1, d2, d3, d4⟩ := k2 j hj
    have o1 := d1.1.2
    have o2 := d1.2.2.2.1.2.2
    have o3 := d1.2.2.2.2.2.1.2
    have e3 := (k.2.2 _ o1 (hE2 _ d2)).2.2
    have e4 := (k.2.2 _ o2 (hE2 _ d3)).2.2
    refine ⟨XKi_k d1 k (hE2 _ d2) (hE2 _ d3) (hE2 _ d4), d2, by rw [e3]; exact d3, by rw [e3, e4]; exact d4⟩
  · obtain ⟨d1, d2⟩ := r2 j hj
    exact ⟨XRu_k d1 k (hE2 _ d2) (fun i hi => ⟨by have := hi.1; omega, hE2 i hi⟩) (fun i hi => hi), d2⟩
  · rw [(c (b + 5) (by omega) (by omega)).1, (c (b + 6) (by omega) (by omega)).1, (c (b + 7) (by omega) (by omega)).1]; exact g p hp
theorem XTx_q {wd hg n b : Nat} {t : TB} {KL RL : List Nat} {A D lim : Nat} (h : XTx wd hg t n b KL RL A D lim w) (hl : lim ≤ xN w) (k : xq w w') : XTx wd hg t n b KL RL A D lim w' := by
  have hb := h.1.1.2
  have hA := h.2.2.2.1
  exact XTx_k h (xk_q k) (fun i hi => by omega) hl (fun i hi z => by unfold fC bC at hi; omega)
theorem XTx_f {E : Nat → Prop} {wd hg n b : Nat} {t : TB} {KL RL : List Nat} {A D lim : Nat} (h : XTx wd hg t n b KL RL A D lim w) (hl : lim ≤ xN w) (k : xk E w w') (hE : ∀ i, E i → lim ≤ i ∧ b + 83 ≤ i ∧ i ≠ A ∧ i ≠ D) : XTx wd hg t n b KL RL A D lim w' :=
  XTx_k h k (fun i hi => by have := hE i hi; omega) hl (fun i hi z => by have := hE i z; have := hi.1; omega)
theorem XTB_q {wd hg n b : Nat} {t : TB} (h : XTB wd hg t n b w) (k : xq w w') : XTB wd hg t n b w' := by
  obtain ⟨KL, RL, A, D, lim, hl, h⟩ := h
  exact ⟨KL, RL, A, D, lim, Nat.le_trans hl k.1, XTx_q h hl k⟩
theorem XTx_b {wd hg n b : Nat} {t : TB} {KL RL : List Nat} {A D lim : Nat} (h : XTx wd hg t n b KL RL A D lim w) : 794 ≤ b ∧ b + 83 ≤ xN w ∧ (xS w b).1 = 2 := ⟨h.1.1.2.1, h.1.1.2.2, h.1.1.1⟩
theorem XTB_b {wd hg n b : Nat} {t : TB} (h : XTB wd hg t n b w) : 794 ≤ b ∧ b + 83 ≤ xN w ∧ (xS w b).1 = 2 := by
  obtain ⟨KL, RL, A, D, lim, hl, h⟩ := h
  exact XTx_b h
theorem XTx_AD {wd hg n b : Nat} {t : TB} {KL RL : List Nat} {A D lim : Nat} (h : XTx wd hg t n b KL RL A D lim w) : A < xN w ∧ D < xN w := by
  obtain ⟨_, _, _, ⟨_, _, ⟨_, hA⟩, _, hD⟩, _⟩ := h
  exact ⟨hA.2.2.1.2.2.1, hD.2.2.1.2.2.1⟩
theorem XTx_l {wd hg n b : Nat} {t : TB} {KL RL : List Nat} {A D lim lim' : Nat} (h : XTx wd hg t n b KL RL A D lim w) (hl : lim ≤ lim') : XTx wd hg t n b KL RL A D lim' w := by
  obtain ⟨hs, hz, h0, h1, ⟨k1, k2⟩, ⟨r1, r2⟩, g⟩ := h
  have f : ∀ i, fC b A D lim i → fC b A D lim' i := fun i hi => ⟨by have := hi.1; omega, hi.2⟩
  refine ⟨hs, hz, h0, h1, ⟨k1, fun j hj => ?_⟩, ⟨r1, fun j hj => ?_⟩, g⟩
  · obtain ⟨d1, d2, d3, d4⟩ := k2 j hj
    exact ⟨d1, f _ d2, f _ d3, f _ d4⟩
  · obtain ⟨⟨d1, d3, d4⟩, d2⟩ := r2 j hj
    exact ⟨⟨d1, XVd_m d3 (Nat.le_refl _) (xsm_refl _ _) f, XTd_m d4 (Nat.le_refl _) (xsm_refl _ _) f⟩, f _ d2⟩
/-- the Reader tells the Border b -/
def XTo (wd hg : Nat) (t : TB) (n b : Nat) (w : xw) : Prop := XTB wd hg t n b w ∧ xR w 341 5 = b
theorem XTo_q {wd hg n b : Nat} {t : TB} (h : XTo wd hg t n b w) (k : xq w w') (hN : 794 ≤ xN w) : XTo wd hg t n b w' := ⟨XTB_q h.1 k, by rw [(k.2.1 341 (by omega)).2.2]; exact h.2⟩
theorem map96 {l1 l2 : List Nat} (h : l1.map (fun c => c + 96) = l2.map (fun c => c + 96)) : l1 = l2 := by
  induction l1 generalizing l2 with
  | nil => cases l2 with
    | nil => rfl
    | cons c l => cases h
  | cons c l ih => cases l2 with
    | nil => cases h
    | cons d m =>
      have h' := List.cons.inj h
      have h1 : c + 96 = d + 96 := h'.1
      rw [ih h'.2, show c = d by omega]
theorem wB_wd {a : Nat} (hb : a ≤ T.length) : (wdL T a (wl T a - a)).map (fun c => c + 96) = wB T a := by
  unfold wdL wB
  rw [List.map_map]
  refine List.map_congr_left (fun i hi => ?_)
  have hi := List.mem_range.mp hi
  have sp := (spL_is T isLe a hb).2.2.1 (a + i) (by omega) (by have : spL T isLe a = wl T a := rfl; omega)
  unfold isLe at sp
  rw [Bool.and_eq_true, decide_eq_true_eq, decide_eq_true_eq] at sp
  show T.getD (a + i) 0 - 96 + 96 = _
  omega
theorem x_kindOf {Q : Option Value → xw → Prop} {wd hg n b : Nat} {t : TB} {s a : Nat} (h3 : (xS w 341).1 = 3) (h : XTo wd hg t n b w) (hl : (tK t).length ≤ 5) (ha : a ≤ T.length) (hS : XStr (wB T a) s w) (hs : 256 ≤ s) (q : Q (some (.int (fdI (kdL (tK t) (wdL T a (wl T a - a)))))) w) : V_X2_kindOf [.ref 341, .ref s] w Q := by
  obtain ⟨⟨KL, RL, A, D, lim, hlim, hs1, hz, h0, ⟨c1, c2, ⟨cA, hA⟩, cD, hD⟩, ⟨k1, k2⟩, r1, g⟩, hr⟩ := id h
  obtain ⟨⟨b1, b8, b83⟩, ⟨b4, _⟩, _⟩ := id hs1
  have ef : (fun k => decide (((tK t).getD k ([], 0, 0)).1 = wdL T a (wl T a - a))) = fun k => decide (((tK t).getD k ([], 0, 0)).1.map (fun c => c + 96) = wB T a) := funext (fun k => decide_eq_decide.mpr ⟨fun e => by rw [e]; exact wB_wd ha, fun e => map96 (e.trans (wB_wd ha).symm)⟩)
  unfold kdL at q
  rw [ef] at q
  have loop : ∀ (m k : Nat), k + m = (tK t).length → fstP (fun k => decide (((tK t).getD k ([], 0, 0)).1.map (fun c => c + 96) = wB T a)) k = none → T_X2_kindOf Q 2 [some (.ref 341), some (.ref s), some (.int (nI k))] [] w := by
    intro m
    induction m with
    | zero =>
      intro k hk hn
      refine r_X2_kindOf_2 ?_
      rw [hr, b4]
      refine ⟨h3, by omega, b1, by omega, hA.1.1, x_lsize hA (r_X2_kindOf_15 ?_)⟩
      rw [n_le (by omega) (by omega)]
      refine ⟨fun _ => ⟨trivial, ?_⟩, fun z => absurd (by omega) z⟩
      rw [show (tK t).length = k by omega, hn] at q
      exact q
    | succ m ih =>
      intro k hk hn
      obtain ⟨d1, d2, d3, d4⟩ := k2 k (by omega)
      have o0 : KL.getD k 0 ≠ 0 := fun z => by rw [z] at d2; exact d2.2 (Or.inl (by omega))
      have e1 : fstP (fun k => decide (((tK t).getD k ([], 0, 0)).1.map (fun c => c + 96) = wB T a)) (k + 1) = if decide (((tK t).getD k ([], 0, 0)).1.map (fun c => c + 96) = wB T a) = true then some k else none := by
        show (match fstP _ k with | some p => some p | none => _) = _
        rw [hn]
      refine r_X2_kindOf_2 ?_
      rw [hr, b4]
      refine ⟨h3, by omega, b1, by omega, hA.1.1, x_lsize hA (r_X2_kindOf_15 ?_)⟩
      rw [n_le (by omega) (by omega), hr]
      refine ⟨fun z => by omega, fun _ => ⟨h3, by omega, b1, e_X1_kind (r_X1_kind_0 ?_)⟩⟩
      rw [b4]
      refine ⟨b1, by omega, hA.1.1, x_lgetA hA (by omega) o0 (r_X1_kind_10 ⟨d1.1.1, ⟨_, rfl, rfl⟩, r_X2_kindOf_26 ⟨d1.1.1, ?_, d1.2.2.2.1.1, x_eq d1.2.2.2 hS (Or.inr hs) (r_X2_kindOf_33 ?_)⟩⟩)⟩
      · have := d1.2.2.2.1.2.1; omega
      rw [show nI k + 1 = nI (k + 1) from n_add k 1]
      refine ⟨fun z => ih (k + 1) (by omega) ?_, fun z => ⟨trivial, ?_⟩⟩
      · rw [e1, bI_e0 z]; rfl
      · rw [bI_n0 z, if_pos rfl] at e1
        have : fstP (fun k => decide (((tK t).getD k ([], 0, 0)).1.map (fun c => c + 96) = wB T a)) (tK t).length = some k := by
          have mono : ∀ j, fstP (fun k => decide (((tK t).getD k ([], 0, 0)).1.map (fun c => c + 96) = wB T a)) (k + 1 + j) = some k := fun j => by
            induction j with
            | zero => exact e1
            | succ j ihj =>
              show (match fstP _ (k + 1 + j) with | some p => some p | none => _) = _
              rw [ihj]
          have := mono m
          rw [show k + 1 + m = (tK t).length by omega] at this; exact this
        rw [this] at q
        exact q
  exact e_X2_kindOf (r_X2_kindOf_0 (loop (tK t).length 0 (by omega) rfl))
end
