/-! a border that is told: kinds (letters of the name, reach, marks), stones, land, how many stones, rules (codes of a sum, codes of a test) -/
abbrev TB : Type := List (List Nat × Nat × Nat) × (Nat → Nat) × (Nat → Nat) × Nat × List (List Nat × List Nat)
def tK (t : TB) : List (List Nat × Nat × Nat) := t.1
def tS (t : TB) : Nat → Nat := t.2.1
def tL (t : TB) : Nat → Nat := t.2.2.1
def tN (t : TB) : Nat := t.2.2.2.1
def tR (t : TB) : List (List Nat × List Nat) := t.2.2.2.2
theorem getD_mem' {α : Type} {L : List α} {i : Nat} {d : α} (hi : i < L.length) : L.getD i d ∈ L := by
  rw [List.getD_eq_getElem?_getD, List.getElem?_eq_getElem hi]; exact List.getElem_mem hi
/-! names as numbers -/
def nmR : List Nat → Nat
  | [] => 0
  | c :: l => 27 * nmR l + c
def nmL (l : List Nat) : Nat := nmR l.reverse
def wdL (T : List Nat) (b k : Nat) : List Nat := (List.range k).map (fun i => T.getD (b + i) 0 - 96)
theorem wdL_succ (T : List Nat) (b k : Nat) : wdL T b (k + 1) = wdL T b k ++ [T.getD (b + k) 0 - 96] := by
  unfold wdL; rw [List.range_succ, List.map_append]; rfl
theorem wdL_len (T : List Nat) (b k : Nat) : (wdL T b k).length = k := by unfold wdL; rw [List.length_map, List.length_range]
theorem nmL_app (l : List Nat) (c : Nat) : nmL (l ++ [c]) = 27 * nmL l + c := by
  unfold nmL; rw [List.reverse_append]; rfl
theorem nmV_L {T : List Nat} {b : Nat} {k : Nat} (h : ∀ j, j < k → isLe (T.getD (b + j) 0) = true) : nmV T b k = nmL (wdL T b k) := by
  induction k with
  | zero => rfl
  | succ k ih =>
    have hk := h k (by omega)
    unfold isLe at hk
    rw [Bool.and_eq_true, decide_eq_true_eq, decide_eq_true_eq] at hk
    have e : nmV T b (k + 1) = 27 * nmV T b k + T.getD (b + k) 0 - 96 := rfl
    rw [wdL_succ, nmL_app, e, ih (fun j hj => h j (by omega))]
    omega
def nmOk (w : List Nat) : Prop := (1 ≤ w.length ∧ w.length ≤ 6) ∧ ∀ c, c ∈ w → 1 ≤ c ∧ c < 27
theorem nmR_lt : ∀ (l : List Nat), (∀ c, c ∈ l → c < 27) → nmR l < 27 ^ l.length
  | [], _ => (by decide : 0 < 1)
  | c :: l, h => by
    have i := nmR_lt l (fun x hx => h x (List.mem_cons_of_mem _ hx))
    have hc := h c List.mem_cons_self
    have e : nmR (c :: l) = 27 * nmR l + c := rfl
    rw [e, List.length_cons, Nat.pow_succ]
    omega
theorem nmR_inj : ∀ (l1 l2 : List Nat), (∀ c, c ∈ l1 → 1 ≤ c ∧ c < 27) → (∀ c, c ∈ l2 → 1 ≤ c ∧ c < 27) → nmR l1 = nmR l2 → l1 = l2
  | [], [], _, _, _ => rfl
  | [], c :: l, _, h2, e => by
    have hc := h2 c List.mem_cons_self
    have e2 : nmR (c :: l) = 27 * nmR l + c := rfl
    have e3 : nmR [] = 0 := rfl
    omega
  | c :: l, [], h1, _, e => by
    have hc := h1 c List.mem_cons_self
    have e2 : nmR (c :: l) = 27 * nmR l + c := rfl
    have e3 : nmR [] = 0 := rfl
    omega
  | c :: l, d :: m, h1, h2, e => by
    have hc := h1 c List.mem_cons_self
    have hd := h2 d List.mem_cons_self
    have e2 : nmR (c :: l) = 27 * nmR l + c := rfl
    have e3 : nmR (d :: m) = 27 * nmR m + d := rfl
    have e4 : c = d := by omega
    have e5 : nmR l = nmR m := by omega
    rw [e4, nmR_inj l m (fun x hx => h1 x (List.mem_cons_of_mem _ hx)) (fun x hx => h2 x (List.mem_cons_of_mem _ hx)) e5]
theorem nmL_inj {l1 l2 : List Nat} (h1 : ∀ c, c ∈ l1 → 1 ≤ c ∧ c < 27) (h2 : ∀ c, c ∈ l2 → 1 ≤ c ∧ c < 27) (e : nmL l1 = nmL l2) : l1 = l2 :=
  List.reverse_inj.mp (nmR_inj _ _ (fun c hc => h1 c (List.mem_reverse.mp hc)) (fun c hc => h2 c (List.mem_reverse.mp hc)) e)
theorem nmL_lt {w : List Nat} (h : nmOk w) : nmL w < 400000000 := by
  have := nmR_lt w.reverse (fun c hc => (h.2 c (List.mem_reverse.mp hc)).2)
  rw [List.length_reverse] at this
  have p : 27 ^ w.length ≤ 27 ^ 6 := Nat.pow_le_pow_right (by omega) h.1.2
  have p6 : (27 : Nat) ^ 6 = 387420489 := by decide
  have e : nmL w = nmR w.reverse := rfl
  omega
theorem wdL_ok {T : List Nat} {b k : Nat} (h1 : 1 ≤ k) (h6 : k ≤ 6) (h : ∀ j, j < k → isLe (T.getD (b + j) 0) = true) : nmOk (wdL T b k) := by
  refine ⟨by rw [wdL_len]; exact ⟨h1, h6⟩, fun c hc => ?_⟩
  unfold wdL at hc
  obtain ⟨i, hi, e⟩ := List.mem_map.mp hc
  have hk := h i (List.mem_range.mp hi)
  unfold isLe at hk
  rw [Bool.and_eq_true, decide_eq_true_eq, decide_eq_true_eq] at hk
  omega
theorem jN_inj {a b : Nat} (ha : a < 9223372036854775808) (hb : b < 9223372036854775808) (h : Int64.ofNat a = Int64.ofNat b) : a = b := by
  have := congrArg Int64.toInt h
  rw [j_T ha, j_T hb] at this
  omega
/-- the kind of a name, by its letters -/
def kdL (K : List (List Nat × Nat × Nat)) (w : List Nat) : Option Nat := fstP (fun k => decide ((K.getD k ([], 0, 0)).1 = w)) K.length
theorem fstP_cg {f g : Nat → Bool} {n : Nat} (h : ∀ u, u < n → f u = g u) : fstP f n = fstP g n := by
  induction n with
  | zero => rfl
  | succ n ih => unfold fstP; rw [ih (fun u hu => h u (by omega)), h n (by omega)]
theorem kd_eq {K : List (List Nat × Nat × Nat)} {w : List Nat} (hK : ∀ q, q ∈ K → nmOk q.1) (hw : nmOk w) : kdOf (K.map (fun q => Int64.ofNat (nmL q.1))) (Int64.ofNat (nmL w)) = kdL K w := by
  unfold kdOf kdL
  rw [List.length_map]
  refine fstP_cg (fun u hu => ?_)
  have e : (K.map (fun q => Int64.ofNat (nmL q.1))).getD u 0 = Int64.ofNat (nmL (K.getD u ([], 0, 0)).1) := by
    rw [List.getD_eq_getElem?_getD, List.getD_eq_getElem?_getD, List.getElem?_map, List.getElem?_eq_getElem hu]; rfl
  have hq := hK _ (getD_mem' (d := ([], 0, 0)) hu)
  rw [e]
  refine decide_eq_decide.mpr ⟨fun h => nmL_inj hq.2 hw.2 (jN_inj (by have := nmL_lt hq; omega) (by have := nmL_lt hw; omega) h), fun h => by rw [h]⟩
/-! what telling may alter -/
def pB (k i : Nat) : Prop := (k = 0 ∨ k = 1 ∨ k = 3 ∨ k = 7 ∨ k = 8 ∨ (9 < k ∧ k < 32) ∨ k = 35 ∨ k = 36 ∨ k = 43 ∨ k = 52 ∨ 53 < k) ∨ (k = 37 ∧ 3 ≤ i) ∨ ((k = 39 ∨ k = 40) ∧ 5 ≤ i) ∨ (k = 44 ∧ 1600 ≤ i) ∨ ((k = 49 ∨ k = 50 ∨ k = 51) ∧ 6 ≤ i)
def frB (M M' : mw) : Prop := (∀ k i, pB k i → M'.1 k i = M.1 k i) ∧ (∀ k i, (k ≠ 38 ∨ 5 ≤ i) → M'.2 k i = M.2 k i) ∧ bd6 M M'
theorem frB_refl (M : mw) : frB M M := ⟨fun _ _ _ => rfl, fun _ _ _ => rfl, fun h => ⟨h, rfl⟩⟩
theorem frB_trans {M M1 M2 : mw} (h : frB M M1) (g : frB M1 M2) : frB M M2 := ⟨fun k i p => (g.1 k i p).trans (h.1 k i p), fun k i p => (g.2.1 k i p).trans (h.2.1 k i p), bd6_trans h.2.2 g.2.2⟩
theorem frB_up {M M1 : mw} {k i : Nat} {v : Int32} (h : frB M M1) (hn : ¬ (pB k i ∨ k = 5 ∨ k = 6)) : frB M (mM_up M1 k i v) :=
  frB_trans h ⟨fun k' i' p => by rw [m_up, if_neg (fun z => hn (Or.inl (by rw [← z.1, ← z.2]; exact p)))], fun _ _ _ => rfl, fun z => by
    rw [m_up, if_neg (by omega)] at z
    exact ⟨z, by funext u; rw [m_up, if_neg (by omega)]⟩⟩
theorem frB_upl {M M1 : mw} {i : Nat} {v : Int64} (h : frB M M1) (hn : i < 5) : frB M (mM_upl M1 38 i v) :=
  frB_trans h ⟨fun _ _ _ => rfl, fun k' i' p => by rw [m_upl, if_neg (fun z => by omega)], fun z => ⟨z, rfl⟩⟩
theorem frB_T {M M' : mw} (h : frT M M') : frB M M' := ⟨fun k i p => by
  have : k ≠ 2 ∧ k ≠ 4 ∧ k ≠ 5 ∧ k ≠ 6 ∧ k ≠ 9 ∧ k ≠ 32 := by unfold pB at p; omega
  rw [h.2.1 k this.1 this.2.1 this.2.2.1 this.2.2.2.1 this.2.2.2.2.1 this.2.2.2.2.2], fun k i _ => by rw [h.1], h.2.2⟩
theorem frB_E {M M' : mw} (h : frE M M') : frB M M' := ⟨fun k i p => by
  by_cases e : k = 44
  · subst e
    exact h.2.2.1 i (by unfold pB at p; omega)
  have : k ≠ 2 ∧ k ≠ 4 ∧ k ≠ 5 ∧ k ≠ 6 ∧ k ≠ 9 ∧ k ≠ 32 ∧ (k < 44 ∨ 48 < k) ∧ k ≠ 53 := by unfold pB at p; omega
  rw [h.2.1 k this.1 this.2.1 this.2.2.1 this.2.2.2.1 this.2.2.2.2.1 this.2.2.2.2.2.1 this.2.2.2.2.2.2.1 this.2.2.2.2.2.2.2], fun k i _ => by rw [h.1], h.2.2.2⟩
/-! BorderStonesModel holds what is told -/
def rC (R : List (List Nat × List Nat)) : List Nat := R.flatMap (fun r => r.1 ++ r.2)
theorem rC_app (R : List (List Nat × List Nat)) (s t : List Nat) : rC (R ++ [(s, t)]) = rC R ++ (s ++ t) := by
  unfold rC; rw [List.flatMap_append]; simp
def MKd (o : Nat) (K : List (List Nat × Nat × Nat)) (M : mw) : Prop := ∀ k, k < K.length → M.2 38 (o + k) = Int64.ofNat (nmL (K.getD k ([], 0, 0)).1) ∧ M.1 39 (o + k) = nI (K.getD k ([], 0, 0)).2.1 ∧ M.1 40 (o + k) = nI (K.getD k ([], 0, 0)).2.2
def MRl (o : Nat) (R : List (List Nat × List Nat)) (M : mw) : Prop := ∀ k, k < R.length → M.1 49 (o + k) = nI (rC (R.take k)).length ∧ M.1 50 (o + k) = nI ((rC (R.take k)).length + (R.getD k ([], [])).1.length) ∧ M.1 51 (o + k) = nI (rC (R.take (k + 1))).length
def tOk (t : TB) : Prop := (tK t).length ≤ 5 ∧ (∀ q, q ∈ tK t → nmOk q.1 ∧ (1 ≤ q.2.1 ∧ q.2.1 ≤ 6) ∧ q.2.2 < 8) ∧ (∀ p, tS t p < 2 + 2 * (tK t).length ∧ tS t p ≠ 1) ∧ (∀ p, tL t p < 3) ∧ tN t ≤ 20 ∧ (tR t).length ≤ 6
def MTB (wd hg : Nat) (t : TB) (M : mw) : Prop := (M.1 33 0 = nI wd ∧ M.1 34 0 = nI hg) ∧ (M.1 37 0 = nI (tK t).length ∧ MKd 0 (tK t) M) ∧ (M.1 37 1 = nI (tN t) ∧ (∀ p, p < 36 → M.1 41 p = nI (tS t p))) ∧ (∀ p, p < 36 → M.1 42 p = nI (tL t p)) ∧ (M.1 37 2 = nI (tR t).length ∧ MRl 0 (tR t) M) ∧ M.1 45 0 = nI (rC (tR t)).length ∧ ∀ k, k < (rC (tR t)).length → M.1 44 k = nI ((rC (tR t)).getD k 0)
theorem MTB_c {wd hg : Nat} {t : TB} {M M' : mw} (h2 : M'.2 = M.2) (h1 : ∀ j, 33 ≤ j → M'.1 j = M.1 j) (g : MTB wd hg t M) : MTB wd hg t M' := by
  unfold MTB MKd MRl at *
  simp only [h2, h1 33 (by omega), h1 34 (by omega), h1 37 (by omega), h1 39 (by omega), h1 40 (by omega), h1 41 (by omega), h1 42 (by omega), h1 44 (by omega), h1 45 (by omega), h1 49 (by omega), h1 50 (by omega), h1 51 (by omega)]
  exact g
theorem MTB_T {wd hg : Nat} {t : TB} {M M' : mw} (h : frT M M') (g : MTB wd hg t M) : MTB wd hg t M' :=
  MTB_c h.1 (fun j hj => h.2.1 j (by omega) (by omega) (by omega) (by omega) (by omega) (by omega)) g
/-- fields of a border -/
def fOk (wd hg : Nat) : Prop := (3 ≤ wd ∧ wd ≤ 7) ∧ (3 ≤ hg ∧ hg ≤ 7) ∧ wd * hg ≤ 36
theorem MP_c {T : List Nat} {a : Nat} {M M' : mw} (up : ∀ j i, j < 33 → M'.1 j i = M.1 j i) (h : MP T a M) : MP T a M' := by
  obtain ⟨⟨g1, g2, g3⟩, g4, g5, g6, g7⟩ := h
  exact ⟨⟨by rw [up _ _ (by omega)]; exact g1, fun k hk => by rw [up _ _ (by omega)]; exact g2 k hk, g3⟩, by rw [up _ _ (by omega)]; exact g4, by rw [up _ _ (by omega)]; exact g5, g6, by rw [up _ _ (by omega)]; exact g7⟩
theorem MWd_c {M M' : mw} (up : ∀ j i, j < 33 → M'.1 j i = M.1 j i) (h : MWd M) : MWd M' := fun k h1 h2 i hi => by rw [up _ _ (by omega)]; exact h k h1 h2 i hi
theorem MBad_c {M M' : mw} {kd pl : Nat} (up : ∀ j i, j < 33 → M'.1 j i = M.1 j i) (h : MBad kd pl M) : MBad kd pl M' := ⟨by rw [up _ _ (by omega)]; exact h.1, by rw [up _ _ (by omega)]; exact h.2.1, h.2.2⟩
theorem up33 {M M1 : mw} {k i : Nat} {v : Int32} (hk : 33 ≤ k) (h : ∀ j i, j < 33 → M1.1 j i = M.1 j i) : ∀ j u, j < 33 → (mM_up M1 k i v).1 j u = M.1 j u := fun j u hj => by rw [m_up, if_neg (by omega)]; exact h j u hj
def frC (M M' : mw) : Prop := (∀ k i, pB k i → k ≠ 43 → M'.1 k i = M.1 k i) ∧ (∀ k i, (k ≠ 38 ∨ 5 ≤ i) → M'.2 k i = M.2 k i) ∧ bd6 M M'
theorem frC_trans {M M1 M2 : mw} (h : frC M M1) (g : frC M1 M2) : frC M M2 := ⟨fun k i p n => (g.1 k i p n).trans (h.1 k i p n), fun k i p => (g.2.1 k i p).trans (h.2.1 k i p), bd6_trans h.2.2 g.2.2⟩
theorem frC_B {M M' : mw} (h : frB M M') : frC M M' := ⟨fun k i p _ => h.1 k i p, h.2⟩
theorem frC_up {M M1 : mw} {k i : Nat} {v : Int32} (h : frC M M1) (hn : ¬ ((pB k i ∧ k ≠ 43) ∨ k = 5 ∨ k = 6)) : frC M (mM_up M1 k i v) := frC_trans h ⟨fun k' i' p n => by rw [m_up, if_neg (fun z => hn (Or.inl (by rw [← z.1, ← z.2]; exact ⟨p, n⟩)))], fun _ _ _ => rfl, fun z => by
    rw [m_up, if_neg (by omega)] at z
    exact ⟨z, by funext u; rw [m_up, if_neg (by omega)]⟩⟩
theorem frC_refl (M : mw) : frC M M := frC_B (frB_refl M)
theorem frC_T {M M' : mw} (h : frT M M') : frC M M' := frC_B (frB_T h)
