/-! seeds, draws, years -/
theorem j_T {a : Nat} (h : a < 9223372036854775808) : (Int64.ofNat a).toInt = a := by
  exact Int64.toInt_ofNat_of_lt h
theorem j_div {a b : Nat} (h : a < 9223372036854775808) (h2 : b < 9223372036854775808) : Int64.ofNat a / Int64.ofNat b = Int64.ofNat (a / b) := by
  have h3 : a / b ≤ a := Nat.div_le_self a b
  generalize hq : a / b = q at h3
  rw [← Int64.toInt_inj, Int64.toInt_div, j_T h, j_T h2, j_T (by omega), ← Int.ofNat_tdiv, hq]
  exact Int.bmod_eq_of_le (by omega) (by omega)
theorem j_add (a b : Nat) : Int64.ofNat a + Int64.ofNat b = Int64.ofNat (a + b) := by rw [← Int64.ofNat_add]
theorem j_mul (a b : Nat) : Int64.ofNat a * Int64.ofNat b = Int64.ofNat (a * b) := by rw [← Int64.ofNat_mul]
theorem j_sub {a b : Nat} (h : b ≤ a) : Int64.ofNat a - Int64.ofNat b = Int64.ofNat (a - b) := by
  have : Int64.ofNat a = Int64.ofNat (a - b) + Int64.ofNat b := by rw [j_add]; congr 1; omega
  rw [this, Int64.add_sub_cancel]
theorem j_rem {a b : Nat} (h : a < 9223372036854775808) (h2 : b < 9223372036854775808) : bs_lrem (Int64.ofNat a) (Int64.ofNat b) = Int64.ofNat (a % b) := by
  have h3 : a / b * b ≤ a := Nat.div_mul_le_self a b
  rw [bs_lrem, j_div h h2, j_mul, j_sub h3]
  congr 1
  have := Nat.div_add_mod a b
  rw [Nat.mul_comm] at this
  omega
theorem j_of {a : Nat} (h : a < 2147483648) : (nI a).toInt64 = Int64.ofNat a := by
  rw [← Int64.toInt_inj, Int32.toInt_toInt64, n_T h, j_T (by omega)]
theorem j_to {a : Nat} (h : a < 2147483648) : (Int64.ofNat a).toInt32 = nI a := by
  rw [← Int32.toInt_inj, n_T h, Int64.toInt_toInt32, j_T (by omega)]
  exact Int.bmod_eq_of_le (by omega) (by omega)
def dwN (v : Nat) : Nat := (1103515245 * v + 12345) % 2147483648
def dwR (v N : Nat) : Nat := dwN v / 64 % N
theorem dwN_lt (v : Nat) : dwN v < 2147483648 := Nat.mod_lt _ (by omega)
theorem dw_step {v : Nat} (h : v < 2147483648) : bs_lrem ((1103515245 * Int64.ofNat v) + 12345) 2147483648 = Int64.ofNat (dwN v) := by
  have e1 : (1103515245 : Int64) * Int64.ofNat v = Int64.ofNat (1103515245 * v) := j_mul 1103515245 v
  have e2 : Int64.ofNat (1103515245 * v) + (12345 : Int64) = Int64.ofNat (1103515245 * v + 12345) := j_add _ 12345
  rw [e1, e2]
  exact j_rem (b := 2147483648) (by omega) (by omega)
theorem dw_get {v N : Nat} (h : N < 2147483648) (h0 : N ≠ 0) : Int64.toInt32 (bs_lrem (Int64.ofNat (dwN v) / 64) (nI N).toInt64) = nI (dwR v N) := by
  have hv := dwN_lt v
  have e1 : Int64.ofNat (dwN v) / (64 : Int64) = Int64.ofNat (dwN v / 64) := j_div (b := 64) (by omega) (by omega)
  have h3 : dwN v / 64 ≤ dwN v := Nat.div_le_self _ _
  have h4 : dwN v / 64 % N < N := Nat.mod_lt _ (by omega)
  rw [e1, j_of h, j_rem (by omega) (by omega), j_to (by omega)]
  rfl
theorem j_ne {N : Nat} (h : N < 2147483648) (h0 : N ≠ 0) : ¬ ((nI N).toInt64 = 0) := fun z => by
  rw [j_of h, ← Int64.toInt_inj, j_T (by omega)] at z
  have : ((N : Nat) : Int) = 0 := z
  omega
theorem s_drawOf {Q : Option Value → mw → Prop} {M : mw} {v N : Nat} (hv : v < 2147483648) (hN : N < 2147483648) (h0 : N ≠ 0) (hM : M.2 83 0 = Int64.ofNat v)
    (q : Q (some (.int (nI (dwR v N)))) (mM_upl M 83 0 (Int64.ofNat (dwN v)))) : V_drawOf [.ref 0, .int (nI N)] M Q := by
  refine e_drawOf (r_drawOf_0 ?_)
  rw [hM, dw_step hv, m_upl, if_pos ⟨rfl, rfl⟩, dw_get hN h0]
  exact ⟨by decide, by decide, j_ne hN h0, trivial, q⟩
theorem s_seed {Q : Option Value → mw → Prop} {M : mw} (a : Int32) (q0 : ¬ (0 ≤ a.toInt) → Q (some (.int (nI 0))) M) (q1 : ∀ v, v < 2147483648 → a = nI v → Q (some (.int (nI 1))) (mM_upl M 83 0 (Int64.ofNat v))) : V_seed [.ref 0, .int a] M Q := by
  refine e_seed (r_seed_0 ⟨fun c => ⟨nr_1, ?_⟩, fun c => ⟨nr_0, q0 (fun z => c ?_)⟩⟩)
  · rw [Int32.le_iff_toInt_le, i_0] at c
    obtain ⟨v, hv, e⟩ := vld_ex (a := a) (n := 2147483648) ⟨c, by have := a.toInt_lt; omega⟩
    have := q1 v hv e
    rw [← j_of hv, ← e] at this
    exact this
  · rw [Int32.le_iff_toInt_le, i_0]; exact z
/-- a day of a year: state, history, seed, stones set -/
noncomputable def yr1 (B : Bd) (y : GS × List GS × Nat × Nat) : GS × List GS × Nat × Nat :=
  if gS y.1 (dwR y.2.2.1 (bN B)) = 0 then (goG B y.1 0 (some (dwR y.2.2.1 (bN B))), (y.1 :: y.2.1).take 40, dwN y.2.2.1, y.2.2.2 + 1) else (goG B y.1 0 none, (y.1 :: y.2.1).take 40, dwN y.2.2.1, y.2.2.2)
noncomputable def yrN (B : Bd) : Nat → GS × List GS × Nat × Nat → GS × List GS × Nat × Nat
  | 0, y => y
  | k + 1, y => yr1 B (yrN B k y)
def yrOk (B : Bd) (s : GS) (a : Int32) : Prop := ((1 : Int) ≤ a.toInt ∧ a.toInt ≤ 100) ∧ 0 < bK B ∧ (gD s : Int) + a.toInt ≤ 200
theorem goG_D {B : Bd} {s : GS} {k : Nat} {pl : Option Nat} : gD (goG B s k pl) = gD s + 1 := by
  cases pl <;> rfl
theorem yr_inv {B : Bd} (hB : bOk B) (hK0 : 0 < bK B) {s : GS} {H : List GS} {v : Nat} (hg : gOk B s) (hv : v < 2147483648) {n : Nat} (hn : gD s + n ≤ 200) : gOk B (yrN B n (s, H, v, 0)).1 ∧ gD (yrN B n (s, H, v, 0)).1 = gD s + n ∧ (yrN B n (s, H, v, 0)).2.2.1 < 2147483648 ∧ (yrN B n (s, H, v, 0)).2.2.2 ≤ n := by
  induction n with
  | zero => exact ⟨hg, rfl, hv, Nat.le_refl _⟩
  | succ n ih =>
    obtain ⟨i1, i2, i3, i4⟩ := ih (by omega)
    have e : yrN B (n + 1) (s, H, v, 0) = yr1 B (yrN B n (s, H, v, 0)) := rfl
    rw [e]
    generalize yrN B n (s, H, v, 0) = y at *
    have hN0 : 0 < bN B := Nat.mul_pos (by have := hB.1; omega) (by have := hB.2.2.1; omega)
    have hp : dwR y.2.2.1 (bN B) < bN B := Nat.mod_lt _ hN0
    unfold yr1
    split
    · exact ⟨goOk_all hB _ _ _ i1 (by omega) (fun p h => by cases h; exact ⟨hp, hK0⟩), by rw [goG_D, i2]; omega, dwN_lt _, by dsimp only; omega⟩
    · exact ⟨goOk_all hB _ _ _ i1 (by omega) (fun p h => by cases h), by rw [goG_D, i2]; omega, dwN_lt _, by dsimp only; omega⟩
def frY (M M' : mw) : Prop := ∀ j, (j < 56 ∨ 72 < j) → M'.1 j = M.1 j ∧ (j ≠ 83 → M'.2 j = M.2 j)
theorem frY_refl (M : mw) : frY M M := fun _ _ => ⟨rfl, fun _ => rfl⟩
theorem frY_trans {M M1 M2 : mw} (h : frY M M1) (g : frY M1 M2) : frY M M2 := fun j hj => ⟨(g j hj).1.trans (h j hj).1, fun z => ((g j hj).2 z).trans ((h j hj).2 z)⟩
theorem frY_of {lo hi : Nat} {M M' : mw} (h : fr lo hi M M') (h1 : 56 ≤ lo ∧ hi ≤ 72) : frY M M' := fun j hj => ⟨(h j (by omega)).1, fun _ => (h j (by omega)).2⟩
theorem frY_83 (M : mw) (v : Int64) : frY M (mM_upl M 83 0 v) := fun j _ => ⟨rfl, fun z => by funext i; rw [m_upl, if_neg (fun y => z y.1)]⟩
theorem fr_83 (M : mw) (v : Int64) : fr 83 83 M (mM_upl M 83 0 v) := fun j hj => ⟨rfl, by funext i; rw [m_upl, if_neg (by omega)]⟩
theorem MB_frY {M M' : mw} {B : Bd} (h : frY M M') (hM : MB B M) : MB B M' := by
  obtain ⟨a1, a2, a3, a4, a5, a6⟩ := hM
  refine ⟨?_, ?_, ?_, ?_, ?_, ?_⟩
  · rw [(h 35 (by omega)).1]; exact a1
  · rw [(h 36 (by omega)).1]; exact a2
  · rw [(h 37 (by omega)).1]; exact a3
  · rw [(h 39 (by omega)).1]; exact a4
  · rw [(h 40 (by omega)).1]; exact a5
  · rw [(h 52 (by omega)).1]; exact a6
theorem s_year {Q : Option Value → mw → Prop} {M : mw} {B : Bd} {s : GS} {H : List GS} {v : Nat} (hB : bOk B ∨ bN B = 0) (hK : bK B ≤ 5) (hKN : bN B = 0 → bK B = 0) (hM : MB B M) (hG : MG s M) (hg : gOk B s) (hH : MH H M) (hv : v < 2147483648) (hS : M.2 83 0 = Int64.ofNat v) (a : Int32)
    (q0 : ¬ yrOk B s a → Q (some (.int (-nI 1))) M)
    (q1 : ∀ n, a = nI n → n ≤ 100 → yrOk B s a → ∀ M', frY M M' → MG (yrN B n (s, H, v, 0)).1 M' → MH (yrN B n (s, H, v, 0)).2.1 M' → M'.2 83 0 = Int64.ofNat (yrN B n (s, H, v, 0)).2.2.1 → Q (some (.int (nI (yrN B n (s, H, v, 0)).2.2.2))) M') : V_year [.ref 0, .int a] M Q := by
  have hN : bN B ≤ 36 := bN36 hB
  have e108 : Int32.toNatClampNeg 108 = 108 := by decide
  have r : M.1 56 108 = nI (gD s) := hG.2.2.2.1
  have hd : gD s ≤ 200 := hg.2.2.2.2.1
  have z0 : (0 : Int32) = nI 0 := rfl
  refine e_year (r_year_0 (isIn_v a 1 100 _ _ rfl rfl (by omega) (by omega) (r_year_9 ⟨fun c => ⟨trivial, q0 (fun z => ?_)⟩, fun c => ?_⟩)))
  · have := bI_e0 c
    rw [decide_eq_false_iff_not] at this
    exact this z.1
  have c := bI_n0 c
  rw [decide_eq_true_eq] at c
  obtain ⟨n, ⟨n1, n2⟩, rfl⟩ : ∃ m, (1 ≤ m ∧ m ≤ 100) ∧ a = nI m := ⟨a.toInt.toNat, by omega, by rw [← Int32.toInt_inj, n_T (by omega)]; omega⟩
  refine s_kinds hM (r_year_16 ?_)
  have z200 : (200 : Int32) = nI 200 := rfl
  rw [z0, n_eq (by omega) (by omega), e108, r, n_add, z200, n_le (by omega) (by omega)]
  refine ⟨fun c2 => ⟨trivial, q0 (fun z => by have := z.2.1; omega)⟩, fun c2 => ⟨(n_in (a := 108) (by omega)).mpr (by omega), fun c3 => ?_, fun c3 => ⟨trivial, q0 (fun z => ?_)⟩⟩⟩
  rotate_left
  · have := z.2.2
    rw [n_T (by omega)] at this
    omega
  have hB1 : bOk B := hB.elim id (fun h => by exfalso; exact c2 (hKN h))
  have hK0 : 0 < bK B := by omega
  have hN0 : 0 < bN B := Nat.mul_pos (by have := hB1.1; omega) (by have := hB1.2.2.1; omega)
  have ok : yrOk B s (nI n) := ⟨c, hK0, by rw [n_T (by omega)]; omega⟩
  have q := q1 n rfl n2 ok
  clear q0 q1
  have main := upTo n (fun k (M1 : mw) => frY M M1 ∧ MG (yrN B k (s, H, v, 0)).1 M1 ∧ MH (yrN B k (s, H, v, 0)).2.1 M1 ∧ M1.2 83 0 = Int64.ofNat (yrN B k (s, H, v, 0)).2.2.1)
    (fun k M1 => ∀ {o4 o5 o6 : Option Value}, T_year Q 40 [some (.ref 0), some (.int (nI n)), some (.int (nI (yrN B k (s, H, v, 0)).2.2.2)), some (.int (nI k)), o4, o5, o6] [] M1) ?_ ?_
  · exact main 0 M (by omega) ⟨frY_refl M, hG, hH, hS⟩
  · intro M1 ⟨f1, g1, h1, v1⟩ o4 o5 o6
    exact r_year_40 ⟨fun _ => ⟨trivial, q M1 f1 g1 h1 v1⟩, fun z => absurd (Int32.le_refl _) z⟩
  · intro k M1 hk ⟨f1, g1, h1, v1⟩ next o4 o5 o6
    obtain ⟨i1, i2, i3, i4⟩ := yr_inv (H := H) hB1 hK0 hg hv (n := k) (by omega)
    have ey : yrN B (k + 1) (s, H, v, 0) = yr1 B (yrN B k (s, H, v, 0)) := rfl
    rw [ey] at next
    generalize yrN B k (s, H, v, 0) = y at *
    have ek : nI k + 1 = nI (k + 1) := n_add k 1
    have ec : nI y.2.2.2 + 1 = nI (y.2.2.2 + 1) := n_add _ 1
    have hM1 := MB_frY f1 hM
    have hp : dwR y.2.2.1 (bN B) < bN B := Nat.mod_lt _ hN0
    have s12' : ∀ p, gS y.1 p < 12 := fun p => by have := s12 hK i1.1 p; omega
    have h16 := i1.2.2.2.2.2.1
    refine r_year_40 ⟨fun z => by rw [n_le (by omega) (by omega)] at z; omega, fun _ => s_places hM1 (r_year_50 (s_drawOf i3 (by omega) (by omega) v1 (r_year_53 ?_)))⟩
    have f83 := fr_83 M1 (Int64.ofNat (dwN y.2.2.1))
    have hM2 := MB_fr f83 (by omega) hM1
    have g2 := MG_fr f83 (by omega) g1
    have h2 := MH_fr f83 (by omega) h1
    have f2 := frY_trans f1 (frY_83 M1 (Int64.ofNat (dwN y.2.2.1)))
    have v2 : (mM_upl M1 83 0 (Int64.ofNat (dwN y.2.2.1))).2 83 0 = Int64.ofNat (dwN y.2.2.1) := by rw [m_upl, if_pos ⟨rfl, rfl⟩]
    generalize mM_upl M1 83 0 (Int64.ofNat (dwN y.2.2.1)) = M2 at *
    generalize hpp : dwR y.2.2.1 (bN B) = p at *
    refine s_isFree (MG_MS g2) s12' (by omega) (r_year_61 (s_keepsDay h16 g2 h2 (fun M3 f3 h3 => r_year_67 ?_)))
    have hM3 := MB_fr f3 (by omega) hM2
    have g3 := MG_fr f3 (by omega) g2
    refine ⟨fun z => ?_, fun z => ?_⟩
    · have z := bI_e0 z
      rw [decide_eq_false_iff_not] at z
      refine s_sets hB1 hM3 g3 i1 (k := 0) none (fun p h => by cases h) (fun M4 f4 g4 _ => r_year_83 ⟨fun _ => ?_, fun y => absurd (by rw [decide_eq_false ‹_›]; rfl) y⟩)
      rw [ek]
      have nx := fun {o4 o5 o6 : Option Value} => next M4 (o4 := o4) (o5 := o5) (o6 := o6)
      unfold yr1 at nx
      rw [hpp, if_neg z] at nx
      exact nx ⟨frY_trans f2 (frY_trans (frY_of f3 (by omega)) (frY_of f4 (by omega))), g4, MH_fr f4 (by omega) h3, by rw [(f4 83 (by omega)).2, (f3 83 (by omega)).2]; exact v2⟩
    · have z := bI_n0 z
      rw [decide_eq_true_eq] at z
      refine s_sets hB1 hM3 g3 i1 (k := 0) (some p) (fun p' h => by cases h; exact ⟨hp, hK0, rfl⟩) (fun M4 f4 g4 _ => r_year_83 ⟨fun y => by rw [decide_eq_true ‹_›] at y; exact absurd y (by decide), fun _ => ?_⟩)
      rw [ek, ec]
      have nx := fun {o4 o5 o6 : Option Value} => next M4 (o4 := o4) (o5 := o5) (o6 := o6)
      unfold yr1 at nx
      rw [hpp, if_pos z] at nx
      exact nx ⟨frY_trans f2 (frY_trans (frY_of f3 (by omega)) (frY_of f4 (by omega))), g4, MH_fr f4 (by omega) h3, by rw [(f4 83 (by omega)).2, (f3 83 (by omega)).2]; exact v2⟩
section
variable {Q : Option Value → xw → Prop} {w : xw} {B : Bd} {s t : GS} {a b : Nat} {H : List GS}
theorem x_seed (hE : XE B b w) (a : Int32) (q0 : ¬ (0 ≤ a.toInt) → Q (some (.int (nI 0))) w) (q1 : ∀ v, v < 2147483648 → a = nI v → Q (some (.int (nI 1))) (xUpL w 256 20 (Int64.ofNat v))) : V_X0_seed [.ref 256, .int a] w Q := by
  refine e_X0_seed (r_X0_seed_0 ⟨fun c => ⟨XE_s hE, by omega, nr_1, ?_⟩, fun c => ⟨nr_0, q0 (fun z => c ?_)⟩⟩)
  · rw [Int32.le_iff_toInt_le, i_0] at c
    obtain ⟨v, hv, e⟩ := vld_ex (a := a) (n := 2147483648) ⟨c, by have := a.toInt_lt; omega⟩
    have := q1 v hv e
    rw [← j_of hv, ← e] at this
    exact this
  · rw [Int32.le_iff_toInt_le, i_0]; exact z
theorem x_draw {v N : Nat} (hE : XE B b w) (hv : v < 2147483648) (hN : N < 2147483648) (h0 : N ≠ 0) (hw : xL w 256 20 = Int64.ofNat v)
    (q : Q (some (.int (nI (dwR v N)))) (xUpL w 256 20 (Int64.ofNat (dwN v)))) : V_X0_draw [.ref 256, .int (nI N)] w Q := by
  refine e_X0_draw (r_X0_draw_0 ?_)
  rw [hw, dw_step hv, x_uL, if_pos ⟨rfl, rfl⟩, dw_get hN h0]
  exact ⟨XE_s hE, by decide, XE_s hE, by omega, by rw [xS_uL]; exact XE_s hE, by decide, j_ne hN h0, trivial, q⟩
theorem xfr_20 (w : xw) (v : Int64) : xfr 256 256 w (xUpL w 256 20 v) := xfr_uL w _ _ (by omega)
theorem XE_20 {v : Int64} (g : XE B b w) : XE B b (xUpL w 256 20 v) := by
  refine ⟨g.1, ?_⟩
  show XBv B b (xS w) (xR w) (xI w) (xL (xUpL w 256 20 v))
  exact XBv_cong g.2 (fun i hi => rfl) (fun i hi => x_uL_ne hi.2.1)
theorem XA_20 {v : Int64} (g : XA B b s w) : XA B b s (xUpL w 256 20 v) := ⟨XE_20 g.1, g.2.1, XG_fr (xfr_20 w v) (by omega) g.2.2⟩
theorem XK_20 {v : Int64} (g : XK B H w) : XK B H (xUpL w 256 20 v) := by
  obtain ⟨g1, g2, g3, g4⟩ := g
  refine ⟨g1, g2, g3, fun k s hk => ⟨(g4 k s hk).1, ?_⟩⟩
  have hl : k < H.length := by
    rcases Nat.lt_or_ge k H.length with c | c
    · exact c
    · rw [List.getElem?_eq_none c] at hk; cases hk
  have := XKp_at g3 (k := H.length - 1 - k) (by omega)
  exact XG_fr (xfr_20 w v) (by show xR w 354 _ + 7 < 256 ∨ 256 < xR w 354 _; omega) (g4 k s hk).2
/-- what a year may alter -/
def xfV (w w' : xw) : Prop := (xN w' = xN w ∧ xB w' = xB w) ∧ (xS w' = xS w ∧ ∀ i, i ≠ 354 → xR w' i = xR w i) ∧ (∀ i, i ≠ 256 → (i < 345 ∨ 792 < i) → xI w' i = xI w i ∧ xL w' i = xL w i) ∧ (∀ k, k ≠ 10 → k ≠ 18 → k ≠ 19 → xI w' 256 k = xI w 256 k) ∧ ∀ k, k ≠ 20 → xL w' 256 k = xL w 256 k
theorem xfV_refl (w : xw) : xfV w w := ⟨⟨rfl, rfl⟩, ⟨rfl, fun _ _ => rfl⟩, fun _ _ _ => ⟨rfl, rfl⟩, fun _ _ _ _ => rfl, fun _ _ => rfl⟩
theorem xfV_trans {w w1 w2 : xw} (h : xfV w w1) (g : xfV w1 w2) : xfV w w2 :=
  ⟨⟨g.1.1.trans h.1.1, g.1.2.trans h.1.2⟩, ⟨g.2.1.1.trans h.2.1.1, fun i hi => (g.2.1.2 i hi).trans (h.2.1.2 i hi)⟩, fun i h1 h2 => ⟨(g.2.2.1 i h1 h2).1.trans (h.2.2.1 i h1 h2).1, (g.2.2.1 i h1 h2).2.trans (h.2.2.1 i h1 h2).2⟩, fun k h1 h2 h3 => (g.2.2.2.1 k h1 h2 h3).trans (h.2.2.2.1 k h1 h2 h3), fun k hk => (g.2.2.2.2 k hk).trans (h.2.2.2.2 k hk)⟩
theorem xfV_S {w w' : xw} (h : xfS w w') : xfV w w' := ⟨h.1, h.2.1, h.2.2.1, h.2.2.2.1, fun k _ => by rw [h.2.2.2.2]⟩
theorem xfV_20 (w : xw) (v : Int64) : xfV w (xUpL w 256 20 v) := ⟨⟨rfl, rfl⟩, ⟨rfl, fun _ _ => rfl⟩, fun i h _ => ⟨rfl, x_uL_ne h⟩, fun _ _ _ _ => rfl, fun k hk => by rw [x_uL, if_neg (by omega)]⟩
set_option maxHeartbeats 1000000 in
theorem x_year {v : Nat} (hB : bOk B ∨ bN B = 0) (hK : bK B ≤ 5) (hKN : bN B = 0 → bK B = 0) (hA : XA B b s w) (hg : gOk B s) (hH : XK B H w) (hv : v < 2147483648) (hS : xL w 256 20 = Int64.ofNat v) (a : Int32)
    (q0 : ¬ yrOk B s a → Q (some (.int (-nI 1))) w)
    (q1 : ∀ n, a = nI n → n ≤ 100 → yrOk B s a → ∀ w', xfV w w' → XA B b (yrN B n (s, H, v, 0)).1 w' → XK B (yrN B n (s, H, v, 0)).2.1 w' → xL w' 256 20 = Int64.ofNat (yrN B n (s, H, v, 0)).2.2.1 → Q (some (.int (nI (yrN B n (s, H, v, 0)).2.2.2))) w') : V_X0_year [.ref 256, .int a] w Q := by
  have hN : bN B ≤ 36 := bN36 hB
  obtain ⟨hE, hO, hG⟩ := id hA
  have r := hG.1
  have hd : gD s ≤ 200 := hg.2.2.2.2.1
  have z0 : (0 : Int32) = nI 0 := rfl
  have t100 : (100 : Int32).toInt = 100 := rfl
  refine e_X0_year (r_X0_year_0 (x_is _ _ _ (r_X0_year_7 ⟨fun c => ⟨trivial, q0 (fun z => ?_)⟩, fun c => ⟨XE_s hE, x_isKind hK hE 0 (r_X0_year_15 ⟨fun c2 => ⟨trivial, q0 (fun z => ?_)⟩, fun c2 => ⟨XE_s hE, x_placeMany hE (r_X0_year_22 ?_)⟩⟩)⟩⟩)))
  · have := bI_e0 c
    rw [decide_eq_false_iff_not, i_1, t100] at this
    exact this z.1
  · have := bI_e0 c2
    rw [decide_eq_false_iff_not, i_0] at this
    have := z.2.1
    omega
  have c := bI_n0 c
  rw [decide_eq_true_eq, i_1, t100] at c
  have c2 := bI_n0 c2
  rw [decide_eq_true_eq, i_0] at c2
  obtain ⟨n, ⟨n1, n2⟩, rfl⟩ : ∃ m, (1 ≤ m ∧ m ≤ 100) ∧ a = nI m := ⟨a.toInt.toNat, by omega, by rw [← Int32.toInt_inj, n_T (by omega)]; omega⟩
  have z200 : (200 : Int32) = nI 200 := rfl
  rw [z0, n_eq (by omega) (by omega), XO_7 hO, r, n_add, z200, n_le (by omega) (by omega)]
  have hK0 : 0 < bK B := by omega
  refine ⟨fun c4 => absurd (hKN c4) (by omega), fun c4 => ⟨XE_s hE, by omega, XP_s (XO_n hO), fun c3 => ?_, fun c3 => ⟨trivial, q0 (fun z => ?_)⟩⟩⟩
  rotate_left
  · have := z.2.2
    rw [n_T (by omega)] at this
    omega
  have hB1 : bOk B := hB.elim id (fun h => by exfalso; exact c4 h)
  have hN0 : 0 < bN B := by omega
  have ok : yrOk B s (nI n) := ⟨c, hK0, by rw [n_T (by omega)]; omega⟩
  have q := q1 n rfl n2 ok
  clear q0 q1
  have main := upTo n (fun k (w1 : xw) => xfV w w1 ∧ XA B b (yrN B k (s, H, v, 0)).1 w1 ∧ XK B (yrN B k (s, H, v, 0)).2.1 w1 ∧ xL w1 256 20 = Int64.ofNat (yrN B k (s, H, v, 0)).2.2.1)
    (fun k w1 => ∀ {o4 o5 : Option Value}, T_X0_year Q 46 [some (.ref 256), some (.int (nI n)), some (.int (nI (yrN B k (s, H, v, 0)).2.2.2)), some (.int (nI k)), o4, o5] [] w1) ?_ ?_
  · exact main 0 w (by omega) ⟨xfV_refl w, hA, hH, hS⟩
  · intro w1 ⟨f1, g1, h1, v1⟩ o4 o5
    exact r_X0_year_46 ⟨fun _ => ⟨trivial, q w1 f1 g1 h1 v1⟩, fun z => absurd (Int32.le_refl _) z⟩
  · intro k w1 hk ⟨f1, g1, h1, v1⟩ next o4 o5
    obtain ⟨i1, i2, i3, i4⟩ := yr_inv (H := H) hB1 hK0 hg hv (n := k) (by omega)
    have ey : yrN B (k + 1) (s, H, v, 0) = yr1 B (yrN B k (s, H, v, 0)) := rfl
    rw [ey] at next
    generalize yrN B k (s, H, v, 0) = y at *
    have ek : nI k + 1 = nI (k + 1) := n_add k 1
    have ec : nI y.2.2.2 + 1 = nI (y.2.2.2 + 1) := n_add _ 1
    have ec0 : nI y.2.2.2 + 0 = nI y.2.2.2 := n_add _ 0
    have hp : dwR y.2.2.1 (bN B) < bN B := Nat.mod_lt _ hN0
    have h200 : gD y.1 < 200 := by omega
    refine r_X0_year_46 ⟨fun z => by rw [n_le (by omega) (by omega)] at z; omega, fun _ => ⟨XE_s g1.1, x_placeMany g1.1 (r_X0_year_56 ⟨XE_s g1.1, x_draw g1.1 i3 (by omega) (by omega) v1 (r_X0_year_59 ?_)⟩)⟩⟩
    have f2 := xfV_trans f1 (xfV_20 w1 (Int64.ofNat (dwN y.2.2.1)))
    have g2 := XA_20 (v := Int64.ofNat (dwN y.2.2.1)) g1
    have h2 := XK_20 (v := Int64.ofNat (dwN y.2.2.1)) h1
    have v2 : xL (xUpL w1 256 20 (Int64.ofNat (dwN y.2.2.1))) 256 20 = Int64.ofNat (dwN y.2.2.1) := by rw [x_uL, if_pos ⟨rfl, rfl⟩]
    generalize xUpL w1 256 20 (Int64.ofNat (dwN y.2.2.1)) = w2 at *
    generalize hpp : dwR y.2.2.1 (bN B) = p at *
    obtain ⟨hE2, hO2, hG2⟩ := id g2
    rw [XO_7 hO2]
    refine ⟨XE_s hE2, by omega, XP_s (XO_n hO2), x_has (XO_n hO2) hG2 (by omega) (r_X0_year_70 ⟨fun z => ⟨fun _ => ⟨XE_s hE2, ?_⟩, fun z2 => absurd rfl z2⟩, fun z => ⟨fun z2 => absurd z2 (by decide), fun _ => ⟨XE_s hE2, ?_⟩⟩⟩)⟩
    · have z := bI_n0 z
      rw [decide_eq_true_eq] at z
      refine x_set hB hK g2 i1 h2 _ _ (fun h => ?_) (fun k' pl hc w3 f3 g3 h3 => r_X0_year_96 ?_)
      · rcases h with h | h
        · omega
        · exact absurd rfl h.1
      · cases pl with
        | some p' =>
          have := hc.2.1
          have hp' := hc.2.2.2.1
          exact absurd ((n_eqg (a := p') (b := 1) (by omega) (by omega)).mp this.symm).2 (by omega)
        | none =>
          have hk0 : k' = 0 := hc.2.2.2
          subst hk0
          rw [ek, ec0]
          have nx := fun {o4 o5 : Option Value} => next w3 (o4 := o4) (o5 := o5)
          unfold yr1 at nx
          rw [hpp, if_neg z] at nx
          exact ⟨fun _ => nx ⟨xfV_trans f2 (xfV_S f3), g3, h3, by rw [f3.2.2.2.2]; exact v2⟩, fun z => absurd rfl z⟩
    · have z := bI_nn0 z
      rw [decide_eq_false_iff_not, Decidable.not_not] at z
      refine x_set hB hK g2 i1 h2 _ _ (fun h => ?_) (fun k' pl hc w3 f3 g3 h3 => r_X0_year_96 ?_)
      · rcases h with h | h
        · exact absurd ((n_eqg (a := p) (b := 1) (by omega) (by omega)).mp h.1).2 (by omega)
        · exact absurd (⟨vld_n hK0 (by omega), vld_n hp (by omega), by rw [n_tn (by omega)]; exact z, h200⟩ : canP B y.1 (nI 0) (nI p)) h.2
      · cases pl with
        | none => exact absurd ((n_eqg (a := p) (b := 1) (by omega) (by omega)).mp hc.1).2 (by omega)
        | some p' =>
          have e1 : p' = p := ((n_eq (by have := hc.2.2.2.1; omega) (by omega)).mp hc.2.1.symm)
          have e2 : k' = 0 := ((n_eq (b := 0) (by have := hc.2.2.1; omega) (by omega)).mp hc.1.symm)
          subst e1 e2
          rw [ek, ec]
          have nx := fun {o4 o5 : Option Value} => next w3 (o4 := o4) (o5 := o5)
          unfold yr1 at nx
          rw [hpp, if_pos z] at nx
          exact ⟨fun z => absurd z (by decide), fun _ => nx ⟨xfV_trans f2 (xfV_S f3), g3, h3, by rw [f3.2.2.2.2]; exact v2⟩⟩
end
