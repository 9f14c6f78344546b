/-! edges -/
def fr (lo hi : Nat) (M M' : mw) : Prop := ∀ k, (k < lo ∨ hi < k) → M'.1 k = M.1 k ∧ M'.2 k = M.2 k
theorem fr_refl (lo hi : Nat) (M : mw) : fr lo hi M M := fun k _ => ⟨rfl, rfl⟩
theorem fr_trans {a b c d lo hi : Nat} {M M1 M2 : mw} (h : fr a b M M1) (g : fr c d M1 M2) (h1 : lo ≤ a ∧ b ≤ hi) (h2 : lo ≤ c ∧ d ≤ hi) : fr lo hi M M2 := fun k hk => by
  have q1 := h k (by omega)
  have q2 := g k (by omega)
  exact ⟨q2.1.trans q1.1, q2.2.trans q1.2⟩
theorem fr_wk {a b lo hi : Nat} {M M1 : mw} (h : fr a b M M1) (h1 : lo ≤ a ∧ b ≤ hi) : fr lo hi M M1 := fun k hk => h k (by omega)
theorem fr_up {lo hi : Nat} (M : mw) {k : Nat} (i : Nat) (v : Int32) (h : lo ≤ k ∧ k ≤ hi) : fr lo hi M (mM_up M k i v) := fun j hj => mM_up_ne M k i v j (by omega)
theorem fr_upl {lo hi : Nat} (M : mw) {k : Nat} (i : Nat) (v : Int64) (h : lo ≤ k ∧ k ≤ hi) : fr lo hi M (mM_upl M k i v) := fun j hj => mM_upl_ne M k i v j (by omega)
theorem MB_fr {lo hi : Nat} {M M' : mw} {B : Bd} (h : fr lo hi M M') (h1 : 53 ≤ lo) (hM : MB B M) : MB B M' := by
  obtain ⟨a1, a2, a3, a4, a5, a6⟩ := hM
  have e := fun k (hk : k < 53) => (h k (by omega)).1
  refine ⟨?_, ?_, ?_, ?_, ?_, ?_⟩
  · rw [e 35 (by omega)]; exact a1
  · rw [e 36 (by omega)]; exact a2
  · rw [e 37 (by omega)]; exact a3
  · rw [e 39 (by omega)]; exact a4
  · rw [e 40 (by omega)]; exact a5
  · rw [e 52 (by omega)]; exact a6
theorem MS_fr {lo hi : Nat} {M M' : mw} {st : Nat → Nat} (h : fr lo hi M M') (h1 : 57 ≤ lo) (hM : MS st M) : MS st M' := by
  unfold MS; rw [(h 56 (by omega)).1]; exact hM
def b1 (p : Nat) : Int64 := 1 <<< ((nI p).toInt64 &&& 63)
def orB (w a b : Nat) : Nat → Int64
  | 0 => 0
  | k + 1 => if k = 0 then 0 else orB w a b k ||| b1 (btw w a b k)
def betG (w a b : Nat) : Int64 := orB w a b (stp w a b)
def rowE (B : Bd) (st : Nat → Nat) (side a : Nat) : Nat → Int64 × Nat
  | 0 => (0, 0)
  | b + 1 => if (decide (a < b) && isOfG st b side && lineG B st a b) = true then ((rowE B st side a b).1 ||| betG (bW B) a b, (rowE B st side a b).2 + 1) else rowE B st side a b
def allE (B : Bd) (st : Nat → Nat) (side : Nat) : Nat → Int64 × Nat
  | 0 => (0, 0)
  | a + 1 => if isOfG st a side = true then ((allE B st side a).1 ||| b1 a ||| (rowE B st side a (bN B)).1, (allE B st side a).2 + (rowE B st side a (bN B)).2) else allE B st side a
def edgeL (B : Bd) (st : Nat → Nat) (side : Nat) : Int64 := (allE B st side (bN B)).1
def linesG (B : Bd) (st : Nat → Nat) (side : Nat) : Nat := (allE B st side (bN B)).2
theorem rowE_le (B : Bd) (st : Nat → Nat) (side a b : Nat) : (rowE B st side a b).2 ≤ b := by
  induction b with
  | zero => exact Nat.le_refl _
  | succ b ih => unfold rowE; split <;> (try dsimp only) <;> omega
theorem rowE_0 (B : Bd) (st : Nat → Nat) (side a : Nat) {b : Nat} (h : b ≤ a + 1) : rowE B st side a b = (0, 0) := by
  induction b with
  | zero => rfl
  | succ b ih =>
    unfold rowE
    have : ¬ (a < b) := by omega
    simp [this]; exact ih (by omega)
theorem allE_le (B : Bd) (st : Nat → Nat) (side a : Nat) : (allE B st side a).2 ≤ a * bN B := by
  induction a with
  | zero => simp [allE]
  | succ a ih =>
    unfold allE
    have := rowE_le B st side a (bN B)
    have e : (a + 1) * bN B = a * bN B + bN B := by rw [Nat.add_mul, Nat.one_mul]
    split <;> (try dsimp only) <;> omega
theorem up_58 (M : mw) (v : Int64) : (mM_upl M 58 0 v).2 58 0 = v := by simp [mM_upl]
theorem up_59 (M : mw) (v : Int32) : (mM_up M 59 0 v).1 59 0 = v := by simp [mM_up]
theorem upl_I (M : mw) (k i : Nat) (v : Int64) : (mM_upl M k i v).1 = M.1 := rfl
theorem up_L (M : mw) (k i : Nat) (v : Int32) : (mM_up M k i v).2 = M.2 := rfl
theorem isOf_ne {st : Nat → Nat} {p side : Nat} (h : isOfG st p side = true) : st p ≠ 0 := by
  unfold isOfG at h; simp at h; omega
theorem s_edges {Q : Option Value → mw → Prop} {M : mw} {B : Bd} {st : Nat → Nat} (hB : bOk B) (hM : MB B M) (hS : MS st M) (hs : sOk B st) {side : Nat} (h2 : side < 2) (q : ∀ M', fr 58 59 M M' → M'.2 58 0 = edgeL B st side → M'.1 59 0 = nI (linesG B st side) → Q none M') : V_edges [.ref 0, .int (nI side)] M Q := by
  have hN := hB.2.2.2.2.1
  refine e_edges (r_edges_0 ?_)
  have main : ∀ (f a : Nat) (M1 : mw), a + f = bN B → fr 58 59 M M1 → M1.2 58 0 = (allE B st side a).1 → M1.1 59 0 = nI (allE B st side a).2 → ∀ {o3 o4 o5 : Option Value}, T_edges Q 12 [some (.ref 0), some (.int (nI side)), some (.int (nI a)), o3, o4, o5] [] M1 := by
    intro f
    induction f with
    | zero =>
      intro a M1 hf g1 g2 g3 o3 o4 o5
      have e : a = bN B := by omega
      subst e
      refine r_edges_12 (s_places (MB_fr g1 (by omega) hM) (r_edges_17 ⟨fun c => ⟨rfl, q M1 g1 g2 g3⟩, fun c => ?_⟩))
      rw [n_le (by omega) (by omega)] at c; omega
    | succ f ih =>
      intro a M1 hf g1 g2 g3 o3 o4 o5
      have hM1 := MB_fr g1 (by omega) hM
      have hS1 := MS_fr g1 (by omega) hS
      refine r_edges_12 (s_places hM1 (r_edges_17 ⟨fun c => ?_, fun c => ?_⟩))
      · rw [n_le (by omega) (by omega)] at c; omega
      refine s_isOf hS1 (sOk_lt hB hs) (by omega) h2 (r_edges_26 ⟨fun c1 => ?_, fun c1 => ?_⟩)
      rotate_left
      · have e : nI a + 1 = nI (a + 1) := n_add a 1
        rw [e]
        have c2 := bI_nn0 c1
        exact ih (a + 1) M1 (by omega) g1 (by rw [g2]; conv => rhs; unfold allE; simp [c2]) (by rw [g3]; conv => rhs; unfold allE; simp [c2])
      have c2 := bI_n0 c1
      have inner : ∀ (f2 b : Nat) (M2 : mw), b + f2 = bN B → a < b → fr 58 59 M M2 → M2.2 58 0 = (allE B st side a).1 ||| b1 a ||| (rowE B st side a b).1 → M2.1 59 0 = nI ((allE B st side a).2 + (rowE B st side a b).2) → ∀ {o4 o5 : Option Value}, T_edges Q 48 [some (.ref 0), some (.int (nI side)), some (.int (nI a)), some (.int (nI b)), o4, o5] [] M2 := by
        intro f2
        induction f2 with
        | zero =>
          intro b M2 hf2 hab k1 k2 k3 o4 o5
          have e : b = bN B := by omega
          subst e
          refine r_edges_48 (s_places (MB_fr k1 (by omega) hM) (r_edges_53 ⟨fun c => ?_, fun c => ?_⟩))
          · have e : nI a + 1 = nI (a + 1) := n_add a 1
            rw [e]
            exact ih (a + 1) M2 (by omega) k1 (by rw [k2]; conv => rhs; unfold allE; simp [c2]) (by rw [k3]; conv => rhs; unfold allE; simp [c2])
          · rw [n_le (by omega) (by omega)] at c; omega
        | succ f2 ih2 =>
          intro b M2 hf2 hab k1 k2 k3 o4 o5
          have hM2 := MB_fr k1 (by omega) hM
          have hS2 := MS_fr k1 (by omega) hS
          have e : nI b + 1 = nI (b + 1) := n_add b 1
          refine r_edges_48 (s_places hM2 (r_edges_53 ⟨fun c => ?_, fun c => ?_⟩))
          · rw [n_le (by omega) (by omega)] at c; omega
          refine s_isOf hS2 (sOk_lt hB hs) (by omega) h2 (r_edges_62 ⟨fun c3 => ?_, fun c3 => ?_⟩)
          · rw [e]
            have c4 := bI_e0 c3
            exact ih2 (b + 1) M2 (by omega) (by omega) k1 (by rw [k2]; conv => rhs; unfold rowE; simp [c4]) (by rw [k3]; conv => rhs; unfold rowE; simp [c4])
          have c4 := bI_n0 c3
          refine s_isLine hB hM2 hS2 hs (by omega) (by omega) (isOf_ne c2) (isOf_ne c4) (r_edges_71 ⟨fun c5 => ?_, fun c5 => ?_⟩)
          rotate_left
          · rw [e]
            have c6 := bI_nn0 c5
            exact ih2 (b + 1) M2 (by omega) (by omega) k1 (by rw [k2]; conv => rhs; unfold rowE; simp [c6]) (by rw [k3]; conv => rhs; unfold rowE; simp [c6])
          have c6 := bI_n0 c5
          have rE : rowE B st side a (b + 1) = ((rowE B st side a b).1 ||| betG (bW B) a b, (rowE B st side a b).2 + 1) := by
            conv => lhs; unfold rowE
            simp [c6, c4, hab]
          have k4 : fr 58 59 M (mM_up M2 59 0 (M2.1 59 0 + 1)) := fr_trans k1 (fr_up (lo := 58) (hi := 59) M2 0 _ (by omega)) (by omega) (by omega)
          have hl := stp_le hB.2.1 hB.2.2.2.1 (a := a) (b := b) (w := bW B) (h := bH B) (show a < bN B by omega) (show b < bN B by omega)
          refine s_stepsBetween hB (MB_fr k4 (by omega) hM) (by omega) (by omega) (r_edges_93 ?_)
          have kl : ∀ (f3 k : Nat) (M3 : mw), k + f3 = max 1 (stp (bW B) a b) → 1 ≤ k → fr 58 59 M M3 → M3.2 58 0 = (allE B st side a).1 ||| b1 a ||| (rowE B st side a b).1 ||| orB (bW B) a b k → M3.1 59 0 = nI ((allE B st side a).2 + (rowE B st side a b).2 + 1) → T_edges Q 98 [some (.ref 0), some (.int (nI side)), some (.int (nI a)), some (.int (nI b)), some (.int (nI (stp (bW B) a b))), some (.int (nI k))] [] M3 := by
            intro f3
            induction f3 with
            | zero =>
              intro k M3 hk hk1 m1 m2 m3
              refine r_edges_98 ⟨fun c => ?_, fun c => ?_⟩
              · rw [e]
                refine ih2 (b + 1) M3 (by omega) (by omega) m1 ?_ ?_
                · rw [m2, rE, ← Int64.or_assoc]
                  congr 1
                  unfold betG
                  by_cases z : stp (bW B) a b = 0
                  · rw [z]; rw [z] at hk
                    have : k = 1 := by omega
                    subst this; rfl
                  · have : k = stp (bW B) a b := by omega
                    rw [this]
                · rw [m3, rE]; rfl
              · rw [n_le (by omega) (by omega)] at c; omega
            | succ f3 ih3 =>
              intro k M3 hk hk1 m1 m2 m3
              refine r_edges_98 ⟨fun c => ?_, fun c => ?_⟩
              · rw [n_le (by omega) (by omega)] at c; omega
              refine s_towards hB (MB_fr m1 (by omega) hM) (by omega) (by omega) (by omega) (r_edges_121 ?_)
              have e3 : nI k + 1 = nI (k + 1) := n_add k 1
              rw [e3]
              refine ih3 (k + 1) _ (by omega) (by omega) (fr_trans m1 (fr_upl (lo := 58) (hi := 59) M3 0 _ (by omega)) (by omega) (by omega)) ?_ m3
              rw [up_58, m2]
              conv => rhs; unfold orB
              rw [if_neg (by omega : ¬ k = 0), ← Int64.or_assoc]
              rfl
          refine kl (max 1 (stp (bW B) a b) - 1) 1 _ (by omega) (by omega) k4 ?_ ?_
          · rw [up_L, k2]
            have : orB (bW B) a b 1 = 0 := rfl
            rw [this, Int64.or_zero]
          · rw [up_59, k3]; exact n_add _ 1
      have e : nI a + 1 = nI (a + 1) := n_add a 1
      rw [e]
      refine inner (bN B - (a + 1)) (a + 1) _ (by omega) (by omega) (fr_trans g1 (fr_upl (lo := 58) (hi := 59) M1 0 _ (by omega)) (by omega) (by omega)) ?_ ?_
      · rw [up_58, g2, rowE_0 _ _ _ _ (by omega), Int64.or_zero]; rfl
      · rw [upl_I, g3, rowE_0 _ _ _ _ (by omega)]; rfl
  have g0 : fr 58 59 M (mM_up (mM_upl M 58 0 0) 59 0 0) := fr_trans (fr_upl (lo := 58) (hi := 59) M 0 _ (by omega)) (fr_up (lo := 58) (hi := 59) _ 0 _ (by omega)) (by omega) (by omega)
  exact main (bN B) 0 _ (by omega) g0 (by rw [up_L, up_58]; rfl) (by rw [up_59]; rfl)
