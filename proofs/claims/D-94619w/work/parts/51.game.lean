/-! the game, plainly. Bd: wide, high, kinds, reach, marks, worth -/
abbrev Bd : Type := Nat × Nat × Nat × (Nat → Nat) × (Nat → Nat) × (Nat → Nat)
def bW (B : Bd) : Nat := B.1
def bH (B : Bd) : Nat := B.2.1
def bK (B : Bd) : Nat := B.2.2.1
def bR (B : Bd) : Nat → Nat := B.2.2.2.1
def bM (B : Bd) : Nat → Nat := B.2.2.2.2.1
def bV (B : Bd) : Nat → Nat := B.2.2.2.2.2
def bN (B : Bd) : Nat := bW B * bH B
def bOk (B : Bd) : Prop := 3 ≤ bW B ∧ bW B ≤ 7 ∧ 3 ≤ bH B ∧ bH B ≤ 7 ∧ bN B ≤ 36 ∧ bK B ≤ 5 ∧ (∀ k, k < bK B → bR B k ≤ 6 ∧ bM B k < 8) ∧ ∀ p, p < bN B → bV B p ≤ 99
def adf (a b : Nat) : Nat := (a - b) + (b - a)
/-- steps from a place to another one: 0 if in no row, column or slant -/
def stp (w a b : Nat) : Nat := if adf (b % w) (a % w) = 0 ∨ adf (b / w) (a / w) = 0 ∨ adf (b % w) (a % w) = adf (b / w) (a / w) then max (adf (b % w) (a % w)) (adf (b / w) (a / w)) else 0
/-- a coordinate so many steps on -/
def tow (a b k : Nat) : Nat := if a < b then a + k else if b < a then a - k else a
def btw (w a b k : Nat) : Nat := w * tow (a / w) (b / w) k + tow (a % w) (b % w) k
def isOfG (st : Nat → Nat) (p side : Nat) : Bool := decide (0 < st p) && decide (st p % 2 = side)
def kdG (st : Nat → Nat) (p : Nat) : Nat := st p / 2 - 1
def mkG (B : Bd) (st : Nat → Nat) (p i : Nat) : Bool := (bM B (kdG st p)).testBit i
def lineG (B : Bd) (st : Nat → Nat) (a b : Nat) : Bool :=
  decide (stp (bW B) a b ≠ 0) && !mkG B st a 2 && !mkG B st b 2 && decide (stp (bW B) a b ≤ bR B (kdG st a)) && decide (stp (bW B) a b ≤ bR B (kdG st b)) &&
  (mkG B st a 0 || mkG B st b 0 || (List.range (stp (bW B) a b)).all (fun k => decide (k = 0) || decide (st (btw (bW B) a b k) = 0) || mkG B st (btw (bW B) a b k) 1))
def sOk (B : Bd) (st : Nat → Nat) : Prop := ∀ p, st p = 0 ∨ (2 ≤ st p ∧ st p < 2 + 2 * bK B)
theorem sOk_lt {B : Bd} {st : Nat → Nat} (hB : bOk B) (h : sOk B st) (p : Nat) : st p < 12 := by
  have := h p; have := hB.2.2.2.2.2.1; omega
theorem sOk_kd {B : Bd} {st : Nat → Nat} (h : sOk B st) {p : Nat} (hp : st p ≠ 0) : kdG st p < bK B := by
  have := h p; unfold kdG; omega
theorem tow_lt {a b k n : Nat} (ha : a < n) (hb : b < n) (hk : k ≤ adf b a) : tow a b k < n := by
  unfold tow adf at *; split <;> try split
  all_goals omega
theorem xy_lt {w h p : Nat} (hp : p < w * h) : p % w < w ∧ p / w < h := by
  have hw : 0 < w := by
    rcases Nat.eq_zero_or_pos w with e | e
    · subst e; simp at hp
    · exact e
  exact ⟨Nat.mod_lt _ hw, (Nat.div_lt_iff_lt_mul hw).mpr (by rw [Nat.mul_comm]; exact hp)⟩
theorem pl_lt {w h x y : Nat} (hx : x < w) (hy : y < h) : w * y + x < w * h := by
  have : w * (y + 1) ≤ w * h := Nat.mul_le_mul_left w hy
  rw [Nat.mul_add] at this; omega
theorem stp_ne {w a b : Nat} (h : stp w a b ≠ 0) : (adf (b % w) (a % w) = 0 ∨ adf (b % w) (a % w) = stp w a b) ∧ (adf (b / w) (a / w) = 0 ∨ adf (b / w) (a / w) = stp w a b) := by
  unfold stp at *
  split at h
  · rename_i c
    rw [if_pos c]
    omega
  · exact absurd rfl h
theorem tow_lt2 {a b k n m : Nat} (ha : a < n) (hb : b < n) (hm : adf b a = 0 ∨ adf b a = m) (hk : k ≤ m) : tow a b k < n := by
  unfold tow adf at *; split <;> try split
  all_goals omega
theorem btw_lt {w h a b k : Nat} (ha : a < w * h) (hb : b < w * h) (hk : k < stp w a b) : btw w a b k < w * h := by
  have h0 : stp w a b ≠ 0 := by omega
  obtain ⟨h1, h2⟩ := stp_ne h0
  obtain ⟨a1, a2⟩ := xy_lt ha
  obtain ⟨b1, b2⟩ := xy_lt hb
  exact pl_lt (tow_lt2 a1 b1 h1 (by omega)) (tow_lt2 a2 b2 h2 (by omega))
theorem stp_le {w h a b : Nat} (hw : w ≤ 7) (hh : h ≤ 7) (ha : a < w * h) (hb : b < w * h) : stp w a b ≤ 6 := by
  obtain ⟨a1, a2⟩ := xy_lt ha
  obtain ⟨b1, b2⟩ := xy_lt hb
  unfold stp adf
  generalize a % w = ax at *
  generalize b % w = bx at *
  generalize a / w = ay at *
  generalize b / w = by_ at *
  split <;> omega
/-! M's world -/
def MB (B : Bd) (M : mw) : Prop := M.1 35 0 = nI (bW B) ∧ M.1 36 0 = nI (bH B) ∧ M.1 37 3 = nI (bK B) ∧ (∀ k, k < bK B → M.1 39 (5 + k) = nI (bR B k)) ∧ (∀ k, k < bK B → M.1 40 (5 + k) = nI (bM B k)) ∧ ∀ p, p < bN B → M.1 52 p = nI (bV B p)
def MS (st : Nat → Nat) (M : mw) : Prop := ∀ p, p < 36 → M.1 56 p = nI (st p)
