/-! X: where a reading ends, what it may take -/
section
variable {Q : Option Value → xw → Prop} {Qx : Nat → xw → Prop} {w : xw} {T : List Nat} {a : Nat}
theorem sk_le (T : List Nat) {a : Nat} (h : a ≤ T.length) : sk T a ≤ T.length := (sk_is T h).2
theorem here_w {a k : Nat} (h1 : 10 ≤ k) (h2 : k < 32) (ha : a ≤ T.length) (h : hereB T a (wT k) = true) : wl T (sk T a) = sk T a + (wT k).length ∧ sk T a + (wT k).length ≤ T.length := by
  have hl := wT_ok k h2 h1
  rcases here_len h with g | g
  · have := (spL_is T isLe (sk T a) (sk_le T ha)).2.1
    have e : spL T isLe (sk T a) = wl T (sk T a) := rfl
    omega
  · omega
theorem num_le {lo hi v e : Nat} (ha : a ≤ T.length) (h : numP T a lo hi = .inr (v, e)) : e ≤ T.length ∧ sk T a < e ∧ e = dl T (sk T a) ∧ v ≤ hi ∧ lo ≤ v := by
  unfold numP at h
  split at h
  · rename_i c0
    simp only [Bool.and_eq_true, decide_eq_true_eq] at c0
    have g1 : dl T (sk T a) = dl T (sk T a + 1) := spL_go c0.1.1 c0.1.2
    have g2 := dl_ge T (sk T a + 1)
    have g3 := (spL_is T isDi (sk T a) (sk_le T ha)).2.1
    have g4 : spL T isDi (sk T a) = dl T (sk T a) := rfl
    split at h
    · cases h
    · split at h
      · rename_i c2
        cases h; omega
      · cases h
  · cases h
theorem at_le {c : List Nat} {p : Nat} (ha : a ≤ T.length) (h : atP T a = .inr (c, p)) : p ≤ T.length := by
  unfold atP at h
  split at h
  · rename_i g; cases h; exact (here_w (k := 27) (by omega) (by omega) ha g).2
  · split at h
    · rename_i g; cases h; exact (here_w (k := 28) (by omega) (by omega) ha g).2
    · split at h
      · rename_i g; cases h; exact (here_w (k := 29) (by omega) (by omega) ha g).2
      · split at h
        · cases h
        · rename_i v e hn
          cases h
          exact (num_le ha hn).1
theorem pE_le (T : List Nat) (f : Nat) : ∀ tag a op c a1, a ≤ T.length → pE T f tag a op = .inr (c, a1) → a1 ≤ T.length := by
  induction f with
  | zero => intro tag a op c a1 _ h; cases h
  | succ f ih =>
    intro tag a op c a1 ha h
    have hs := sk_ge T a
    have hsl := sk_le T ha
    unfold pE at h
    split at h
    · split at h
      · rename_i b0
        have b0 := chB_lt b0
        split at h
        · cases h
        · obtain ⟨c1, b1, h1, h2⟩ := bnd_inv h
          have g1 := ih _ _ _ _ _ (by omega) h1
          split at h2
          · rename_i b2
            have := chB_lt b2
            cases h2; omega
          · cases h2
      · split at h
        · split at h
          · rename_i b0
            have b0 := chB_lt b0
            split at h
            · cases h
            · obtain ⟨c1, b1, h1, h2⟩ := bnd_inv h
              split at h2
              · rename_i b2
                have b2 := chB_lt b2
                obtain ⟨c2, b2', h3, h4⟩ := bnd_inv h2
                split at h4
                · rename_i b3
                  have b3 := chB_lt b3
                  cases h4; omega
                · cases h4
              · cases h2
          · cases h
        · exact at_le ha h
    · split at h
      · obtain ⟨c1, b1, h1, h2⟩ := bnd_inv h
        obtain ⟨c2, b2, h3, h4⟩ := bnd_inv h2
        have g1 := ih _ _ _ _ _ ha h1
        have g2 := ih _ _ _ _ _ g1 h3
        cases h4; exact g2
      · split at h
        · split at h
          · rename_i b0
            have b0 := chB_lt b0
            obtain ⟨c1, b1, h1, h2⟩ := bnd_inv h
            obtain ⟨c2, b2, h3, h4⟩ := bnd_inv h2
            have g1 := ih _ _ _ _ _ (by omega) h1
            have g2 := ih _ _ _ _ _ g1 h3
            cases h4; exact g2
          · split at h
            · rename_i b0
              have b0 := chB_lt b0
              obtain ⟨c1, b1, h1, h2⟩ := bnd_inv h
              obtain ⟨c2, b2, h3, h4⟩ := bnd_inv h2
              have g1 := ih _ _ _ _ _ (by omega) h1
              have g2 := ih _ _ _ _ _ g1 h3
              cases h4; exact g2
            · cases h; exact ha
        · split at h
          · obtain ⟨c1, b1, h1, h2⟩ := bnd_inv h
            obtain ⟨c2, b2, h3, h4⟩ := bnd_inv h2
            have g1 := ih _ _ _ _ _ ha h1
            have g2 := ih _ _ _ _ _ g1 h3
            cases h4; exact g2
          · split at h
            · rename_i b0
              have b0 := chB_lt b0
              obtain ⟨c1, b1, h1, h2⟩ := bnd_inv h
              obtain ⟨c2, b2, h3, h4⟩ := bnd_inv h2
              have g1 := ih _ _ _ _ _ (by omega) h1
              have g2 := ih _ _ _ _ _ g1 h3
              cases h4; exact g2
            · split at h
              · rename_i b0
                have b0 := chB_lt b0
                obtain ⟨c1, b1, h1, h2⟩ := bnd_inv h
                obtain ⟨c2, b2, h3, h4⟩ := bnd_inv h2
                have g1 := ih _ _ _ _ _ (by omega) h1
                have g2 := ih _ _ _ _ _ g1 h3
                cases h4; exact g2
              · cases h; exact ha
/-- the end of a reading -/
def eN (T : List Nat) (r : PR) : Nat := match r with
  | .inl _ => T.length + 1
  | .inr q => q.2
theorem eN_bnd {r : PR} {k : List Nat → Nat → PR} (h : ∀ c p, r = .inr (c, p) → p ≤ eN T (k c p)) : eN T r ≤ eN T (bnd r k) := by
  cases r with
  | inl e => exact Nat.le_refl _
  | inr q => exact h q.1 q.2 rfl
theorem eN_pE {f tag a op : Nat} (ha : a ≤ T.length) : a ≤ eN T (pE T f tag a op) ∧ eN T (pE T f tag a op) ≤ T.length + 1 := by
  cases h : pE T f tag a op with
  | inl e => show a ≤ T.length + 1 ∧ T.length + 1 ≤ T.length + 1; omega
  | inr q =>
    have g1 := pE_len T f tag a op q.1 q.2 h
    have g2 := pE_le T f tag a op q.1 q.2 ha h
    show a ≤ q.2 ∧ q.2 ≤ T.length + 1; omega
theorem cVal_ne {c : List Nat} (h : cVal c) : 0 < c.length := by
  cases c with
  | nil =>
    obtain ⟨v, _, r⟩ := h 0 0 0 (by omega) (by omega) (by omega)
    have := r []
    cases this
  | cons x l => exact Nat.succ_pos _
theorem pE_lt {f tag a op : Nat} (ht : tag = 0 ∨ tag = 1 ∨ tag = 3) (ha : a ≤ T.length) : a < eN T (pE T f tag a op) := by
  cases h : pE T f tag a op with
  | inl e => show a < T.length + 1; omega
  | inr q =>
    have g1 := pE_len T f tag a op q.1 q.2 h
    have g2 := cVal_ne ((pE_run T f tag a op q.1 q.2 h).1 ht)
    show a < q.2; omega
/-- enough cells and slots -/
def XBu (t k : Nat) (w : xw) : Prop := 30 * k ≤ (xB w).1 + t ∧ 4500 * k ≤ (xB w).2 + 100 * t
/-- the Reader stands at a place, or behind the blanks there -/
def XZs (T : List Nat) (a : Nat) (w : xw) : Prop := ∃ b, a ≤ b ∧ sk T b = sk T a ∧ XZ T b w
theorem XZs_of (h : XZ T a w) : XZs T a w := ⟨a, Nat.le_refl _, rfl, h⟩
theorem XZs_le (h : XZs T a w) : a ≤ T.length := by
  obtain ⟨b, hb, _, z⟩ := h
  have := z.1.2.2; omega
theorem xk_q {w' : xw} (h : xq w w') : xk (fun i => i = 341 ∨ i = 342) w w' := ⟨h.1, fun i hi => (h.2.1 i hi).1, fun i hi hn => ⟨by funext j; exact h.2.2 i j hi (by omega) (by omega), (h.2.1 i hi).2.1, (h.2.1 i hi).2.2⟩⟩
theorem xq_ke {w1 w2 : xw} {E : Nat → Prop} (h : xq w w1) (k : xk E w1 w2) (hE : ∀ i, E i → xN w ≤ i) : xq w w2 := ⟨Nat.le_trans h.1 k.1, fun i hi => by
    have h1 := Nat.lt_of_lt_of_le hi h.1
    obtain ⟨a1, a2, a3⟩ := h.2.1 i hi
    obtain ⟨b1, b2, b3⟩ := k.2.2 i h1 (fun z => by have := hE i z; omega)
    exact ⟨(k.2.1 i h1).trans a1, b2.trans a2, b3.trans a3⟩, fun i j hi x y => by
    have h1 := Nat.lt_of_lt_of_le hi h.1
    obtain ⟨b1, b2, b3⟩ := k.2.2 i h1 (fun z => by have := hE i z; omega)
    rw [b1]; exact h.2.2 i j hi x y⟩
theorem XZ_q {w' : xw} (h : XZ T a w) (f : xq w w') (hp : xI w' 341 2 = xI w 341 2) : XZ T a w' := ⟨⟨XRt_q h.1.1 f, by rw [hp]; exact h.1.2.1, h.1.2.2⟩, XC_q h.2 f (XZ_n h)⟩
theorem XZ_k {w' : xw} {E : Nat → Prop} (h : XZ T a w) (k : xk E w w') (hE : ∀ i, E i → 794 ≤ i) : XZ T a w' := by
  have hN := XZ_n h
  have k8 : xk (fun i => 794 ≤ i) w w' := xk_wk k (fun i _ hi => hE i hi)
  have s := fun i (hi : i < 794) => k8.2.2 i (by omega) (by omega)
  have ss := fun i (hi : i < 794) => k8.2.1 i (by omega)
  obtain ⟨⟨⟨⟨a1, a2, a3, a4⟩, ⟨b1, b2, b3⟩, c1, c2, c3, c4⟩, d1, d2⟩, h0, h1, h2, h3, h4⟩ := h
  refine ⟨⟨⟨⟨?_, ?_, ?_, ?_⟩, ⟨?_, ?_, ?_⟩, ?_, fun q hq => ?_, c3, Nat.le_trans hN k.1⟩, ?_, d2⟩, fun q q1 q2 => ⟨?_, ?_⟩, ⟨?_, ?_⟩, ⟨?_, ?_⟩, ⟨?_, ?_⟩, ⟨?_, ?_⟩⟩
  · rw [ss 341 (by omega)]; exact a1
  · rw [ss 342 (by omega)]; exact a2
  · rw [ss 256 (by omega)]; exact a3
  · rw [ss 340 (by omega)]; exact a4
  · rw [(s 341 (by omega)).2.2]; exact b1
  · rw [(s 341 (by omega)).2.2]; exact b2
  · rw [(s 256 (by omega)).2.2]; exact b3
  · rw [(s 341 (by omega)).1]; exact c1
  · rw [(s 340 (by omega)).1]; exact c2 q hq
  · rw [(s 341 (by omega)).1]; exact d1
  · obtain ⟨⟨⟨x1, x2, x3⟩, y1, ⟨z1, z2⟩, u1, v1, g1, g2⟩, t⟩ := h0 q q1 q2
    have e := (s q (by omega)).2.2
    have e1 : xR w' q 0 = xR w q 0 := by rw [e]
    exact ⟨⟨by rw [ss q (by omega)]; exact x1, x2, by have := k.1; omega⟩, by rw [(s q (by omega)).1]; exact y1, ⟨by omega, by have := k.1; omega⟩, by rw [e1, ss _ (by omega)]; exact u1, fun j hj => by rw [e1, (s _ (by omega)).1]; exact v1 j hj, g1, g2⟩
  · rw [(s q (by omega)).2.2]; exact (h0 q q1 q2).2
  · rw [ss 1 (by omega)]; exact h1.1
  · rw [(s 1 (by omega)).2.2]; exact h1.2
  · rw [ss 2 (by omega)]; exact h2.1
  · rw [(s 2 (by omega)).2.2]; exact h2.2
  · rw [ss 3 (by omega)]; exact h3.1
  · rw [(s 3 (by omega)).2.2]; exact h3.2
  · rw [ss 4 (by omega)]; exact h4.1
  · rw [(s 4 (by omega)).2.2]; exact h4.2
theorem XZs_k {w' : xw} {E : Nat → Prop} (h : XZs T a w) (k : xk E w w') (hE : ∀ i, E i → 794 ≤ i) : XZs T a w' := by
  obtain ⟨b, h1, h2, h3⟩ := h
  exact ⟨b, h1, h2, XZ_k h3 k hE⟩
theorem XZs_n (h : XZs T a w) : 794 ≤ xN w := by
  obtain ⟨b, h1, h2, h3⟩ := h
  exact XZ_n h3
theorem XCh_k {L S : List Nat} {c A D : Nat} {E : Nat → Prop} {w' : xw} (h : XCh L S c A D w) (k : xk E w w') (hE : ∀ i, E i → i < 794) (hc : 794 ≤ c) : XCh L S c A D w' := by
  obtain ⟨⟨h1, h2, h3⟩, ⟨h4, h5⟩, hne, hl, ⟨cap, hA⟩, cp, hS, h16⟩ := h
  obtain ⟨z1, z2, z3⟩ := k.2.2 c h3 (fun z => by have := hE _ z; omega)
  have nn := k.1
  exact ⟨⟨by rw [k.2.1 c h3]; exact h1, h2, by omega⟩, ⟨by rw [z3]; exact h4, by rw [z3]; exact h5⟩, hne, hl, ⟨cap, XLa_k hA k (fun z => by have := hE _ z; omega) (fun z => by have := hE _ z; omega)⟩, cp, XSb_k hS k (fun z => by have := hE _ z; omega) (fun z => by have := hE _ z; omega), h16⟩
theorem xsm_k {P E : Nat → Prop} {w' : xw} (k : xk E w w') (hP : ∀ i, P i → i < xN w ∧ ¬ E i) : xsm P w w' := ⟨k.1, fun i hi => by
  obtain ⟨h1, h2⟩ := hP i hi
  obtain ⟨a1, a2, a3⟩ := k.2.2 i h1 h2
  exact ⟨k.2.1 i h1, a1, a2, a3⟩⟩
theorem hereB_s {b : Nat} {W : List Nat} (h : sk T b = sk T a) : hereB T b W = hereB T a W := by unfold hereB; rw [h]
theorem numP_s {b lo hi : Nat} (h : sk T b = sk T a) : numP T b lo hi = numP T a lo hi := by unfold numP; rw [h]
end
