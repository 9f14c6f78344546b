/-! parts that are shut in -/
def rimG (B : Bd) (s : Int64) : Bool := (List.range (bN B)).any fun p => mb s p && decide (edgG B p = 0)
theorem s_isAtSide {Q : Option Value → mw → Prop} {M : mw} {B : Bd} (hB : bOk B) (hM : MB B M) (s : Int64) (q : Q (some (.int (bI (rimG B s)))) M) : V_isAtSide [.ref 0, .long s] M Q := by
  have hN := hB.2.2.2.2.1
  have no : rimG B s = false → Q (some (.int 0)) M := fun e => by rw [e] at q; exact q
  have yes : rimG B s = true → Q (some (.int 1)) M := fun e => by rw [e] at q; exact q
  have main : ∀ (f p : Nat), p + f = bN B → (∀ u, u < p → (mb s u && decide (edgG B u = 0)) = false) → ∀ {o2 : Option Value}, T_isAtSide Q 2 [some (.ref 0), some (.long s), o2, some (.int (nI p))] [] M := by
    intro f
    induction f with
    | zero =>
      intro p hf h o2
      refine r_isAtSide_2 (s_places hM (r_isAtSide_7 ⟨fun c => ⟨nr_0, no ?_⟩, fun c => ?_⟩))
      · unfold rimG; rw [List.any_eq_false]
        intro u hu
        have := h u (by have := List.mem_range.mp hu; omega)
        simp [this]
      · rw [n_le (by omega) (by omega)] at c; omega
    | succ f ih =>
      intro p hf h o2
      have e : nI p + 1 = nI (p + 1) := n_add p 1
      have next : (mb s p && decide (edgG B p = 0)) = false → ∀ {o2 : Option Value}, T_isAtSide Q 2 [some (.ref 0), some (.long s), o2, some (.int (nI p + 1))] [] M := by
        intro hn o2
        rw [e]
        refine ih (p + 1) (by omega) (fun u hu => ?_)
        by_cases z : u = p
        · subst z; exact hn
        · exact h u (by omega)
      refine r_isAtSide_2 (s_places hM (r_isAtSide_7 ⟨fun c => ?_, fun c => ⟨fun c1 => next ?_, fun c1 => ?_⟩⟩))
      · rw [n_le (by omega) (by omega)] at c; omega
      · rw [lg_cmp_eq, mb_t1 s (by omega)] at c1
        cases z : mb s p <;> simp_all
      · rw [lg_cmp_eq, mb_t1 s (by omega), Decidable.not_not] at c1
        have ew : edgG B p < 1000 := by
          have := (bOk_xy (B := B) (p := p) (by omega)).1
          have := hB.2.1
          unfold edgG; omega
        have z0 : (0 : Int32) = nI 0 := rfl
        refine s_toEdge hB hM (by omega) (r_isAtSide_25 ⟨fun c2 => next ?_, fun c2 => ⟨nr_1, yes ?_⟩⟩)
        · rw [z0, n_eq (by omega) (by omega)] at c2
          simp [c2]
        · rw [z0, n_eq (by omega) (by omega), Decidable.not_not] at c2
          unfold rimG; rw [List.any_eq_true]
          exact ⟨p, List.mem_range.mpr (by omega), by simp [c1, c2]⟩
  exact e_isAtSide (r_isAtSide_0 (main (bN B) 0 (by omega) (fun u hu => by omega)))
noncomputable def seenL (B : Bd) (e : Int64) : Nat → Int64
  | 0 => e
  | p + 1 => if mb (seenL B e p) p = true then seenL B e p else seenL B e p ||| cpL B e p
noncomputable def ptsL (B : Bd) (e : Int64) : Nat → List Int64
  | 0 => []
  | p + 1 => if mb (seenL B e p) p = true then ptsL B e p else if rimG B (cpL B e p) = true then ptsL B e p else ptsL B e p ++ [cpL B e p]
noncomputable def partsG (B : Bd) (st : Nat → Nat) (side : Nat) : List Int64 := ptsL B (edgeL B st side) (bN B)
def inn (w h : Nat) : Nat → Nat
  | 0 => 0
  | p + 1 => inn w h p + (if min (min (p % w) (w - 1 - p % w)) (min (p / w) (h - 1 - p / w)) = 0 then 0 else 1)
theorem inn_le {w h : Nat} (h1 : 3 ≤ w) (h2 : w ≤ 7) (h3 : 3 ≤ h) (h4 : h ≤ 7) (h5 : w * h ≤ 36) : inn w h (w * h) ≤ 16 := by
  have key : ∀ w h : Fin 8, (decide (3 ≤ w.val) && decide (3 ≤ h.val) && decide (w.val * h.val ≤ 36)) = true → inn w.val h.val (w.val * h.val) ≤ 16 := by decide +kernel
  exact key ⟨w, by omega⟩ ⟨h, by omega⟩ (by simp [h1, h3, h5])
theorem inn_mono (w h : Nat) {p n : Nat} (hp : p ≤ n) : inn w h p ≤ inn w h n := by
  induction n with
  | zero => rw [show p = 0 from by omega]; exact Nat.le_refl _
  | succ n ih =>
    by_cases e : p = n + 1
    · rw [e]; exact Nat.le_refl _
    · have := ih (by omega)
      have q : inn w h (n + 1) = inn w h n + (if min (min (n % w) (w - 1 - n % w)) (min (n / w) (h - 1 - n / w)) = 0 then 0 else 1) := rfl
      omega
theorem ptsL_len (B : Bd) (hB : bOk B) (e : Int64) {p : Nat} (hp : p ≤ bN B) : (ptsL B e p).length ≤ inn (bW B) (bH B) p := by
  have hN := hB.2.2.2.2.1
  induction p with
  | zero => exact Nat.le_refl _
  | succ p ih =>
    have := ih (by omega)
    unfold ptsL inn
    split
    · omega
    · split
      · omega
      · rename_i c1 c2
        have : ¬ (min (min (p % bW B) (bW B - 1 - p % bW B)) (min (p / bW B) (bH B - 1 - p / bW B)) = 0) := by
          intro z
          apply c2
          unfold rimG; rw [List.any_eq_true]
          refine ⟨p, List.mem_range.mpr (by omega), ?_⟩
          rw [(mb_cpL B e p (by omega)).mpr (Rc_refl B e p), decide_eq_true (show edgG B p = 0 from z)]; rfl
        rw [if_neg this]
        simp; omega
theorem partsG_len (B : Bd) (hB : bOk B) (st : Nat → Nat) (side : Nat) : (partsG B st side).length ≤ 16 :=
  Nat.le_trans (ptsL_len B hB _ (Nat.le_refl _)) (inn_le hB.1 hB.2.1 hB.2.2.1 hB.2.2.2.1 hB.2.2.2.2.1)
def lsL (L : List Int64) (f : Nat → Int64) : Prop := ∀ k v, L[k]? = some v → f k = v
theorem lsL_app {L : List Int64} {f : Nat → Int64} (h : lsL L f) (v : Int64) (g : Nat → Int64) (h1 : ∀ k, k < L.length → g k = f k) (h2 : g L.length = v) : lsL (L ++ [v]) g := by
  intro k x hx
  by_cases c : k < L.length
  · rw [List.getElem?_append_left c] at hx
    rw [h1 k c]; exact h k x hx
  · have c2 : k = L.length := by
      by_cases z : k = L.length
      · exact z
      · rw [List.getElem?_eq_none (by simp; omega)] at hx; cases hx
    subst c2
    rw [List.getElem?_append_right (by omega)] at hx
    simp at hx
    rw [h2, hx]
theorem s_shuts {Q : Option Value → mw → Prop} {M : mw} {B : Bd} {st : Nat → Nat} (hB : bOk B) (hM : MB B M) (hS : MS st M) (hs : sOk B st) {side : Nat} (h2 : side < 2)
    (q : ∀ M', fr 58 62 M M' → M'.2 58 0 = edgeL B st side → M'.1 59 0 = nI (linesG B st side) → M'.1 61 0 = nI (partsG B st side).length → lsL (partsG B st side) (M'.2 60) → Q none M') : V_shuts [.ref 0, .int (nI side)] M Q := by
  have hN := hB.2.2.2.2.1
  have hl := partsG_len B hB st side
  refine e_shuts (r_shuts_0 (s_edges hB hM hS hs h2 (fun M0 f0 e0 l0 => r_shuts_5 ?_)))
  generalize he : edgeL B st side = e at *
  have pe : partsG B st side = ptsL B e (bN B) := by unfold partsG; rw [he]
  have main : ∀ (f p : Nat) (M1 : mw), p + f = bN B → fr 58 62 M M1 → M1.2 58 0 = e → M1.1 59 0 = nI (linesG B st side) → M1.1 61 0 = nI (ptsL B e p).length → lsL (ptsL B e p) (M1.2 60) →
      ∀ {o1 o3 o5 o6 : Option Value}, T_shuts Q 18 [some (.ref 0), o1, some (.long (seenL B e p)), o3, some (.int (nI p)), o5, o6] [] M1 := by
    intro f
    induction f with
    | zero =>
      intro p M1 hf g1 g2 g3 g4 g5 o1 o3 o5 o6
      have ep : p = bN B := by omega
      subst ep
      refine r_shuts_18 (s_places (MB_fr g1 (by omega) hM) (r_shuts_24 ⟨fun c => ⟨rfl, q M1 g1 g2 g3 (by rw [g4, pe]) (by rw [pe]; exact g5)⟩, fun c => ?_⟩))
      rw [n_le (by omega) (by omega)] at c; omega
    | succ f ih =>
      intro p M1 hf g1 g2 g3 g4 g5 o1 o3 o5 o6
      have hM1 := MB_fr g1 (by omega) hM
      have ep : nI p + 1 = nI (p + 1) := n_add p 1
      have ht := mb_t1 (seenL B e p) (k := p) (by omega)
      refine r_shuts_18 (s_places hM1 (r_shuts_24 ⟨fun c => ?_, fun c => ⟨fun c1 => ?_, fun c1 => ?_⟩⟩))
      · rw [n_le (by omega) (by omega)] at c; omega
      · rw [lg_cmp_eq, ht] at c1
        have sE : seenL B e (p + 1) = seenL B e p ||| cpL B e p := by conv => lhs; unfold seenL; rw [if_neg c1]
        refine s_hangs hB hM1 (by omega) (fun M2 f2 => r_shuts_47 ?_)
        rw [g2]
        have g1' : fr 58 62 M M2 := fr_trans g1 f2 (by omega) (by omega)
        refine s_isAtSide hB (MB_fr g1' (by omega) hM) _ (r_shuts_60 ⟨fun c2 => ?_, fun c2 => ?_⟩)
        · have c3 := bI_e0 c2
          have pE : ptsL B e (p + 1) = ptsL B e p ++ [cpL B e p] := by conv => lhs; unfold ptsL; rw [if_neg c1, if_neg (by rw [c3]; simp)]
          have hlen : (ptsL B e (p + 1)).length ≤ 16 := Nat.le_trans (ptsL_len B hB e (p := p + 1) (by omega)) (Nat.le_trans (inn_mono (bW B) (bH B) (show p + 1 ≤ bN B by omega)) (inn_le hB.1 hB.2.1 hB.2.2.1 hB.2.2.2.1 hB.2.2.2.2.1))
          rw [pE, List.length_append, List.length_singleton] at hlen
          have g4' : M2.1 61 0 = nI (ptsL B e p).length := by rw [(f2 61 (by omega)).1]; exact g4
          rw [upl_I, g4', n_tn (by omega)]
          refine ⟨(n_in (by omega)).mpr (by omega), ?_⟩
          rw [ep, ← sE]
          refine ih (p + 1) _ (by omega) (fr_trans (fr_trans g1' (fr_upl (lo := 58) (hi := 62) M2 _ _ (by omega)) (lo := 58) (hi := 62) (by omega) (by omega)) (fr_up (lo := 58) (hi := 62) _ _ _ (by omega)) (by omega) (by omega)) ?_ ?_ ?_ ?_
          · simp [mM_up, mM_upl]; rw [(f2 58 (by omega)).2]; exact g2
          · simp [mM_up, mM_upl]; rw [(f2 59 (by omega)).1]; exact g3
          · rw [pE, List.length_append, List.length_singleton]; simp [mM_up]; exact n_add _ 1
          · rw [pE]
            have g5' : lsL (ptsL B e p) (M2.2 60) := by rw [(f2 60 (by omega)).2]; exact g5
            refine lsL_app g5' _ _ (fun k hk => ?_) ?_
            · have : k ≠ (ptsL B e p).length := by omega
              simp [mM_up, mM_upl, this]
            · simp [mM_up, mM_upl]
        · have c3 := bI_n0 c2
          have pE : ptsL B e (p + 1) = ptsL B e p := by conv => lhs; unfold ptsL; rw [if_neg c1, if_pos c3]
          rw [ep, ← sE]
          refine ih (p + 1) M2 (by omega) g1' ?_ ?_ ?_ ?_
          · rw [(f2 58 (by omega)).2]; exact g2
          · rw [(f2 59 (by omega)).1]; exact g3
          · rw [pE, (f2 61 (by omega)).1]; exact g4
          · rw [pE, (f2 60 (by omega)).2]; exact g5
      · rw [lg_cmp_eq, ht, Decidable.not_not] at c1
        have sE : seenL B e (p + 1) = seenL B e p := by conv => lhs; unfold seenL; rw [if_pos c1]
        have pE : ptsL B e (p + 1) = ptsL B e p := by conv => lhs; unfold ptsL; rw [if_pos c1]
        rw [ep, ← sE]
        exact ih (p + 1) M1 (by omega) g1 g2 g3 (by rw [pE]; exact g4) (by rw [pE]; exact g5)
  have g0 : fr 58 62 M (mM_up M0 61 0 0) := fr_trans f0 (fr_up (lo := 58) (hi := 62) M0 _ _ (by omega)) (by omega) (by omega)
  have e1 : (mM_up M0 61 0 0).2 58 0 = e := e0
  rw [e1]
  exact main (bN B) 0 _ (by omega) g0 e0 (by simp [mM_up]; exact l0) (by simp [mM_up]; rfl) (fun k v h => by simp [ptsL] at h)
