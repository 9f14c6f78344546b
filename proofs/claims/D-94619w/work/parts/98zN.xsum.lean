/-! X: the Reader's product and sum (printed by gen/xsum.py) -/
section
variable {T : List Nat}
def xCv (w : xw) (o : Nat) : Prop := 8 ≤ (xS w o).1 ∧ (xS w o).1 ≤ 11
def EQx (r : PR) (w : xw) (Qx : Nat → xw → Prop) : Prop := ∀ kd pl, r = .inl (kd, pl) → ∀ w', xq w w' → XBad kd pl w' → (xS w' 342).1 = 4 → Qx 342 w'
def OQx (T : List Nat) (op e : Nat) (r : PR) (w : xw) (Q : Option Value → xw → Prop) : Prop := ∀ c p, r = .inr (c, p) → ∀ w' o, xq w w' → XZs T p w' → xI w' 341 4 = nI op → XVd e (fun i => xN w ≤ i ∧ i < xN w') c o w' → xCv w' o → Q (some (.ref o)) w'
/-- one of the Reader's methods reads what the plain reading of such a kind reads -/
def SE (T : List Nat) (f tag i t e dd : Nat) : Prop := ∀ (a op d : Nat) (w : xw) (Q : Option Value → xw → Prop) (Qx : Nat → xw → Prop), XZs T a w → xI w 341 4 = nI op → op ≤ 6 → 4 * (6 - op) + dd ≤ d → pE T f tag a op ≠ .inl (0, 0) → XBu t (eN T (pE T f tag a op) - a) w → EQx (pE T f tag a op) w Qx → OQx T op (3 * (6 - op) + e) (pE T f tag a op) w Q → G2_E d i [.ref 341] w Q Qx
def PK (c A D : Nat) (w : xw) (i : Nat) : Prop := c < i ∧ i ≠ c + 1 ∧ i ≠ c + 3 ∧ i < xN w ∧ i ≠ A ∧ i ≠ D
theorem gdA {α : Type} (E : List α) (x d : α) (k : Nat) (h : k < E.length) : (E ++ [x]).getD k d = E.getD k d := by rw [List.getD_eq_getElem?_getD, List.getD_eq_getElem?_getD, List.getElem?_append_left h]
theorem gdB {α : Type} (E : List α) (x d : α) : (E ++ [x]).getD E.length d = x := by rw [List.getD_eq_getElem?_getD, List.getElem?_append_right (Nat.le_refl _)]; simp

def SL_product (T : List Nat) (f : Nat) : Prop := ∀ (a op d : Nat) (w0 w : xw) (E : List (List Nat × Nat)) (L : List Nat) (A D : Nat) (Q : Option Value → xw → Prop) (Qx : Nat → xw → Prop), xq w0 w → 794 ≤ xN w0 → XZs T a w → xI w 341 4 = nI op → op ≤ 6 → 4 * (6 - op) + 2 ≤ d → XCh L (E.map (fun q => q.2)) (xN w0) A D w → 0 < E.length → (∀ q, q ∈ E → sgB q.2) → (∀ k, k < E.length → XVd (3 * (6 - op) + 0) (PK (xN w0) A D w) (E.getD k ([], 0)).1 (L.getD k 0) w) → 2 * E.length ≤ a + 1 → pE T f 2 a op ≠ .inl (0, 0) → XBu 0 (eN T (pE T f 2 a op) - a) w → EQx (pE T f 2 a op) w0 Qx → (∀ c2 p, pE T f 2 a op = .inr (c2, p) → ∀ w', xq w0 w' → XZs T p w' → xI w' 341 4 = nI op → XVd (3 * (6 - op) + 0 + 1) (fun i => xN w0 ≤ i ∧ i < xN w') (chC E ++ c2) (xN w0) w' → xCv w' (xN w0) → Q (some (.ref (xN w0))) w') → T_X2_product d Qx Q 20 [some (.ref 341), some (.ref (xN w0)), some (.int 1)] [] w
set_option maxHeartbeats 2000000 in
theorem lx_product (f : Nat) (hs : SE T f 0 2 20 0 2) (hl : SL_product T f) : SL_product T (f + 1) := by
  intro a op d w0 w E L A D Q Qx q0 hN0 hz ho hop hd hC hE hsg hv h2 hne hb qe qo
  obtain ⟨b, hab, hsb, z⟩ := hz
  have hT := z.1.1.2.2.2.2.1
  have l16 := hT.1
  have hbl := z.1.2.2
  have hal : a ≤ T.length := by omega
  have hsk := sk_is T hal
  have hN := XZ_n z
  have hLE : L.length = E.length := by have := hC.2.2.2.1; rw [List.length_map] at this; exact this
  obtain ⟨cap, hcA⟩ := hC.2.2.2.2.1
  obtain ⟨cp, hcD, _⟩ := hC.2.2.2.2.2
  have lA := hcA.2.2.1.2.2.1
  have lD := hcD.2.2.1.2.2.1
  have l3 := hcD.1.2.2
  have hne5 := hC.2.2.1
  have n0w := q0.1
  have ep : pE T (f + 1) 2 a op = (if chB T (sk T a) 42 = true then bnd (pE T f 0 (sk T a + 1) op) (fun c a1 => bnd (pE T f 2 a1 op) (fun c2 a2 => .inr (c ++ 3 :: c2, a2))) else if chB T (sk T a) 47 = true then bnd (pE T f 0 (sk T a + 1) op) (fun c a1 => bnd (pE T f 2 a1 op) (fun c2 a2 => .inr (c ++ 4 :: c2, a2))) else .inr ([], a)) := rfl
  refine r_X2_product_20 ⟨fun z => absurd z (by decide), fun _ => ⟨z.1.1.1.1, x_takes (c := 42) z.1 rfl (by omega) (fun hc w1 f1 b1 r1 j1 => r_X2_product_30 ⟨fun _ => ⟨r1.1.1.1, ?_⟩, fun y => absurd rfl y⟩) (fun hc w1 f1 b1 r1 j1 => r_X2_product_30 ⟨fun y => absurd y (by decide), fun _ => ?_⟩)⟩⟩
  · rw [hsb] at hc r1
    have hss : sk T (sk T a) = sk T a := sk_sk hal
    refine x_takes (c := 47) r1 rfl (by omega) (fun hc2 w2 f2 b2 r2 j2 => r_X2_product_52 ⟨fun _ => r_X2_product_20 ⟨fun _ => ⟨⟨_, rfl, rfl⟩, ?_⟩, fun y => absurd rfl y⟩, fun y => absurd rfl y⟩) (fun hc2 w2 f2 b2 r2 j2 => r_X2_product_52 ⟨fun y => absurd y (by decide), fun _ => ?_⟩)
    · rw [hss] at hc2 r2
      have f3 : fR w w2 := fR_trans f1 f2
      have kw := xk_q (xq_f f3)
      have n3 : xN w2 = xN w := f3.1.1
      have e9 : pE T (f + 1) 2 a op = .inr ([], a) := by rw [ep, if_neg (by rw [hc]; decide), if_neg (by rw [hc2]; decide)]
      have C2 := XCh_k hC kw (fun i hi => by omega) hN0
      refine qo [] a e9 w2 (xq_trans q0 (xq_f f3)) ⟨sk T a, hsk.1, hss, ⟨r2, XC_q z.2 (xq_f f3) hN⟩⟩ (by rw [f3.2.2 341 4 (by omega) (by omega)]; exact ho) ?_ ⟨by rw [C2.1.1]; omega, by rw [C2.1.1]; omega⟩
      rw [List.append_nil]
      exact v_chain (P := fun i => xN w0 ≤ i ∧ i < xN w2) C2 ⟨⟨by omega, by omega⟩, ⟨by omega, by omega⟩, ⟨by omega, by omega⟩, ⟨by omega, by omega⟩, ⟨by omega, by omega⟩⟩ hE hsg (fun k hk => XVd_m (hv k hk) (Nat.le_refl _) (xsm_k kw (fun i hi => by unfold PK at hi; omega)) (fun i hi => by unfold PK at hi; omega))
    · rw [hss] at hc2 r2
      have hc0 := hc
      have f9 : fR w w2 := fR_trans f1 f2
      have b9 : xB w2 = xB w := b2.trans b1
      clear hc f1 b1 r1 j1 f2 b2 j2
      clear w1
      have hc := hc2
      have f1 := f9
      have b1 := b9
      have r1 := r2
      clear hc2 f9 b9 r2
      revert f1 b1 r1
      generalize w2 = w1
      intro f1 b1 r1
      have hlt := chB_lt hc
      have e1 : pE T (f + 1) 2 a op = bnd (pE T f 0 (sk T a + 1) op) (fun c a1 => bnd (pE T f 2 a1 op) (fun c2 a2 => .inr (c ++ 4 :: c2, a2))) := by rw [ep, if_neg (by rw [hc0]; decide), if_pos hc]
      rw [e1] at hne hb qe qo
      have hne1 : pE T f 0 (sk T a + 1) op ≠ .inl (0, 0) := fun z => hne (bnd_l z)
      have en1 := pE_lt (T := T) (f := f) (tag := 0) (a := sk T a + 1) (op := op) (by omega) (by omega)
      have en2 := eN_bnd (T := T) (r := pE T f 0 (sk T a + 1) op) (k := fun c a1 => bnd (pE T f 2 a1 op) (fun c2 a2 => .inr (c ++ 4 :: c2, a2))) (fun c p hr => Nat.le_trans (eN_pE (f := f) (tag := 2) (op := op) (pE_le T f 0 _ op c p (by omega) hr)).1 (eN_bnd (fun c2 p2 h2 => Nat.le_refl _)))
      have q01 : xq w0 w1 := xq_trans q0 (xq_f f1)
      have c1 := XC_q z.2 (xq_f f1) hN
      have o1 : xI w1 341 4 = nI op := by rw [f1.2.2 341 4 (by omega) (by omega)]; exact ho
      have n1 : xN w1 = xN w := f1.1.1
      unfold XBu at hb
      rw [← b1] at hb
      obtain ⟨C, hC9⟩ : ∃ C, C = 30 * (eN T (pE T f 0 (sk T a + 1) op) - (sk T a + 1)) - 20 := ⟨_, rfl⟩
      obtain ⟨S, hS9⟩ : ∃ S, S = 4500 * (eN T (pE T f 0 (sk T a + 1) op) - (sk T a + 1)) - 100 * 20 := ⟨_, rfl⟩
      refine ⟨r1.1.1.1, C, S, ⟨by omega, by omega⟩, hs (sk T a + 1) op d (xSetB w1 (C, S)) _ _ (XZs_of ⟨r1, c1⟩) o1 hop hd hne1 ⟨by show 30 * _ ≤ C + 20; omega, by show 4500 * _ ≤ S + 100 * 20; omega⟩ (fun kd pl hr w2 f2 e2 s2 => qe kd pl (bnd_l hr) _ (xq_trans q01 f2) e2 s2) (fun c p hr w2 o f2 z2 o2 v2 k2 => ?_)⟩
      have f2 : xq w1 w2 := f2
      have nn2 := f2.1
      have kw2 : xk (fun i => i = 341 ∨ i = 342) w w2 := xk_trans (xk_q (xq_f f1)) (xk_q f2)
      have Cc2 := XCh_k hC kw2 (fun i hi => by omega) hN0
      have hpl := pE_le T f 0 _ op c p (by omega) hr
      have hpc := pE_len T f 0 _ op c p hr
      have hc0 := cVal_ne v2.1
      have en4 : eN T (pE T f 0 (sk T a + 1) op) = p := by rw [hr]; rfl
      rw [en4] at hC9 hS9 en1 en2
      refine r_X2_product_62 ⟨2, 3300, ⟨by show 2 ≤ (xB w1).1 - C; omega, by show 3300 ≤ (xB w1).2 - S; omega⟩, Cc2.1.1, x_chadd (w := xSetB (xSetB w2 ((xB w1).1 - C, (xB w1).2 - S)) (2, 3300)) Cc2 (s := 47) rfl (by omega) ⟨by have := k2.1; show 1 ≤ (xS w2 o).1; omega, by have := k2.2; show (xS w2 o).1 ≤ 19; omega⟩ v2.2.1.1.2 (by omega) (fun _ => ⟨Nat.le_refl 2, by show 4 * L.length + 4 ≤ 3300; omega⟩) (fun w3 A3 D3 C3 k3 hA3 hD3 => r_X2_product_65 ?_)⟩
      have k3 : xk (fun i => i = xN w0 + 1 ∨ i = A ∨ i = xN w0 + 3 ∨ i = D) w2 w3 := k3
      have nn3 := k3.1
      have hA3 : A3 = A ∨ xN w2 ≤ A3 := hA3
      have hD3 : D3 = D ∨ xN w2 ≤ D3 := hD3
      have hne2 : pE T f 2 p op ≠ .inl (0, 0) := fun z => hne (by rw [bnd_r hr]; exact bnd_l z)
      have en3 := eN_bnd (T := T) (r := pE T f 2 p op) (k := fun c2 a2 => .inr (c ++ 4 :: c2, a2)) (fun _ _ _ => Nat.le_refl _)
      have en5 := (eN_pE (T := T) (f := f) (tag := 2) (op := op) hpl).1
      rw [bnd_r hr] at hb
      have k13 : xk (fun i => i = 341 ∨ i = 342 ∨ i = xN w0 + 1 ∨ i = A ∨ i = xN w0 + 3 ∨ i = D) w w3 := xk_trans (xk_wk kw2 (fun i _ hi => by omega)) (xk_wk k3 (fun i _ hi => by omega))
      refine hl p op d w0 _ (E ++ [(c, 47)]) (L ++ [o]) A3 D3 _ _ ?_ hN0 ?_ ?_ hop hd (by rw [List.map_append]; exact C3) (by rw [List.length_append]; show 0 < E.length + 1; omega) ?_ ?_ ?_ hne2 ?_ (fun kd pl hr2 w' f' e' s' => qe kd pl (by rw [bnd_r hr]; exact bnd_l hr2) w' f' e' s') (fun c2 p2 hr2 w' f' z' o' v' k' => qo (c ++ 4 :: c2) p2 (by rw [bnd_r hr, bnd_r hr2]) w' f' z' o' ?_ k')
      · exact xq_ke (xq_trans q01 f2) k3 (fun i hi => by omega)
      · exact XZs_k (w := w2) (w' := w3) z2 k3 (fun i hi => by omega)
      · show xI w3 341 4 = nI op
        rw [(k3.2.2 341 (by omega) (by omega)).1]; exact o2
      · intro q hq
        rcases List.mem_append.mp hq with g | g
        · exact hsg q g
        · rw [List.mem_singleton.mp g]; unfold sgB; omega
      · intro k hk
        rw [List.length_append] at hk
        have hk : k < E.length + 1 := hk
        by_cases ck : k < E.length
        · rw [gdA _ _ _ _ ck, gdA _ _ _ _ (by omega)]
          exact XVd_m (hv k ck) (Nat.le_refl _) (w1 := w3) (xsm_k k13 (fun i hi => by unfold PK at hi; omega)) (fun i hi => by unfold PK at hi ⊢; show xN w0 < i ∧ _; exact ⟨hi.1, hi.2.1, hi.2.2.1, by show i < xN w3; omega, by omega, by omega⟩)
        · have ek : k = E.length := by omega
          subst ek
          rw [gdB, ← hLE, gdB]
          exact XVd_m (w := w2) v2 (Nat.le_refl _) (w1 := w3) (xsm_k k3 (fun i hi => by have h1 : xN w1 ≤ i := hi.1; have h2 : i < xN w2 := hi.2; omega)) (fun i hi => by have h1 : xN w1 ≤ i := hi.1; have h2 : i < xN w2 := hi.2; exact ⟨by omega, by omega, by omega, by show i < xN w3; omega, by omega, by omega⟩)
      · rw [List.length_append]; show 2 * (E.length + 1) ≤ p + 1; omega
      · unfold XBu
        show 30 * _ ≤ (xB w1).1 - C - 2 + 0 ∧ 4500 * _ ≤ (xB w1).2 - S - 3300 + 100 * 0
        omega
      · rw [chC_app _ _ (fun z => by rw [z] at hE; exact absurd hE (Nat.lt_irrefl 0)), List.append_assoc] at v'
        have ek : (c ++ [sgC 47]) ++ c2 = c ++ 4 :: c2 := by rw [List.append_assoc]; rfl
        rw [ek] at v'
        exact v'
  · rw [hsb] at hc r1
    have hlt := chB_lt hc
    have e1 : pE T (f + 1) 2 a op = bnd (pE T f 0 (sk T a + 1) op) (fun c a1 => bnd (pE T f 2 a1 op) (fun c2 a2 => .inr (c ++ 3 :: c2, a2))) := by rw [ep, if_pos hc]
    rw [e1] at hne hb qe qo
    have hne1 : pE T f 0 (sk T a + 1) op ≠ .inl (0, 0) := fun z => hne (bnd_l z)
    have en1 := pE_lt (T := T) (f := f) (tag := 0) (a := sk T a + 1) (op := op) (by omega) (by omega)
    have en2 := eN_bnd (T := T) (r := pE T f 0 (sk T a + 1) op) (k := fun c a1 => bnd (pE T f 2 a1 op) (fun c2 a2 => .inr (c ++ 3 :: c2, a2))) (fun c p hr => Nat.le_trans (eN_pE (f := f) (tag := 2) (op := op) (pE_le T f 0 _ op c p (by omega) hr)).1 (eN_bnd (fun c2 p2 h2 => Nat.le_refl _)))
    have q01 : xq w0 w1 := xq_trans q0 (xq_f f1)
    have c1 := XC_q z.2 (xq_f f1) hN
    have o1 : xI w1 341 4 = nI op := by rw [f1.2.2 341 4 (by omega) (by omega)]; exact ho
    have n1 : xN w1 = xN w := f1.1.1
    unfold XBu at hb
    rw [← b1] at hb
    obtain ⟨C, hC9⟩ : ∃ C, C = 30 * (eN T (pE T f 0 (sk T a + 1) op) - (sk T a + 1)) - 20 := ⟨_, rfl⟩
    obtain ⟨S, hS9⟩ : ∃ S, S = 4500 * (eN T (pE T f 0 (sk T a + 1) op) - (sk T a + 1)) - 100 * 20 := ⟨_, rfl⟩
    refine ⟨r1.1.1.1, C, S, ⟨by omega, by omega⟩, hs (sk T a + 1) op d (xSetB w1 (C, S)) _ _ (XZs_of ⟨r1, c1⟩) o1 hop hd hne1 ⟨by show 30 * _ ≤ C + 20; omega, by show 4500 * _ ≤ S + 100 * 20; omega⟩ (fun kd pl hr w2 f2 e2 s2 => qe kd pl (bnd_l hr) _ (xq_trans q01 f2) e2 s2) (fun c p hr w2 o f2 z2 o2 v2 k2 => ?_)⟩
    have f2 : xq w1 w2 := f2
    have nn2 := f2.1
    have kw2 : xk (fun i => i = 341 ∨ i = 342) w w2 := xk_trans (xk_q (xq_f f1)) (xk_q f2)
    have Cc2 := XCh_k hC kw2 (fun i hi => by omega) hN0
    have hpl := pE_le T f 0 _ op c p (by omega) hr
    have hpc := pE_len T f 0 _ op c p hr
    have hc0 := cVal_ne v2.1
    have en4 : eN T (pE T f 0 (sk T a + 1) op) = p := by rw [hr]; rfl
    rw [en4] at hC9 hS9 en1 en2
    refine r_X2_product_40 ⟨2, 3300, ⟨by show 2 ≤ (xB w1).1 - C; omega, by show 3300 ≤ (xB w1).2 - S; omega⟩, Cc2.1.1, x_chadd (w := xSetB (xSetB w2 ((xB w1).1 - C, (xB w1).2 - S)) (2, 3300)) Cc2 (s := 42) rfl (by omega) ⟨by have := k2.1; show 1 ≤ (xS w2 o).1; omega, by have := k2.2; show (xS w2 o).1 ≤ 19; omega⟩ v2.2.1.1.2 (by omega) (fun _ => ⟨Nat.le_refl 2, by show 4 * L.length + 4 ≤ 3300; omega⟩) (fun w3 A3 D3 C3 k3 hA3 hD3 => r_X2_product_43 ?_)⟩
    have k3 : xk (fun i => i = xN w0 + 1 ∨ i = A ∨ i = xN w0 + 3 ∨ i = D) w2 w3 := k3
    have nn3 := k3.1
    have hA3 : A3 = A ∨ xN w2 ≤ A3 := hA3
    have hD3 : D3 = D ∨ xN w2 ≤ D3 := hD3
    have hne2 : pE T f 2 p op ≠ .inl (0, 0) := fun z => hne (by rw [bnd_r hr]; exact bnd_l z)
    have en3 := eN_bnd (T := T) (r := pE T f 2 p op) (k := fun c2 a2 => .inr (c ++ 3 :: c2, a2)) (fun _ _ _ => Nat.le_refl _)
    have en5 := (eN_pE (T := T) (f := f) (tag := 2) (op := op) hpl).1
    rw [bnd_r hr] at hb
    have k13 : xk (fun i => i = 341 ∨ i = 342 ∨ i = xN w0 + 1 ∨ i = A ∨ i = xN w0 + 3 ∨ i = D) w w3 := xk_trans (xk_wk kw2 (fun i _ hi => by omega)) (xk_wk k3 (fun i _ hi => by omega))
    refine hl p op d w0 _ (E ++ [(c, 42)]) (L ++ [o]) A3 D3 _ _ ?_ hN0 ?_ ?_ hop hd (by rw [List.map_append]; exact C3) (by rw [List.length_append]; show 0 < E.length + 1; omega) ?_ ?_ ?_ hne2 ?_ (fun kd pl hr2 w' f' e' s' => qe kd pl (by rw [bnd_r hr]; exact bnd_l hr2) w' f' e' s') (fun c2 p2 hr2 w' f' z' o' v' k' => qo (c ++ 3 :: c2) p2 (by rw [bnd_r hr, bnd_r hr2]) w' f' z' o' ?_ k')
    · exact xq_ke (xq_trans q01 f2) k3 (fun i hi => by omega)
    · exact XZs_k (w := w2) (w' := w3) z2 k3 (fun i hi => by omega)
    · show xI w3 341 4 = nI op
      rw [(k3.2.2 341 (by omega) (by omega)).1]; exact o2
    · intro q hq
      rcases List.mem_append.mp hq with g | g
      · exact hsg q g
      · rw [List.mem_singleton.mp g]; unfold sgB; omega
    · intro k hk
      rw [List.length_append] at hk
      have hk : k < E.length + 1 := hk
      by_cases ck : k < E.length
      · rw [gdA _ _ _ _ ck, gdA _ _ _ _ (by omega)]
        exact XVd_m (hv k ck) (Nat.le_refl _) (w1 := w3) (xsm_k k13 (fun i hi => by unfold PK at hi; omega)) (fun i hi => by unfold PK at hi ⊢; show xN w0 < i ∧ _; exact ⟨hi.1, hi.2.1, hi.2.2.1, by show i < xN w3; omega, by omega, by omega⟩)
      · have ek : k = E.length := by omega
        subst ek
        rw [gdB, ← hLE, gdB]
        exact XVd_m (w := w2) v2 (Nat.le_refl _) (w1 := w3) (xsm_k k3 (fun i hi => by have h1 : xN w1 ≤ i := hi.1; have h2 : i < xN w2 := hi.2; omega)) (fun i hi => by have h1 : xN w1 ≤ i := hi.1; have h2 : i < xN w2 := hi.2; exact ⟨by omega, by omega, by omega, by show i < xN w3; omega, by omega, by omega⟩)
    · rw [List.length_append]; show 2 * (E.length + 1) ≤ p + 1; omega
    · unfold XBu
      show 30 * _ ≤ (xB w1).1 - C - 2 + 0 ∧ 4500 * _ ≤ (xB w1).2 - S - 3300 + 100 * 0
      omega
    · rw [chC_app _ _ (fun z => by rw [z] at hE; exact absurd hE (Nat.lt_irrefl 0)), List.append_assoc] at v'
      have ek : (c ++ [sgC 42]) ++ c2 = c ++ 3 :: c2 := by rw [List.append_assoc]; rfl
      rw [ek] at v'
      exact v'
set_option maxHeartbeats 2000000 in
theorem ix_product (f : Nat) (hs : SE T f 0 2 20 0 2) (hl : SL_product T f) : SE T (f + 1) 1 1 10 1 3 := by
  intro a op d w Q Qx hz ho hop hd hne hb qe qo
  obtain ⟨d, rfl⟩ : ∃ n, d = n + 1 := ⟨d - 1, by omega⟩
  have hal := XZs_le hz
  have hN := XZs_n hz
  have e1 : pE T (f + 1) 1 a op = bnd (pE T f 0 a op) (fun c a1 => bnd (pE T f 2 a1 op) (fun c2 a2 => .inr (c ++ c2, a2))) := rfl
  rw [e1] at hne hb qe qo
  have hne1 : pE T f 0 a op ≠ .inl (0, 0) := fun z => hne (bnd_l z)
  have en1 := pE_lt (T := T) (f := f) (tag := 0) (a := a) (op := op) (by omega) hal
  have en2 := eN_bnd (T := T) (r := pE T f 0 a op) (k := fun c a1 => bnd (pE T f 2 a1 op) (fun c2 a2 => .inr (c ++ c2, a2))) (fun c p hr => Nat.le_trans (eN_pE (f := f) (tag := 2) (op := op) (pE_le T f 0 _ op c p hal hr)).1 (eN_bnd (fun c2 p2 h2 => Nat.le_refl _)))
  unfold XBu at hb
  have n7 : xNf 7 ≤ 6 := by decide
  have s0 : xS (xNew1 w (8, 0) (xNf 7)) (xN w) = (8, 0) := n1_S0
  refine e_X2_product (r_X2_product_0 ⟨⟨by omega, by omega⟩, 4, 40, ⟨by show 4 ≤ (xB w).1 - 1; omega, by show 40 ≤ (xB w).2 - xNf 7; omega⟩, by show (xS (xNew1 w (8, 0) (xNf 7)) (xN w)).1 = 8; rw [s0], x_chinit (w := xSetB (xNew1 w (8, 0) (xNf 7)) (4, 40)) (c := xN w) rfl (by show (xS (xNew1 w (8, 0) (xNf 7)) (xN w)).1 = 8; rw [s0]) (by omega) ⟨Nat.le_refl _, Nat.le_refl _⟩ (fun w2 C2 k2 n2 => r_X2_product_7 ?_)⟩)
  have k2 : xk (fun i => i = xN w) (xNew1 w (8, 0) (xNf 7)) w2 := k2
  have f1 : xk (fun i => i = xN w) w (xNew1 w (8, 0) (xNf 7)) := xk_n1 (xk_refl _ w) _ _
  have k12 : xk (fun i => i = xN w) w w2 := xk_trans f1 k2
  have q12 : xq w w2 := xq_ke (xq_refl w) k12 (fun i hi => by omega)
  have z2 : XZs T a w2 := XZs_k hz k12 (fun i hi => by omega)
  have o2 : xI w2 341 4 = nI op := by rw [(k12.2.2 341 (by omega) (by omega)).1]; exact ho
  have s3 : (xS w2 341).1 = 3 := by obtain ⟨b, _, _, z⟩ := z2; exact z.1.1.1.1
  obtain ⟨C, hC9⟩ : ∃ C, C = 30 * (eN T (pE T f 0 a op) - a) - 20 := ⟨_, rfl⟩
  obtain ⟨S, hS9⟩ : ∃ S, S = 4500 * (eN T (pE T f 0 a op) - a) - 100 * 20 := ⟨_, rfl⟩
  refine ⟨s3, C, S, ⟨by show C ≤ (xB w).1 - 1 - 4; omega, by show S ≤ (xB w).2 - xNf 7 - 40; omega⟩, hs a op d (xSetB w2 (C, S)) _ _ z2 o2 hop (by omega) hne1 ⟨by show 30 * _ ≤ C + 20; omega, by show 4500 * _ ≤ S + 100 * 20; omega⟩ (fun kd pl hr w3 f3 e3 s3 => qe kd pl (bnd_l hr) _ (xq_trans q12 f3) e3 s3) (fun c p hr w3 o f3 z3 o3 v3 k3 => ?_)⟩
  have f3 : xq w2 w3 := f3
  have nn3 := f3.1
  have Cc3 := XCh_k (w := w2) (w' := w3) C2 (xk_q f3) (fun i hi => by omega) hN
  have hpl := pE_le T f 0 _ op c p hal hr
  have hpc := pE_len T f 0 _ op c p hr
  have hc0 := cVal_ne v3.1
  have en4 : eN T (pE T f 0 a op) = p := by rw [hr]; rfl
  rw [en4] at hC9 hS9 en1 en2
  refine r_X2_product_15 ⟨0, 0, ⟨Nat.zero_le _, Nat.zero_le _⟩, Cc3.1.1, x_chadd (w := xSetB (xSetB w3 ((xB w).1 - 1 - 4 - C, (xB w).2 - xNf 7 - 40 - S)) (0, 0)) Cc3 (s := 42) rfl (by omega) ⟨by have := k3.1; show 1 ≤ (xS w3 o).1; omega, by have := k3.2; show (xS w3 o).1 ≤ 19; omega⟩ v3.2.1.1.2 (Nat.zero_le _) (fun z => absurd z (by decide)) (fun w4 A4 D4 C4 k4 hA4 hD4 => r_X2_product_18 ?_)⟩
  have k4 : xk (fun i => i = xN w + 1 ∨ i = xN w + 2 ∨ i = xN w + 3 ∨ i = xN w + 4) w3 w4 := k4
  have nn4 := k4.1
  have n2 : xN w2 = xN w + 5 := n2
  have hA4 : A4 = xN w + 2 ∨ xN w3 ≤ A4 := hA4
  have hD4 : D4 = xN w + 4 ∨ xN w3 ≤ D4 := hD4
  have hne2 : pE T f 2 p op ≠ .inl (0, 0) := fun z => hne (by rw [bnd_r hr]; exact bnd_l z)
  have en3 := eN_bnd (T := T) (r := pE T f 2 p op) (k := fun c2 a2 => .inr (c ++ c2, a2)) (fun _ _ _ => Nat.le_refl _)
  have en5 := (eN_pE (T := T) (f := f) (tag := 2) (op := op) hpl).1
  rw [bnd_r hr] at hb
  refine hl p op d w _ [(c, 42)] [o] A4 D4 _ _ ?_ hN ?_ ?_ hop (by omega) C4 Nat.zero_lt_one ?_ ?_ ?_ hne2 ?_ (fun kd pl hr2 w' f' e' s' => qe kd pl (by rw [bnd_r hr]; exact bnd_l hr2) w' f' e' s') (fun c2 p2 hr2 w' f' z' o' v' k' => qo (c ++ c2) p2 (by rw [bnd_r hr, bnd_r hr2]) w' _ f' z' o' ?_ k')
  · exact xq_ke (xq_trans q12 f3) k4 (fun i hi => by omega)
  · exact XZs_k (w := w3) (w' := w4) z3 k4 (fun i hi => by omega)
  · show xI w4 341 4 = nI op
    rw [(k4.2.2 341 (by omega) (by omega)).1]; exact o3
  · intro q hq
    rw [List.mem_singleton.mp hq]; unfold sgB; omega
  · intro k hk
    have hk : k < 1 := hk
    obtain rfl : k = 0 := by omega
    exact XVd_m (w := w3) v3 (Nat.le_refl _) (w1 := w4) (xsm_k k4 (fun i hi => by have h1 : xN w2 ≤ i := hi.1; have h2 : i < xN w3 := hi.2; omega)) (fun i hi => by have h1 : xN w2 ≤ i := hi.1; have h2 : i < xN w3 := hi.2; exact ⟨by omega, by omega, by omega, by show i < xN w4; omega, by omega, by omega⟩)
  · show 2 * 1 ≤ p + 1; omega
  · unfold XBu
    show 30 * _ ≤ (xB w).1 - 1 - 4 - C - 0 + 0 ∧ 4500 * _ ≤ (xB w).2 - xNf 7 - 40 - S - 0 + 100 * 0
    omega
  · have ek : chC [(c, 42)] ++ c2 = c ++ c2 := by show (c ++ []) ++ c2 = _; rw [List.append_nil]
    rw [ek] at v'
    exact v'
def SL_sum (T : List Nat) (f : Nat) : Prop := ∀ (a op d : Nat) (w0 w : xw) (E : List (List Nat × Nat)) (L : List Nat) (A D : Nat) (Q : Option Value → xw → Prop) (Qx : Nat → xw → Prop), xq w0 w → 794 ≤ xN w0 → XZs T a w → xI w 341 4 = nI op → op ≤ 6 → 4 * (6 - op) + 3 ≤ d → XCh L (E.map (fun q => q.2)) (xN w0) A D w → 0 < E.length → (∀ q, q ∈ E → sgB q.2) → (∀ k, k < E.length → XVd (3 * (6 - op) + 1) (PK (xN w0) A D w) (E.getD k ([], 0)).1 (L.getD k 0) w) → 2 * E.length ≤ a + 1 → pE T f 4 a op ≠ .inl (0, 0) → XBu 0 (eN T (pE T f 4 a op) - a) w → EQx (pE T f 4 a op) w0 Qx → (∀ c2 p, pE T f 4 a op = .inr (c2, p) → ∀ w', xq w0 w' → XZs T p w' → xI w' 341 4 = nI op → XVd (3 * (6 - op) + 1 + 1) (fun i => xN w0 ≤ i ∧ i < xN w') (chC E ++ c2) (xN w0) w' → xCv w' (xN w0) → Q (some (.ref (xN w0))) w') → T_X2_sum d Qx Q 20 [some (.ref 341), some (.ref (xN w0)), some (.int 1)] [] w
set_option maxHeartbeats 2000000 in
theorem lx_sum (f : Nat) (hs : SE T f 1 1 10 1 3) (hl : SL_sum T f) : SL_sum T (f + 1) := by
  intro a op d w0 w E L A D Q Qx q0 hN0 hz ho hop hd hC hE hsg hv h2 hne hb qe qo
  obtain ⟨b, hab, hsb, z⟩ := hz
  have hT := z.1.1.2.2.2.2.1
  have l16 := hT.1
  have hbl := z.1.2.2
  have hal : a ≤ T.length := by omega
  have hsk := sk_is T hal
  have hN := XZ_n z
  have hLE : L.length = E.length := by have := hC.2.2.2.1; rw [List.length_map] at this; exact this
  obtain ⟨cap, hcA⟩ := hC.2.2.2.2.1
  obtain ⟨cp, hcD, _⟩ := hC.2.2.2.2.2
  have lA := hcA.2.2.1.2.2.1
  have lD := hcD.2.2.1.2.2.1
  have l3 := hcD.1.2.2
  have hne5 := hC.2.2.1
  have n0w := q0.1
  have ep : pE T (f + 1) 4 a op = (if chB T (sk T a) 43 = true then bnd (pE T f 1 (sk T a + 1) op) (fun c a1 => bnd (pE T f 4 a1 op) (fun c2 a2 => .inr (c ++ 1 :: c2, a2))) else if chB T (sk T a) 45 = true then bnd (pE T f 1 (sk T a + 1) op) (fun c a1 => bnd (pE T f 4 a1 op) (fun c2 a2 => .inr (c ++ 2 :: c2, a2))) else .inr ([], a)) := rfl
  refine r_X2_sum_20 ⟨fun z => absurd z (by decide), fun _ => ⟨z.1.1.1.1, x_takes (c := 43) z.1 rfl (by omega) (fun hc w1 f1 b1 r1 j1 => r_X2_sum_30 ⟨fun _ => ⟨r1.1.1.1, ?_⟩, fun y => absurd rfl y⟩) (fun hc w1 f1 b1 r1 j1 => r_X2_sum_30 ⟨fun y => absurd y (by decide), fun _ => ?_⟩)⟩⟩
  · rw [hsb] at hc r1
    have hss : sk T (sk T a) = sk T a := sk_sk hal
    refine x_takes (c := 45) r1 rfl (by omega) (fun hc2 w2 f2 b2 r2 j2 => r_X2_sum_52 ⟨fun _ => r_X2_sum_20 ⟨fun _ => ⟨⟨_, rfl, rfl⟩, ?_⟩, fun y => absurd rfl y⟩, fun y => absurd rfl y⟩) (fun hc2 w2 f2 b2 r2 j2 => r_X2_sum_52 ⟨fun y => absurd y (by decide), fun _ => ?_⟩)
    · rw [hss] at hc2 r2
      have f3 : fR w w2 := fR_trans f1 f2
      have kw := xk_q (xq_f f3)
      have n3 : xN w2 = xN w := f3.1.1
      have e9 : pE T (f + 1) 4 a op = .inr ([], a) := by rw [ep, if_neg (by rw [hc]; decide), if_neg (by rw [hc2]; decide)]
      have C2 := XCh_k hC kw (fun i hi => by omega) hN0
      refine qo [] a e9 w2 (xq_trans q0 (xq_f f3)) ⟨sk T a, hsk.1, hss, ⟨r2, XC_q z.2 (xq_f f3) hN⟩⟩ (by rw [f3.2.2 341 4 (by omega) (by omega)]; exact ho) ?_ ⟨by rw [C2.1.1]; omega, by rw [C2.1.1]; omega⟩
      rw [List.append_nil]
      exact v_chain (P := fun i => xN w0 ≤ i ∧ i < xN w2) C2 ⟨⟨by omega, by omega⟩, ⟨by omega, by omega⟩, ⟨by omega, by omega⟩, ⟨by omega, by omega⟩, ⟨by omega, by omega⟩⟩ hE hsg (fun k hk => XVd_m (hv k hk) (Nat.le_refl _) (xsm_k kw (fun i hi => by unfold PK at hi; omega)) (fun i hi => by unfold PK at hi; omega))
    · rw [hss] at hc2 r2
      have hc0 := hc
      have f9 : fR w w2 := fR_trans f1 f2
      have b9 : xB w2 = xB w := b2.trans b1
      clear hc f1 b1 r1 j1 f2 b2 j2
      clear w1
      have hc := hc2
      have f1 := f9
      have b1 := b9
      have r1 := r2
      clear hc2 f9 b9 r2
      revert f1 b1 r1
      generalize w2 = w1
      intro f1 b1 r1
      have hlt := chB_lt hc
      have e1 : pE T (f + 1) 4 a op = bnd (pE T f 1 (sk T a + 1) op) (fun c a1 => bnd (pE T f 4 a1 op) (fun c2 a2 => .inr (c ++ 2 :: c2, a2))) := by rw [ep, if_neg (by rw [hc0]; decide), if_pos hc]
      rw [e1] at hne hb qe qo
      have hne1 : pE T f 1 (sk T a + 1) op ≠ .inl (0, 0) := fun z => hne (bnd_l z)
      have en1 := pE_lt (T := T) (f := f) (tag := 1) (a := sk T a + 1) (op := op) (by omega) (by omega)
      have en2 := eN_bnd (T := T) (r := pE T f 1 (sk T a + 1) op) (k := fun c a1 => bnd (pE T f 4 a1 op) (fun c2 a2 => .inr (c ++ 2 :: c2, a2))) (fun c p hr => Nat.le_trans (eN_pE (f := f) (tag := 4) (op := op) (pE_le T f 1 _ op c p (by omega) hr)).1 (eN_bnd (fun c2 p2 h2 => Nat.le_refl _)))
      have q01 : xq w0 w1 := xq_trans q0 (xq_f f1)
      have c1 := XC_q z.2 (xq_f f1) hN
      have o1 : xI w1 341 4 = nI op := by rw [f1.2.2 341 4 (by omega) (by omega)]; exact ho
      have n1 : xN w1 = xN w := f1.1.1
      unfold XBu at hb
      rw [← b1] at hb
      obtain ⟨C, hC9⟩ : ∃ C, C = 30 * (eN T (pE T f 1 (sk T a + 1) op) - (sk T a + 1)) - 10 := ⟨_, rfl⟩
      obtain ⟨S, hS9⟩ : ∃ S, S = 4500 * (eN T (pE T f 1 (sk T a + 1) op) - (sk T a + 1)) - 100 * 10 := ⟨_, rfl⟩
      refine ⟨r1.1.1.1, C, S, ⟨by omega, by omega⟩, hs (sk T a + 1) op d (xSetB w1 (C, S)) _ _ (XZs_of ⟨r1, c1⟩) o1 hop hd hne1 ⟨by show 30 * _ ≤ C + 10; omega, by show 4500 * _ ≤ S + 100 * 10; omega⟩ (fun kd pl hr w2 f2 e2 s2 => qe kd pl (bnd_l hr) _ (xq_trans q01 f2) e2 s2) (fun c p hr w2 o f2 z2 o2 v2 k2 => ?_)⟩
      have f2 : xq w1 w2 := f2
      have nn2 := f2.1
      have kw2 : xk (fun i => i = 341 ∨ i = 342) w w2 := xk_trans (xk_q (xq_f f1)) (xk_q f2)
      have Cc2 := XCh_k hC kw2 (fun i hi => by omega) hN0
      have hpl := pE_le T f 1 _ op c p (by omega) hr
      have hpc := pE_len T f 1 _ op c p hr
      have hc0 := cVal_ne v2.1
      have en4 : eN T (pE T f 1 (sk T a + 1) op) = p := by rw [hr]; rfl
      rw [en4] at hC9 hS9 en1 en2
      refine r_X2_sum_62 ⟨2, 3300, ⟨by show 2 ≤ (xB w1).1 - C; omega, by show 3300 ≤ (xB w1).2 - S; omega⟩, Cc2.1.1, x_chadd (w := xSetB (xSetB w2 ((xB w1).1 - C, (xB w1).2 - S)) (2, 3300)) Cc2 (s := 45) rfl (by omega) ⟨by have := k2.1; show 1 ≤ (xS w2 o).1; omega, by have := k2.2; show (xS w2 o).1 ≤ 19; omega⟩ v2.2.1.1.2 (by omega) (fun _ => ⟨Nat.le_refl 2, by show 4 * L.length + 4 ≤ 3300; omega⟩) (fun w3 A3 D3 C3 k3 hA3 hD3 => r_X2_sum_65 ?_)⟩
      have k3 : xk (fun i => i = xN w0 + 1 ∨ i = A ∨ i = xN w0 + 3 ∨ i = D) w2 w3 := k3
      have nn3 := k3.1
      have hA3 : A3 = A ∨ xN w2 ≤ A3 := hA3
      have hD3 : D3 = D ∨ xN w2 ≤ D3 := hD3
      have hne2 : pE T f 4 p op ≠ .inl (0, 0) := fun z => hne (by rw [bnd_r hr]; exact bnd_l z)
      have en3 := eN_bnd (T := T) (r := pE T f 4 p op) (k := fun c2 a2 => .inr (c ++ 2 :: c2, a2)) (fun _ _ _ => Nat.le_refl _)
      have en5 := (eN_pE (T := T) (f := f) (tag := 4) (op := op) hpl).1
      rw [bnd_r hr] at hb
      have k13 : xk (fun i => i = 341 ∨ i = 342 ∨ i = xN w0 + 1 ∨ i = A ∨ i = xN w0 + 3 ∨ i = D) w w3 := xk_trans (xk_wk kw2 (fun i _ hi => by omega)) (xk_wk k3 (fun i _ hi => by omega))
      refine hl p op d w0 _ (E ++ [(c, 45)]) (L ++ [o]) A3 D3 _ _ ?_ hN0 ?_ ?_ hop hd (by rw [List.map_append]; exact C3) (by rw [List.length_append]; show 0 < E.length + 1; omega) ?_ ?_ ?_ hne2 ?_ (fun kd pl hr2 w' f' e' s' => qe kd pl (by rw [bnd_r hr]; exact bnd_l hr2) w' f' e' s') (fun c2 p2 hr2 w' f' z' o' v' k' => qo (c ++ 2 :: c2) p2 (by rw [bnd_r hr, bnd_r hr2]) w' f' z' o' ?_ k')
      · exact xq_ke (xq_trans q01 f2) k3 (fun i hi => by omega)
      · exact XZs_k (w := w2) (w' := w3) z2 k3 (fun i hi => by omega)
      · show xI w3 341 4 = nI op
        rw [(k3.2.2 341 (by omega) (by omega)).1]; exact o2
      · intro q hq
        rcases List.mem_append.mp hq with g | g
        · exact hsg q g
        · rw [List.mem_singleton.mp g]; unfold sgB; omega
      · intro k hk
        rw [List.length_append] at hk
        have hk : k < E.length + 1 := hk
        by_cases ck : k < E.length
        · rw [gdA _ _ _ _ ck, gdA _ _ _ _ (by omega)]
          exact XVd_m (hv k ck) (Nat.le_refl _) (w1 := w3) (xsm_k k13 (fun i hi => by unfold PK at hi; omega)) (fun i hi => by unfold PK at hi ⊢; show xN w0 < i ∧ _; exact ⟨hi.1, hi.2.1, hi.2.2.1, by show i < xN w3; omega, by omega, by omega⟩)
        · have ek : k = E.length := by omega
          subst ek
          rw [gdB, ← hLE, gdB]
          exact XVd_m (w := w2) v2 (Nat.le_refl _) (w1 := w3) (xsm_k k3 (fun i hi => by have h1 : xN w1 ≤ i := hi.1; have h2 : i < xN w2 := hi.2; omega)) (fun i hi => by have h1 : xN w1 ≤ i := hi.1; have h2 : i < xN w2 := hi.2; exact ⟨by omega, by omega, by omega, by show i < xN w3; omega, by omega, by omega⟩)
      · rw [List.length_append]; show 2 * (E.length + 1) ≤ p + 1; omega
      · unfold XBu
        show 30 * _ ≤ (xB w1).1 - C - 2 + 0 ∧ 4500 * _ ≤ (xB w1).2 - S - 3300 + 100 * 0
        omega
      · rw [chC_app _ _ (fun z => by rw [z] at hE; exact absurd hE (Nat.lt_irrefl 0)), List.append_assoc] at v'
        have ek : (c ++ [sgC 45]) ++ c2 = c ++ 2 :: c2 := by rw [List.append_assoc]; rfl
        rw [ek] at v'
        exact v'
  · rw [hsb] at hc r1
    have hlt := chB_lt hc
    have e1 : pE T (f + 1) 4 a op = bnd (pE T f 1 (sk T a + 1) op) (fun c a1 => bnd (pE T f 4 a1 op) (fun c2 a2 => .inr (c ++ 1 :: c2, a2))) := by rw [ep, if_pos hc]
    rw [e1] at hne hb qe qo
    have hne1 : pE T f 1 (sk T a + 1) op ≠ .inl (0, 0) := fun z => hne (bnd_l z)
    have en1 := pE_lt (T := T) (f := f) (tag := 1) (a := sk T a + 1) (op := op) (by omega) (by omega)
    have en2 := eN_bnd (T := T) (r := pE T f 1 (sk T a + 1) op) (k := fun c a1 => bnd (pE T f 4 a1 op) (fun c2 a2 => .inr (c ++ 1 :: c2, a2))) (fun c p hr => Nat.le_trans (eN_pE (f := f) (tag := 4) (op := op) (pE_le T f 1 _ op c p (by omega) hr)).1 (eN_bnd (fun c2 p2 h2 => Nat.le_refl _)))
    have q01 : xq w0 w1 := xq_trans q0 (xq_f f1)
    have c1 := XC_q z.2 (xq_f f1) hN
    have o1 : xI w1 341 4 = nI op := by rw [f1.2.2 341 4 (by omega) (by omega)]; exact ho
    have n1 : xN w1 = xN w := f1.1.1
    unfold XBu at hb
    rw [← b1] at hb
    obtain ⟨C, hC9⟩ : ∃ C, C = 30 * (eN T (pE T f 1 (sk T a + 1) op) - (sk T a + 1)) - 10 := ⟨_, rfl⟩
    obtain ⟨S, hS9⟩ : ∃ S, S = 4500 * (eN T (pE T f 1 (sk T a + 1) op) - (sk T a + 1)) - 100 * 10 := ⟨_, rfl⟩
    refine ⟨r1.1.1.1, C, S, ⟨by omega, by omega⟩, hs (sk T a + 1) op d (xSetB w1 (C, S)) _ _ (XZs_of ⟨r1, c1⟩) o1 hop hd hne1 ⟨by show 30 * _ ≤ C + 10; omega, by show 4500 * _ ≤ S + 100 * 10; omega⟩ (fun kd pl hr w2 f2 e2 s2 => qe kd pl (bnd_l hr) _ (xq_trans q01 f2) e2 s2) (fun c p hr w2 o f2 z2 o2 v2 k2 => ?_)⟩
    have f2 : xq w1 w2 := f2
    have nn2 := f2.1
    have kw2 : xk (fun i => i = 341 ∨ i = 342) w w2 := xk_trans (xk_q (xq_f f1)) (xk_q f2)
    have Cc2 := XCh_k hC kw2 (fun i hi => by omega) hN0
    have hpl := pE_le T f 1 _ op c p (by omega) hr
    have hpc := pE_len T f 1 _ op c p hr
    have hc0 := cVal_ne v2.1
    have en4 : eN T (pE T f 1 (sk T a + 1) op) = p := by rw [hr]; rfl
    rw [en4] at hC9 hS9 en1 en2
    refine r_X2_sum_40 ⟨2, 3300, ⟨by show 2 ≤ (xB w1).1 - C; omega, by show 3300 ≤ (xB w1).2 - S; omega⟩, Cc2.1.1, x_chadd (w := xSetB (xSetB w2 ((xB w1).1 - C, (xB w1).2 - S)) (2, 3300)) Cc2 (s := 43) rfl (by omega) ⟨by have := k2.1; show 1 ≤ (xS w2 o).1; omega, by have := k2.2; show (xS w2 o).1 ≤ 19; omega⟩ v2.2.1.1.2 (by omega) (fun _ => ⟨Nat.le_refl 2, by show 4 * L.length + 4 ≤ 3300; omega⟩) (fun w3 A3 D3 C3 k3 hA3 hD3 => r_X2_sum_43 ?_)⟩
    have k3 : xk (fun i => i = xN w0 + 1 ∨ i = A ∨ i = xN w0 + 3 ∨ i = D) w2 w3 := k3
    have nn3 := k3.1
    have hA3 : A3 = A ∨ xN w2 ≤ A3 := hA3
    have hD3 : D3 = D ∨ xN w2 ≤ D3 := hD3
    have hne2 : pE T f 4 p op ≠ .inl (0, 0) := fun z => hne (by rw [bnd_r hr]; exact bnd_l z)
    have en3 := eN_bnd (T := T) (r := pE T f 4 p op) (k := fun c2 a2 => .inr (c ++ 1 :: c2, a2)) (fun _ _ _ => Nat.le_refl _)
    have en5 := (eN_pE (T := T) (f := f) (tag := 4) (op := op) hpl).1
    rw [bnd_r hr] at hb
    have k13 : xk (fun i => i = 341 ∨ i = 342 ∨ i = xN w0 + 1 ∨ i = A ∨ i = xN w0 + 3 ∨ i = D) w w3 := xk_trans (xk_wk kw2 (fun i _ hi => by omega)) (xk_wk k3 (fun i _ hi => by omega))
    refine hl p op d w0 _ (E ++ [(c, 43)]) (L ++ [o]) A3 D3 _ _ ?_ hN0 ?_ ?_ hop hd (by rw [List.map_append]; exact C3) (by rw [List.length_append]; show 0 < E.length + 1; omega) ?_ ?_ ?_ hne2 ?_ (fun kd pl hr2 w' f' e' s' => qe kd pl (by rw [bnd_r hr]; exact bnd_l hr2) w' f' e' s') (fun c2 p2 hr2 w' f' z' o' v' k' => qo (c ++ 1 :: c2) p2 (by rw [bnd_r hr, bnd_r hr2]) w' f' z' o' ?_ k')
    · exact xq_ke (xq_trans q01 f2) k3 (fun i hi => by omega)
    · exact XZs_k (w := w2) (w' := w3) z2 k3 (fun i hi => by omega)
    · show xI w3 341 4 = nI op
      rw [(k3.2.2 341 (by omega) (by omega)).1]; exact o2
    · intro q hq
      rcases List.mem_append.mp hq with g | g
      · exact hsg q g
      · rw [List.mem_singleton.mp g]; unfold sgB; omega
    · intro k hk
      rw [List.length_append] at hk
      have hk : k < E.length + 1 := hk
      by_cases ck : k < E.length
      · rw [gdA _ _ _ _ ck, gdA _ _ _ _ (by omega)]
        exact XVd_m (hv k ck) (Nat.le_refl _) (w1 := w3) (xsm_k k13 (fun i hi => by unfold PK at hi; omega)) (fun i hi => by unfold PK at hi ⊢; show xN w0 < i ∧ _; exact ⟨hi.1, hi.2.1, hi.2.2.1, by show i < xN w3; omega, by omega, by omega⟩)
      · have ek : k = E.length := by omega
        subst ek
        rw [gdB, ← hLE, gdB]
        exact XVd_m (w := w2) v2 (Nat.le_refl _) (w1 := w3) (xsm_k k3 (fun i hi => by have h1 : xN w1 ≤ i := hi.1; have h2 : i < xN w2 := hi.2; omega)) (fun i hi => by have h1 : xN w1 ≤ i := hi.1; have h2 : i < xN w2 := hi.2; exact ⟨by omega, by omega, by omega, by show i < xN w3; omega, by omega, by omega⟩)
    · rw [List.length_append]; show 2 * (E.length + 1) ≤ p + 1; omega
    · unfold XBu
      show 30 * _ ≤ (xB w1).1 - C - 2 + 0 ∧ 4500 * _ ≤ (xB w1).2 - S - 3300 + 100 * 0
      omega
    · rw [chC_app _ _ (fun z => by rw [z] at hE; exact absurd hE (Nat.lt_irrefl 0)), List.append_assoc] at v'
      have ek : (c ++ [sgC 43]) ++ c2 = c ++ 1 :: c2 := by rw [List.append_assoc]; rfl
      rw [ek] at v'
      exact v'
set_option maxHeartbeats 2000000 in
theorem ix_sum (f : Nat) (hs : SE T f 1 1 10 1 3) (hl : SL_sum T f) : SE T (f + 1) 3 0 0 2 4 := by
  intro a op d w Q Qx hz ho hop hd hne hb qe qo
  obtain ⟨d, rfl⟩ : ∃ n, d = n + 1 := ⟨d - 1, by omega⟩
  have hal := XZs_le hz
  have hN := XZs_n hz
  have e1 : pE T (f + 1) 3 a op = bnd (pE T f 1 a op) (fun c a1 => bnd (pE T f 4 a1 op) (fun c2 a2 => .inr (c ++ c2, a2))) := rfl
  rw [e1] at hne hb qe qo
  have hne1 : pE T f 1 a op ≠ .inl (0, 0) := fun z => hne (bnd_l z)
  have en1 := pE_lt (T := T) (f := f) (tag := 1) (a := a) (op := op) (by omega) hal
  have en2 := eN_bnd (T := T) (r := pE T f 1 a op) (k := fun c a1 => bnd (pE T f 4 a1 op) (fun c2 a2 => .inr (c ++ c2, a2))) (fun c p hr => Nat.le_trans (eN_pE (f := f) (tag := 4) (op := op) (pE_le T f 1 _ op c p hal hr)).1 (eN_bnd (fun c2 p2 h2 => Nat.le_refl _)))
  unfold XBu at hb
  have n7 : xNf 7 ≤ 6 := by decide
  have s0 : xS (xNew1 w (8, 0) (xNf 7)) (xN w) = (8, 0) := n1_S0
  refine e_X2_sum (r_X2_sum_0 ⟨⟨by omega, by omega⟩, 4, 40, ⟨by show 4 ≤ (xB w).1 - 1; omega, by show 40 ≤ (xB w).2 - xNf 7; omega⟩, by show (xS (xNew1 w (8, 0) (xNf 7)) (xN w)).1 = 8; rw [s0], x_chinit (w := xSetB (xNew1 w (8, 0) (xNf 7)) (4, 40)) (c := xN w) rfl (by show (xS (xNew1 w (8, 0) (xNf 7)) (xN w)).1 = 8; rw [s0]) (by omega) ⟨Nat.le_refl _, Nat.le_refl _⟩ (fun w2 C2 k2 n2 => r_X2_sum_7 ?_)⟩)
  have k2 : xk (fun i => i = xN w) (xNew1 w (8, 0) (xNf 7)) w2 := k2
  have f1 : xk (fun i => i = xN w) w (xNew1 w (8, 0) (xNf 7)) := xk_n1 (xk_refl _ w) _ _
  have k12 : xk (fun i => i = xN w) w w2 := xk_trans f1 k2
  have q12 : xq w w2 := xq_ke (xq_refl w) k12 (fun i hi => by omega)
  have z2 : XZs T a w2 := XZs_k hz k12 (fun i hi => by omega)
  have o2 : xI w2 341 4 = nI op := by rw [(k12.2.2 341 (by omega) (by omega)).1]; exact ho
  have s3 : (xS w2 341).1 = 3 := by obtain ⟨b, _, _, z⟩ := z2; exact z.1.1.1.1
  obtain ⟨C, hC9⟩ : ∃ C, C = 30 * (eN T (pE T f 1 a op) - a) - 10 := ⟨_, rfl⟩
  obtain ⟨S, hS9⟩ : ∃ S, S = 4500 * (eN T (pE T f 1 a op) - a) - 100 * 10 := ⟨_, rfl⟩
  refine ⟨s3, C, S, ⟨by show C ≤ (xB w).1 - 1 - 4; omega, by show S ≤ (xB w).2 - xNf 7 - 40; omega⟩, hs a op d (xSetB w2 (C, S)) _ _ z2 o2 hop (by omega) hne1 ⟨by show 30 * _ ≤ C + 10; omega, by show 4500 * _ ≤ S + 100 * 10; omega⟩ (fun kd pl hr w3 f3 e3 s3 => qe kd pl (bnd_l hr) _ (xq_trans q12 f3) e3 s3) (fun c p hr w3 o f3 z3 o3 v3 k3 => ?_)⟩
  have f3 : xq w2 w3 := f3
  have nn3 := f3.1
  have Cc3 := XCh_k (w := w2) (w' := w3) C2 (xk_q f3) (fun i hi => by omega) hN
  have hpl := pE_le T f 1 _ op c p hal hr
  have hpc := pE_len T f 1 _ op c p hr
  have hc0 := cVal_ne v3.1
  have en4 : eN T (pE T f 1 a op) = p := by rw [hr]; rfl
  rw [en4] at hC9 hS9 en1 en2
  refine r_X2_sum_15 ⟨0, 0, ⟨Nat.zero_le _, Nat.zero_le _⟩, Cc3.1.1, x_chadd (w := xSetB (xSetB w3 ((xB w).1 - 1 - 4 - C, (xB w).2 - xNf 7 - 40 - S)) (0, 0)) Cc3 (s := 43) rfl (by omega) ⟨by have := k3.1; show 1 ≤ (xS w3 o).1; omega, by have := k3.2; show (xS w3 o).1 ≤ 19; omega⟩ v3.2.1.1.2 (Nat.zero_le _) (fun z => absurd z (by decide)) (fun w4 A4 D4 C4 k4 hA4 hD4 => r_X2_sum_18 ?_)⟩
  have k4 : xk (fun i => i = xN w + 1 ∨ i = xN w + 2 ∨ i = xN w + 3 ∨ i = xN w + 4) w3 w4 := k4
  have nn4 := k4.1
  have n2 : xN w2 = xN w + 5 := n2
  have hA4 : A4 = xN w + 2 ∨ xN w3 ≤ A4 := hA4
  have hD4 : D4 = xN w + 4 ∨ xN w3 ≤ D4 := hD4
  have hne2 : pE T f 4 p op ≠ .inl (0, 0) := fun z => hne (by rw [bnd_r hr]; exact bnd_l z)
  have en3 := eN_bnd (T := T) (r := pE T f 4 p op) (k := fun c2 a2 => .inr (c ++ c2, a2)) (fun _ _ _ => Nat.le_refl _)
  have en5 := (eN_pE (T := T) (f := f) (tag := 4) (op := op) hpl).1
  rw [bnd_r hr] at hb
  refine hl p op d w _ [(c, 43)] [o] A4 D4 _ _ ?_ hN ?_ ?_ hop (by omega) C4 Nat.zero_lt_one ?_ ?_ ?_ hne2 ?_ (fun kd pl hr2 w' f' e' s' => qe kd pl (by rw [bnd_r hr]; exact bnd_l hr2) w' f' e' s') (fun c2 p2 hr2 w' f' z' o' v' k' => qo (c ++ c2) p2 (by rw [bnd_r hr, bnd_r hr2]) w' _ f' z' o' ?_ k')
  · exact xq_ke (xq_trans q12 f3) k4 (fun i hi => by omega)
  · exact XZs_k (w := w3) (w' := w4) z3 k4 (fun i hi => by omega)
  · show xI w4 341 4 = nI op
    rw [(k4.2.2 341 (by omega) (by omega)).1]; exact o3
  · intro q hq
    rw [List.mem_singleton.mp hq]; unfold sgB; omega
  · intro k hk
    have hk : k < 1 := hk
    obtain rfl : k = 0 := by omega
    exact XVd_m (w := w3) v3 (Nat.le_refl _) (w1 := w4) (xsm_k k4 (fun i hi => by have h1 : xN w2 ≤ i := hi.1; have h2 : i < xN w3 := hi.2; omega)) (fun i hi => by have h1 : xN w2 ≤ i := hi.1; have h2 : i < xN w3 := hi.2; exact ⟨by omega, by omega, by omega, by show i < xN w4; omega, by omega, by omega⟩)
  · show 2 * 1 ≤ p + 1; omega
  · unfold XBu
    show 30 * _ ≤ (xB w).1 - 1 - 4 - C - 0 + 0 ∧ 4500 * _ ≤ (xB w).2 - xNf 7 - 40 - S - 0 + 100 * 0
    omega
  · have ek : chC [(c, 43)] ++ c2 = c ++ c2 := by show (c ++ []) ++ c2 = _; rw [List.append_nil]
    rw [ek] at v'
    exact v'
end
