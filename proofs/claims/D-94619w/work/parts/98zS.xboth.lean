/-! X: the Reader's both and test (printed by gen/xtest.py) -/
section
variable {T : List Nat}
theorem x_fainit {Q : Option Value → xw → Prop} {w : xw} {f u : Nat} {y : Int32} (hn : xN w = f + 1) (hs : (xS w f).1 = 13) (hf : 256 ≤ f) (hy : y = nI u) (hu : u ≤ 1) (hb : 2 ≤ (xB w).1 ∧ 20 ≤ (xB w).2) (q : ∀ w', XFa [] u f (f + 2) w' → xk (fun i => i = f) w w' → xN w' = f + 3 → Q none w') : V_X15_init [.ref f, .int y] w Q := by
  subst hy
  have n16 : xNf 16 ≤ 6 := by decide
  refine e_X15_init (r_X15_init_0 ⟨0, 0, ⟨Nat.zero_le _, Nat.zero_le _⟩, hs, e_X14_init (r_X14_init_0 ⟨Nat.le_of_ble_eq_true rfl, r_X14_init_4 ⟨rfl, r_X15_init_4 ⟨⟨by show 1 ≤ (xB w).1 - 0; omega, by show xNf 16 ≤ (xB w).2 - 0; omega⟩, 1, 2, ⟨by show 1 ≤ (xB w).1 - 0 - 1; omega, by show 2 ≤ (xB w).2 - 0 - xNf 16; omega⟩, ?_⟩⟩⟩)⟩)
  have f1 : xk (fun i => i = f) w (xNew1 w (17, 0) (xNf 16)) := xk_n1 (xk_refl _ w) _ _
  have s1 : xS (xNew1 w (17, 0) (xNf 16)) (xN w) = (17, 0) := n1_S0
  refine ⟨by show (xS (xNew1 w (17, 0) (xNf 16)) (xN w)).1 = 17; rw [s1], x_alist (w := xSetB (xNew1 (xSetB (xSetB w _) _) (17, 0) (xNf 16)) (1, 2)) (l := xN w) (by show (xS (xNew1 w (17, 0) (xNf 16)) (xN w)).1 = 17; rw [s1]) ⟨by omega, by show xN w < xN w + 1; omega⟩ ⟨Nat.le_refl _, Nat.le_refl _⟩ (n1_I0 (w := w) (sh := (17, 0)) (c := xNf 16)) (fun w2 L2 k2 n2 => r_X15_init_13 ?_)⟩
  have k2 : xk (fun i => i = xN w) (xNew1 w (17, 0) (xNf 16)) w2 := k2
  have L2 : XLa [] (xN w) (xN w + 1) 2 w2 := L2
  have n2 : xN w2 = xN w + 2 := n2
  have k12 : xk (fun i => i = f) w w2 := ⟨by omega, fun i hi => (k2.2.1 i (by show i < xN w + 1; omega)).trans (f1.2.1 i hi), fun i hi hne => by
    obtain ⟨a1, a2, a3⟩ := f1.2.2 i hi hne
    obtain ⟨b1, b2, b3⟩ := k2.2.2 i (by show i < xN w + 1; omega) (by omega)
    exact ⟨b1.trans a1, b2.trans a2, b3.trans a3⟩⟩
  have sc : (xS w2 f).1 = 13 := by rw [k12.2.1 f (by omega)]; exact hs
  have hu01 : u = 0 ∨ u = 1 := by omega
  refine ⟨sc, hf, by show ¬ xN w = 0; omega, sc, hf, ?_, rfl, q _ ?_ (xk_uI (w1 := xUpR w2 f 0 (xN w)) (xk_uR (w1 := w2) k12 (Or.inl rfl)) (Or.inl rfl)) (by show xN w2 = _; omega)⟩
  · rcases hu01 with g | g <;> subst g <;> exact ⟨rfl, rfl⟩
  · rw [hn] at L2
    have kf : xk (fun i => i = f) w2 (xUpI (xUpR w2 f 0 (xN w)) f 1 (nI u)) := xk_uI (E := fun i => i = f) (w1 := xUpR w2 f 0 (xN w)) (xk_uR (E := fun i => i = f) (w1 := w2) (xk_refl _ w2) (Or.inl rfl)) (Or.inl rfl)
    refine ⟨⟨sc, hf, by show f < xN w2; omega⟩, ⟨?_, ?_⟩, by omega, hu, 2, XLa_k (w := w2) (w' := xUpI (xUpR w2 f 0 (xN w)) f 1 (nI u)) L2 kf (by omega) (by omega)⟩
    · show (if f = f ∧ 0 = 0 then xN w else xR w2 f 0) = _
      rw [if_pos ⟨rfl, rfl⟩]; exact hn
    · exact if_pos ⟨rfl, rfl⟩
theorem x_faadd {Q : Option Value → xw → Prop} {w : xw} {L : List Nat} {u f A v : Nat} (h : XFa L u f A w) (hv : xIsO w v) (hvn : v < xN w) (hL : L.length ≤ 800) (hb : 2 ≤ L.length → 1 ≤ (xB w).1 ∧ 1300 ≤ (xB w).2)
    (q : ∀ w' A', XFa (L ++ [v]) u f A' w' → xk (fun i => i = f + 1 ∨ i = A) w w' → (A' = A ∨ xN w ≤ A') → Q (some (.int (nI 1))) w') : V_J2_add [.ref (f + 1), .ref v] w Q := by
  obtain ⟨⟨h1, h2, h3⟩, ⟨h4, h5⟩, g1, hu, cap, hA⟩ := h
  refine x_add hA hv hvn (by omega) (fun e => ?_) (fun w3 r3 => ?_)
  · have c2 := hA.2.2.2.2.1
    have := hb (by omega)
    omega
  obtain ⟨A', cap', A3, k3, n3, a3, _, _, _, _⟩ := r3
  obtain ⟨z1, z2, z3⟩ := k3.2.2 f h3 (by omega)
  have nn := k3.1
  have l1 := hA.1.2.2
  exact q w3 A' ⟨⟨by rw [k3.2.1 f h3]; exact h1, h2, by omega⟩, ⟨by rw [z3]; exact h4, by rw [z1]; exact h5⟩, by omega, hu, cap', A3⟩ k3 (by omega)
theorem XFa_k {L : List Nat} {u f A : Nat} {E : Nat → Prop} {w w' : xw} (h : XFa L u f A w) (k : xk E w w') (hE : ∀ i, E i → i < 794) (hc : 794 ≤ f) : XFa L u f A w' := by
  obtain ⟨⟨h1, h2, h3⟩, ⟨h4, h5⟩, g1, hu, cap, hA⟩ := h
  obtain ⟨z1, z2, z3⟩ := k.2.2 f h3 (fun z => by have := hE _ z; omega)
  have nn := k.1
  exact ⟨⟨by rw [k.2.1 f h3]; exact h1, h2, by omega⟩, ⟨by rw [z3]; exact h4, by rw [z1]; exact h5⟩, g1, hu, cap, XLa_k hA k (fun z => by have := hE _ z; omega) (fun z => by have := hE _ z; omega)⟩
def xTt (w : xw) (o : Nat) : Prop := 13 ≤ (xS w o).1 ∧ (xS w o).1 ≤ 16
def EQt (T : List Nat) (r : PR) (w : xw) (Qx : Nat → xw → Prop) : Prop := (∀ kd pl, r = .inl (kd, pl) → ∀ w', xq w w' → XBad kd pl w' → (xS w' 342).1 = 4 → Qx 342 w') ∧ ∀ c p, r = .inr (c, p) → stk T p → ∀ w', xq w w' → XBad 1 (sk T p) w' → (xS w' 342).1 = 4 → Qx 342 w'
def OQt (T : List Nat) (op e : Nat) (r : PR) (w : xw) (Q : Option Value → xw → Prop) : Prop := ∀ c p, r = .inr (c, p) → ∀ w' o, xq w w' → XZw T p w' → xI w' 341 4 = nI op → XTd e (fun i => xN w ≤ i ∧ i < xN w') c o w' → xTt w' o → Q (some (.ref o)) w'
/-- enough cells and slots for a test -/
def XBw (t k : Nat) (w : xw) : Prop := 60 * k ≤ (xB w).1 + t ∧ 5500 * k ≤ (xB w).2 + 330 * t
/-- one of the Reader's methods reads the test that the plain reading of such a kind reads -/
def SX (T : List Nat) (F f tag i t e dd : Nat) : Prop := ∀ (a op d : Nat) (w : xw) (Q : Option Value → xw → Prop) (Qx : Nat → xw → Prop), XZs T a w → xI w 341 4 = nI op → op ≤ 6 → 3 * (6 - op) + dd ≤ d → pT T F f tag a op ≠ .inl (0, 0) → XBw t (eF T op (pT T F f tag a op) - a) w → EQt T (pT T F f tag a op) w Qx → OQt T op (2 * (6 - op) + e) (pT T F f tag a op) w Q → G2_T d i [.ref 341] w Q Qx
def PF (f A : Nat) (w : xw) (i : Nat) : Prop := f < i ∧ i ≠ f + 1 ∧ i < xN w ∧ i ≠ A

def SX_both (T : List Nat) (F f : Nat) : Prop := ∀ (a op d : Nat) (w0 w : xw) (E : List (List Nat)) (L : List Nat) (A : Nat) (Q : Option Value → xw → Prop) (Qx : Nat → xw → Prop), xq w0 w → 794 ≤ xN w0 → XZw T a w → xI w 341 4 = nI op → op ≤ 6 → 3 * (6 - op) + 1 ≤ d → XFa L 1 (xN w0) A w → 0 < E.length → L.length = E.length → (∀ k, k < E.length → XTd (2 * (6 - op) + 0) (PF (xN w0) A w) (E.getD k []) (L.getD k 0) w) → 2 * E.length ≤ a → pT T F f 2 a op ≠ .inl (0, 0) → 60 * (eF T op (pT T F f 2 a op) - a) + 3 ≤ (xB w).1 ∧ 5500 * (eF T op (pT T F f 2 a op) - a) + 3220 ≤ (xB w).2 → EQt T (pT T F f 2 a op) w0 Qx → (∀ c2 p, pT T F f 2 a op = .inr (c2, p) → ∀ w', xq w0 w' → XZw T p w' → xI w' 341 4 = nI op → XTd (2 * (6 - op) + 0 + 1) (fun i => xN w0 ≤ i ∧ i < xN w') (faC 14 E ++ c2) (xN w0) w' → xTt w' (xN w0) → Q (some (.ref (xN w0))) w') → T_X2_both d Qx Q 23 [some (.ref 341), some (.ref (xN w0))] [] w
set_option maxHeartbeats 2000000 in
theorem lt_both (F f : Nat) (hs : SX T F f 0 2 20 0 1) (hl : SX_both T F f) : SX_both T F (f + 1) := by
  intro a op d w0 w E L A Q Qx q0 hN0 hz ho hop hd hF hE hLE hv h2 hne hb qe qo
  obtain ⟨hal, b, hsb, z⟩ := hz
  have hT := z.1.1.2.2.2.2.1
  have l16 := hT.1
  have hbl := z.1.2.2
  have hsk := sk_is T hal
  have hN := XZ_n z
  have lA : A < xN w := hF.2.2.2.2.choose_spec.2.2.1.2.2.1
  have lF := hF.1.2.2
  have lF1 : xN w0 + 1 < xN w := hF.2.2.2.2.choose_spec.1.2.2
  have hA2 := hF.2.2.1
  have n0w := q0.1
  have hwl := (spL_is T isLe (sk T a) hsk.2)
  have ewl : spL T isLe (sk T a) = wl T (sk T a) := rfl
  rw [ewl] at hwl
  have ep : pT T F (f + 1) 2 a op = (if hereB T a (wT 24) = true then bnd (pT T F f 0 (sk T a + 3) op) (fun c a1 => bnd (pT T F f 2 a1 op) (fun c2 a2 => .inr (c ++ 14 :: c2, a2))) else .inr ([], a)) := rfl
  refine r_X2_both_23 ⟨z.1.1.1.1, 3, 3220, ⟨by omega, by omega⟩, x_passes (w := xSetB w (3, 3220)) (k := 24) z (by omega) (by omega) (fun _ => ⟨Nat.le_refl _, by rw [hsb]; show _ ≤ 3220; omega⟩) (fun hl1 hp1 w1 f1 e1 s1 => ?_) (fun hh hp w1 p f1 hp1 hp2 z1 o1 _ _ => r_X2_both_30 ⟨fun _ => ⟨⟨_, rfl, rfl⟩, ?_⟩, fun y => absurd rfl y⟩) (fun hh w1 f1 z1 fr1 o1 _ => r_X2_both_30 ⟨fun y => absurd y (by decide), fun _ => ?_⟩)⟩
  · rw [hsb] at hl1 hp1 e1
    have hst : stk T a := ⟨hl1, hp1⟩
    have e9 : pT T F (f + 1) 2 a op = .inr ([], a) := by rw [ep, stk_here hst, if_neg (by decide)]
    exact qe.2 [] a e9 hst _ (xq_trans q0 (w1 := w) f1) e1 s1
  · rw [hereB_s hsb] at hh
    have f1 : xq w w1 := f1
    have e9 : pT T F (f + 1) 2 a op = .inr ([], a) := by rw [ep, hh, if_neg (by decide)]
    have F1 := XFa_k hF (xk_q f1) (fun i hi => by omega) hN0
    have n1 := f1.1
    refine qo [] a e9 _ (xq_trans q0 f1) ⟨hal, p, hp2.trans hsb, z1⟩ (o1.trans ho) ?_ ⟨by show 13 ≤ (xS w1 (xN w0)).1; rw [F1.1.1]; omega, by show (xS w1 (xN w0)).1 ≤ 16; rw [F1.1.1]; omega⟩
    rw [List.append_nil]
    exact t_facts (w := w1) (P := fun i => xN w0 ≤ i ∧ i < xN w1) F1 rfl ⟨⟨by omega, by omega⟩, ⟨by omega, by omega⟩, ⟨by omega, by omega⟩⟩ hE hLE (fun k hk => XTd_m (hv k hk) (Nat.le_refl _) (xsm_k (xk_q f1) (fun i hi => by unfold PF at hi; omega)) (fun i hi => by unfold PF at hi; omega))
  · rw [hereB_s hsb] at hh
    rw [hsb] at z1 fr1
    have hw := here_w (k := 24) (by omega) (by omega) hal hh
    have ew : (wT 24).length = 3 := rfl
    rw [ew] at hw
    rw [hw.1] at z1
    have f1 : xq w w1 := f1
    have n1 := f1.1
    have e1 : pT T F (f + 1) 2 a op = bnd (pT T F f 0 (sk T a + 3) op) (fun c a1 => bnd (pT T F f 2 a1 op) (fun c2 a2 => .inr (c ++ 14 :: c2, a2))) := by rw [ep, if_pos hh]
    rw [e1] at hne hb qe qo
    have hne1 : pT T F f 0 (sk T a + 3) op ≠ .inl (0, 0) := fun z => hne (bnd_l z)
    have en1 := eF_lt (T := T) (F := F) (f := f) (tag := 0) (a := sk T a + 3) (op := op) (by omega) (by omega)
    have en2 := eF_bnd (T := T) (op := op) (r := pT T F f 0 (sk T a + 3) op) (k := fun c a1 => bnd (pT T F f 2 a1 op) (fun c2 a2 => .inr (c ++ 14 :: c2, a2))) (fun c p hr => Nat.le_trans (eF_pT (F := F) (f := f) (tag := 2) (op := op) (pT_le T F f 0 _ op c p (by omega) hr).1) (eF_bnd (fun c2 p2 h2 => Nat.le_refl _)))
    have q01 : xq w0 w1 := xq_trans q0 f1
    have o1 : xI w1 341 4 = nI op := o1.trans ho
    have F1 := XFa_k hF (xk_q f1) (fun i hi => by omega) hN0
    have rF : ∀ B, xR (xSetB w1 B) (xN w0) 0 = xN w0 + 1 := fun _ => F1.2.1.1
    rw [rF]
    obtain ⟨C, hC9⟩ : ∃ C, C = 60 * (eF T op (pT T F f 0 (sk T a + 3) op) - (sk T a + 3)) - 20 := ⟨_, rfl⟩
    obtain ⟨S, hS9⟩ : ∃ S, S = 5500 * (eF T op (pT T F f 0 (sk T a + 3) op) - (sk T a + 3)) - 330 * 20 := ⟨_, rfl⟩
    refine ⟨F1.1.1, by omega, z1.1.1.1.1, C, S, ⟨by show C ≤ (xB w).1 - 3; omega, by show S ≤ (xB w).2 - 3220; omega⟩, hs (sk T a + 3) op d (xSetB (xSetB w1 _) (C, S)) _ _ (XZs_of z1) o1 hop hd hne1 ⟨by show 60 * _ ≤ C + 20; omega, by show 5500 * _ ≤ S + 330 * 20; omega⟩ ⟨fun kd pl hr w2 f2 e2 s2 => qe.1 kd pl (bnd_l hr) _ (xq_trans q01 (w1 := w1) f2) e2 s2, fun c p hr hst w2 f2 e2 s2 => qe.2 (c ++ 14 :: []) p (by rw [bnd_r hr, bnd_r (stk_rest (by omega) hst (fun z => hne (by rw [bnd_r hr]; exact bnd_l z)))]) hst _ (xq_trans q01 (w1 := w1) f2) e2 s2⟩ (fun c p hr w2 o f2 z2 o2 v2 k2 => ?_)⟩
    have f2 : xq w1 w2 := f2
    have nn2 := f2.1
    have kw2 : xk (fun i => i = 341 ∨ i = 342) w w2 := xk_trans (xk_q f1) (xk_q f2)
    have F2 := XFa_k hF kw2 (fun i hi => by omega) hN0
    have hpl := pT_le T F f 0 _ op c p (by omega) hr
    have en4 : eF T op (pT T F f 0 (sk T a + 3) op) = p := by rw [hr]; rfl
    rw [en4] at hC9 hS9 en1 en2
    have hlist := F2.2.2.2.2.choose_spec
    have hne2 : pT T F f 2 p op ≠ .inl (0, 0) := fun z => hne (by rw [bnd_r hr]; exact bnd_l z)
    have en3 := eF_bnd (T := T) (op := op) (r := pT T F f 2 p op) (k := fun c2 a2 => .inr (c ++ 14 :: c2, a2)) (fun _ _ _ => Nat.le_refl _)
    have en5 := eF_pT (T := T) (F := F) (f := f) (tag := 2) (op := op) hpl.1
    rw [bnd_r hr] at hb
    refine r_X2_both_41 ⟨1, 1300, ⟨by show 1 ≤ (xB w).1 - 3 - C; omega, by show 1300 ≤ (xB w).2 - 3220 - S; omega⟩, hlist.1.1, x_faadd (w := xSetB (xSetB w2 _) (1, 1300)) F2 ⟨by have := k2.1; show 1 ≤ (xS w2 o).1; omega, by have := k2.2; show (xS w2 o).1 ≤ 19; omega⟩ v2.2.1.1.2 (by omega) (fun _ => ⟨Nat.le_refl 1, Nat.le_refl 1300⟩) (fun w3 A3 F3 k3 hA3 => r_X2_both_46 ?_)⟩
    have k3 : xk (fun i => i = xN w0 + 1 ∨ i = A) w2 w3 := k3
    have nn3 := k3.1
    have hA3 : A3 = A ∨ xN w2 ≤ A3 := hA3
    have k13 : xk (fun i => i = 341 ∨ i = 342 ∨ i = xN w0 + 1 ∨ i = A) w w3 := xk_trans (xk_wk kw2 (fun i _ hi => by omega)) (xk_wk k3 (fun i _ hi => by omega))
    refine hl p op d w0 _ (E ++ [c]) (L ++ [o]) A3 _ _ ?_ hN0 ?_ ?_ hop hd F3 (by rw [List.length_append]; show 0 < E.length + 1; omega) (by rw [List.length_append, List.length_append, hLE]; rfl) ?_ ?_ hne2 ?_ ⟨fun kd pl hr2 w' f' e' s' => qe.1 kd pl (by rw [bnd_r hr]; exact bnd_l hr2) w' f' e' s', fun c2 p2 hr2 hst w' f' e' s' => qe.2 (c ++ 14 :: c2) p2 (by rw [bnd_r hr, bnd_r hr2]) hst w' f' e' s'⟩ (fun c2 p2 hr2 w' f' z' o' v' k' => qo (c ++ 14 :: c2) p2 (by rw [bnd_r hr, bnd_r hr2]) w' f' z' o' ?_ k')
    · exact xq_ke (xq_trans q01 f2) k3 (fun i hi => by omega)
    · exact XZw_k (w := w2) (w' := w3) z2 k3 (fun i hi => by omega)
    · show xI w3 341 4 = nI op
      rw [(k3.2.2 341 (by omega) (by omega)).1]; exact o2
    · intro k hk
      rw [List.length_append] at hk
      have hk : k < E.length + 1 := hk
      by_cases ck : k < E.length
      · rw [gdA _ _ _ _ ck, gdA _ _ _ _ (by omega)]
        exact XTd_m (hv k ck) (Nat.le_refl _) (w1 := w3) (xsm_k k13 (fun i hi => by unfold PF at hi; omega)) (fun i hi => by unfold PF at hi ⊢; exact ⟨hi.1, hi.2.1, by show i < xN w3; omega, by omega⟩)
      · have ek : k = E.length := by omega
        subst ek
        rw [gdB, ← hLE, gdB]
        exact XTd_m (w := w2) v2 (Nat.le_refl _) (w1 := w3) (xsm_k k3 (fun i hi => by have h1 : xN w1 ≤ i := hi.1; have h2 : i < xN w2 := hi.2; omega)) (fun i hi => by have h1 : xN w1 ≤ i := hi.1; have h2 : i < xN w2 := hi.2; exact ⟨by omega, by omega, by show i < xN w3; omega, by omega⟩)
    · rw [List.length_append]; show 2 * (E.length + 1) ≤ p; omega
    · show 60 * _ + 3 ≤ (xB w).1 - 3 - C - 1 ∧ 5500 * _ + 3220 ≤ (xB w).2 - 3220 - S - 1300
      omega
    · rw [faC_app _ _ _ (fun z => by rw [z] at hE; exact absurd hE (Nat.lt_irrefl 0)), List.append_assoc] at v'
      have ek : (c ++ [14]) ++ c2 = c ++ 14 :: c2 := by rw [List.append_assoc]; rfl
      rw [ek] at v'
      exact v'
set_option maxHeartbeats 2000000 in
theorem it_both (F f : Nat) (hs : SX T F f 0 2 20 0 1) (hl : SX_both T F f) : SX T F (f + 1) 1 1 10 1 2 := by
  intro a op d w Q Qx hz ho hop hd hne hb qe qo
  obtain ⟨d, rfl⟩ : ∃ n, d = n + 1 := ⟨d - 1, by omega⟩
  have hal := XZs_le hz
  have hN := XZs_n hz
  have l16 : T.length ≤ 1600 := by obtain ⟨b, _, _, z⟩ := hz; exact z.1.1.2.2.2.2.1.1
  have e1 : pT T F (f + 1) 1 a op = bnd (pT T F f 0 a op) (fun c a1 => bnd (pT T F f 2 a1 op) (fun c2 a2 => .inr (c ++ c2, a2))) := rfl
  rw [e1] at hne hb qe qo
  have hne1 : pT T F f 0 a op ≠ .inl (0, 0) := fun z => hne (bnd_l z)
  have en1 := eF_lt (T := T) (F := F) (f := f) (tag := 0) (a := a) (op := op) (by omega) hal
  have en2 := eF_bnd (T := T) (op := op) (r := pT T F f 0 a op) (k := fun c a1 => bnd (pT T F f 2 a1 op) (fun c2 a2 => .inr (c ++ c2, a2))) (fun c p hr => Nat.le_trans (eF_pT (F := F) (f := f) (tag := 2) (op := op) (pT_le T F f 0 _ op c p hal hr).1) (eF_bnd (fun c2 p2 h2 => Nat.le_refl _)))
  unfold XBw at hb
  have n12 : xNf 12 ≤ 6 := by decide
  have kn : xk (fun _ => False) w (xNew1 w (13, 0) (xNf 12)) := xk_n1 (xk_refl _ w) _ _
  have s1 : xS (xNew1 w (13, 0) (xNf 12)) (xN w) = (13, 0) := n1_S0
  obtain ⟨C, hC9⟩ : ∃ C, C = 60 * (eF T op (pT T F f 0 a op) - a) - 20 := ⟨_, rfl⟩
  obtain ⟨S, hS9⟩ : ∃ S, S = 5500 * (eF T op (pT T F f 0 a op) - a) - 330 * 20 := ⟨_, rfl⟩
  refine e_X2_both (r_X2_both_0 ⟨⟨by omega, by omega⟩, 2, 20, ⟨by show 2 ≤ (xB w).1 - 1; omega, by show 20 ≤ (xB w).2 - xNf 12; omega⟩, by show (xS (xNew1 w (13, 0) (xNf 12)) (xN w)).1 = 13; rw [s1], x_fainit (w := xSetB (xNew1 w (13, 0) (xNf 12)) (2, 20)) (f := xN w) (u := 1) rfl (by show (xS (xNew1 w (13, 0) (xNf 12)) (xN w)).1 = 13; rw [s1]) (by omega) rfl (by omega) ⟨Nat.le_refl _, Nat.le_refl _⟩ (fun w1 F1 k1 n1 => r_X2_both_8 ?_)⟩)
  have k1 : xk (fun i => i = xN w) (xNew1 w (13, 0) (xNf 12)) w1 := k1
  have n1 : xN w1 = xN w + 3 := n1
  have q01 : xq w w1 := xq_ke (xq_k kn) k1 (fun i hi => by omega)
  have z1 : XZs T a w1 := XZs_k (XZs_k hz kn (fun i hi => hi.elim)) k1 (fun i hi => by omega)
  have o1 : xI w1 341 4 = nI op := by rw [(k1.2.2 341 (by show 341 < xN w + 1; omega) (by omega)).1, (kn.2.2 341 (by omega) (fun z => z)).1]; exact ho
  have s341 : (xS w1 341).1 = 3 := by obtain ⟨b, _, _, z⟩ := z1; exact z.1.1.1.1
  have rF : ∀ B, xR (xSetB w1 B) (xN w) 0 = xN w + 1 := fun _ => F1.2.1.1
  rw [rF]
  refine ⟨F1.1.1, by omega, s341, C, S, ⟨by show C ≤ (xB w).1 - 1 - 2; omega, by show S ≤ (xB w).2 - xNf 12 - 20; omega⟩, hs a op d (xSetB (xSetB w1 _) (C, S)) _ _ z1 o1 hop (by omega) hne1 ⟨by show 60 * _ ≤ C + 20; omega, by show 5500 * _ ≤ S + 330 * 20; omega⟩ ⟨fun kd pl hr w2 f2 e2 s2 => qe.1 kd pl (bnd_l hr) _ (xq_trans q01 (w1 := w1) f2) e2 s2, fun c p hr hst w2 f2 e2 s2 => qe.2 (c ++ []) p (by rw [bnd_r hr, bnd_r (stk_rest (by omega) hst (fun z => hne (by rw [bnd_r hr]; exact bnd_l z)))]) hst _ (xq_trans q01 (w1 := w1) f2) e2 s2⟩ (fun c p hr w2 o f2 z2 o2 v2 k2 => ?_)⟩
  have f2 : xq w1 w2 := f2
  have nn2 := f2.1
  have kw2 := xk_q f2
  have F2 := XFa_k F1 kw2 (fun i hi => by omega) hN
  have hpl := pT_le T F f 0 _ op c p hal hr
  have en4 : eF T op (pT T F f 0 a op) = p := by rw [hr]; rfl
  rw [en4] at hC9 hS9 en1 en2
  have hlist := F2.2.2.2.2.choose_spec
  have hne2 : pT T F f 2 p op ≠ .inl (0, 0) := fun z => hne (by rw [bnd_r hr]; exact bnd_l z)
  have en3 := eF_bnd (T := T) (op := op) (r := pT T F f 2 p op) (k := fun c2 a2 => .inr (c ++ c2, a2)) (fun _ _ _ => Nat.le_refl _)
  have en5 := eF_pT (T := T) (F := F) (f := f) (tag := 2) (op := op) hpl.1
  rw [bnd_r hr] at hb
  refine r_X2_both_17 ⟨0, 0, ⟨Nat.zero_le _, Nat.zero_le _⟩, hlist.1.1, x_faadd (w := xSetB (xSetB w2 _) (0, 0)) F2 ⟨by have := k2.1; show 1 ≤ (xS w2 o).1; omega, by have := k2.2; show (xS w2 o).1 ≤ 19; omega⟩ v2.2.1.1.2 (by show 0 ≤ 800; omega) (fun z => absurd z (by decide)) (fun w3 A3 F3 k3 hA3 => r_X2_both_22 ?_)⟩
  have k3 : xk (fun i => i = xN w + 1 ∨ i = xN w + 2) w2 w3 := k3
  have nn3 := k3.1
  have hA3 : A3 = xN w + 2 ∨ xN w2 ≤ A3 := hA3
  refine hl p op d w _ [c] [o] A3 _ _ ?_ hN ?_ ?_ hop (by omega) F3 (Nat.succ_pos _) rfl ?_ ?_ hne2 ?_ ⟨fun kd pl hr2 w' f' e' s' => qe.1 kd pl (by rw [bnd_r hr]; exact bnd_l hr2) w' f' e' s', fun c2 p2 hr2 hst w' f' e' s' => qe.2 (c ++ c2) p2 (by rw [bnd_r hr, bnd_r hr2]) hst w' f' e' s'⟩ (fun c2 p2 hr2 w' f' z' o' v' k' => qo (c ++ c2) p2 (by rw [bnd_r hr, bnd_r hr2]) w' (xN w) f' z' o' ?_ k')
  · exact xq_ke (xq_trans q01 f2) k3 (fun i hi => by omega)
  · exact XZw_k (w := w2) (w' := w3) z2 k3 (fun i hi => by omega)
  · show xI w3 341 4 = nI op
    rw [(k3.2.2 341 (by omega) (by omega)).1]; exact o2
  · intro k hk
    have hk : k < 1 := hk
    have ek : k = 0 := by omega
    subst ek
    exact XTd_m (w := w2) v2 (Nat.le_refl _) (w1 := w3) (xsm_k k3 (fun i hi => by have h1 : xN w1 ≤ i := hi.1; have h2 : i < xN w2 := hi.2; omega)) (fun i hi => by have h1 : xN w1 ≤ i := hi.1; have h2 : i < xN w2 := hi.2; exact ⟨by omega, by omega, by show i < xN w3; omega, by omega⟩)
  · show 2 * 1 ≤ p; omega
  · show 60 * _ + 3 ≤ (xB w).1 - 1 - 2 - C - 0 ∧ 5500 * _ + 3220 ≤ (xB w).2 - xNf 12 - 20 - S - 0
    omega
  · have ek : faC 14 [c] ++ c2 = c ++ c2 := by show (c ++ []) ++ c2 = _; rw [List.append_nil]
    rw [ek] at v'
    exact v'

def SX_test (T : List Nat) (F f : Nat) : Prop := ∀ (a op d : Nat) (w0 w : xw) (E : List (List Nat)) (L : List Nat) (A : Nat) (Q : Option Value → xw → Prop) (Qx : Nat → xw → Prop), xq w0 w → 794 ≤ xN w0 → XZw T a w → xI w 341 4 = nI op → op ≤ 6 → 3 * (6 - op) + 2 ≤ d → XFa L 0 (xN w0) A w → 0 < E.length → L.length = E.length → (∀ k, k < E.length → XTd (2 * (6 - op) + 1) (PF (xN w0) A w) (E.getD k []) (L.getD k 0) w) → 2 * E.length ≤ a → pT T F f 4 a op ≠ .inl (0, 0) → 60 * (eF T op (pT T F f 4 a op) - a) + 3 ≤ (xB w).1 ∧ 5500 * (eF T op (pT T F f 4 a op) - a) + 3220 ≤ (xB w).2 → EQt T (pT T F f 4 a op) w0 Qx → (∀ c2 p, pT T F f 4 a op = .inr (c2, p) → ∀ w', xq w0 w' → XZw T p w' → xI w' 341 4 = nI op → XTd (2 * (6 - op) + 1 + 1) (fun i => xN w0 ≤ i ∧ i < xN w') (faC 15 E ++ c2) (xN w0) w' → xTt w' (xN w0) → Q (some (.ref (xN w0))) w') → T_X2_test d Qx Q 23 [some (.ref 341), some (.ref (xN w0))] [] w
set_option maxHeartbeats 2000000 in
theorem lt_test (F f : Nat) (hs : SX T F f 1 1 10 1 2) (hl : SX_test T F f) : SX_test T F (f + 1) := by
  intro a op d w0 w E L A Q Qx q0 hN0 hz ho hop hd hF hE hLE hv h2 hne hb qe qo
  obtain ⟨hal, b, hsb, z⟩ := hz
  have hT := z.1.1.2.2.2.2.1
  have l16 := hT.1
  have hbl := z.1.2.2
  have hsk := sk_is T hal
  have hN := XZ_n z
  have lA : A < xN w := hF.2.2.2.2.choose_spec.2.2.1.2.2.1
  have lF := hF.1.2.2
  have lF1 : xN w0 + 1 < xN w := hF.2.2.2.2.choose_spec.1.2.2
  have hA2 := hF.2.2.1
  have n0w := q0.1
  have hwl := (spL_is T isLe (sk T a) hsk.2)
  have ewl : spL T isLe (sk T a) = wl T (sk T a) := rfl
  rw [ewl] at hwl
  have ep : pT T F (f + 1) 4 a op = (if hereB T a (wT 23) = true then bnd (pT T F f 1 (sk T a + 2) op) (fun c a1 => bnd (pT T F f 4 a1 op) (fun c2 a2 => .inr (c ++ 15 :: c2, a2))) else .inr ([], a)) := rfl
  refine r_X2_test_23 ⟨z.1.1.1.1, 3, 3220, ⟨by omega, by omega⟩, x_passes (w := xSetB w (3, 3220)) (k := 23) z (by omega) (by omega) (fun _ => ⟨Nat.le_refl _, by rw [hsb]; show _ ≤ 3220; omega⟩) (fun hl1 hp1 w1 f1 e1 s1 => ?_) (fun hh hp w1 p f1 hp1 hp2 z1 o1 _ _ => r_X2_test_30 ⟨fun _ => ⟨⟨_, rfl, rfl⟩, ?_⟩, fun y => absurd rfl y⟩) (fun hh w1 f1 z1 fr1 o1 _ => r_X2_test_30 ⟨fun y => absurd y (by decide), fun _ => ?_⟩)⟩
  · rw [hsb] at hl1 hp1 e1
    have hst : stk T a := ⟨hl1, hp1⟩
    have e9 : pT T F (f + 1) 4 a op = .inr ([], a) := by rw [ep, stk_here hst, if_neg (by decide)]
    exact qe.2 [] a e9 hst _ (xq_trans q0 (w1 := w) f1) e1 s1
  · rw [hereB_s hsb] at hh
    have f1 : xq w w1 := f1
    have e9 : pT T F (f + 1) 4 a op = .inr ([], a) := by rw [ep, hh, if_neg (by decide)]
    have F1 := XFa_k hF (xk_q f1) (fun i hi => by omega) hN0
    have n1 := f1.1
    refine qo [] a e9 _ (xq_trans q0 f1) ⟨hal, p, hp2.trans hsb, z1⟩ (o1.trans ho) ?_ ⟨by show 13 ≤ (xS w1 (xN w0)).1; rw [F1.1.1]; omega, by show (xS w1 (xN w0)).1 ≤ 16; rw [F1.1.1]; omega⟩
    rw [List.append_nil]
    exact t_facts (w := w1) (P := fun i => xN w0 ≤ i ∧ i < xN w1) F1 rfl ⟨⟨by omega, by omega⟩, ⟨by omega, by omega⟩, ⟨by omega, by omega⟩⟩ hE hLE (fun k hk => XTd_m (hv k hk) (Nat.le_refl _) (xsm_k (xk_q f1) (fun i hi => by unfold PF at hi; omega)) (fun i hi => by unfold PF at hi; omega))
  · rw [hereB_s hsb] at hh
    rw [hsb] at z1 fr1
    have hw := here_w (k := 23) (by omega) (by omega) hal hh
    have ew : (wT 23).length = 2 := rfl
    rw [ew] at hw
    rw [hw.1] at z1
    have f1 : xq w w1 := f1
    have n1 := f1.1
    have e1 : pT T F (f + 1) 4 a op = bnd (pT T F f 1 (sk T a + 2) op) (fun c a1 => bnd (pT T F f 4 a1 op) (fun c2 a2 => .inr (c ++ 15 :: c2, a2))) := by rw [ep, if_pos hh]
    rw [e1] at hne hb qe qo
    have hne1 : pT T F f 1 (sk T a + 2) op ≠ .inl (0, 0) := fun z => hne (bnd_l z)
    have en1 := eF_lt (T := T) (F := F) (f := f) (tag := 1) (a := sk T a + 2) (op := op) (by omega) (by omega)
    have en2 := eF_bnd (T := T) (op := op) (r := pT T F f 1 (sk T a + 2) op) (k := fun c a1 => bnd (pT T F f 4 a1 op) (fun c2 a2 => .inr (c ++ 15 :: c2, a2))) (fun c p hr => Nat.le_trans (eF_pT (F := F) (f := f) (tag := 4) (op := op) (pT_le T F f 1 _ op c p (by omega) hr).1) (eF_bnd (fun c2 p2 h2 => Nat.le_refl _)))
    have q01 : xq w0 w1 := xq_trans q0 f1
    have o1 : xI w1 341 4 = nI op := o1.trans ho
    have F1 := XFa_k hF (xk_q f1) (fun i hi => by omega) hN0
    have rF : ∀ B, xR (xSetB w1 B) (xN w0) 0 = xN w0 + 1 := fun _ => F1.2.1.1
    rw [rF]
    obtain ⟨C, hC9⟩ : ∃ C, C = 60 * (eF T op (pT T F f 1 (sk T a + 2) op) - (sk T a + 2)) - 10 := ⟨_, rfl⟩
    obtain ⟨S, hS9⟩ : ∃ S, S = 5500 * (eF T op (pT T F f 1 (sk T a + 2) op) - (sk T a + 2)) - 330 * 10 := ⟨_, rfl⟩
    refine ⟨F1.1.1, by omega, z1.1.1.1.1, C, S, ⟨by show C ≤ (xB w).1 - 3; omega, by show S ≤ (xB w).2 - 3220; omega⟩, hs (sk T a + 2) op d (xSetB (xSetB w1 _) (C, S)) _ _ (XZs_of z1) o1 hop hd hne1 ⟨by show 60 * _ ≤ C + 10; omega, by show 5500 * _ ≤ S + 330 * 10; omega⟩ ⟨fun kd pl hr w2 f2 e2 s2 => qe.1 kd pl (bnd_l hr) _ (xq_trans q01 (w1 := w1) f2) e2 s2, fun c p hr hst w2 f2 e2 s2 => qe.2 (c ++ 15 :: []) p (by rw [bnd_r hr, bnd_r (stk_rest (by omega) hst (fun z => hne (by rw [bnd_r hr]; exact bnd_l z)))]) hst _ (xq_trans q01 (w1 := w1) f2) e2 s2⟩ (fun c p hr w2 o f2 z2 o2 v2 k2 => ?_)⟩
    have f2 : xq w1 w2 := f2
    have nn2 := f2.1
    have kw2 : xk (fun i => i = 341 ∨ i = 342) w w2 := xk_trans (xk_q f1) (xk_q f2)
    have F2 := XFa_k hF kw2 (fun i hi => by omega) hN0
    have hpl := pT_le T F f 1 _ op c p (by omega) hr
    have en4 : eF T op (pT T F f 1 (sk T a + 2) op) = p := by rw [hr]; rfl
    rw [en4] at hC9 hS9 en1 en2
    have hlist := F2.2.2.2.2.choose_spec
    have hne2 : pT T F f 4 p op ≠ .inl (0, 0) := fun z => hne (by rw [bnd_r hr]; exact bnd_l z)
    have en3 := eF_bnd (T := T) (op := op) (r := pT T F f 4 p op) (k := fun c2 a2 => .inr (c ++ 15 :: c2, a2)) (fun _ _ _ => Nat.le_refl _)
    have en5 := eF_pT (T := T) (F := F) (f := f) (tag := 4) (op := op) hpl.1
    rw [bnd_r hr] at hb
    refine r_X2_test_41 ⟨1, 1300, ⟨by show 1 ≤ (xB w).1 - 3 - C; omega, by show 1300 ≤ (xB w).2 - 3220 - S; omega⟩, hlist.1.1, x_faadd (w := xSetB (xSetB w2 _) (1, 1300)) F2 ⟨by have := k2.1; show 1 ≤ (xS w2 o).1; omega, by have := k2.2; show (xS w2 o).1 ≤ 19; omega⟩ v2.2.1.1.2 (by omega) (fun _ => ⟨Nat.le_refl 1, Nat.le_refl 1300⟩) (fun w3 A3 F3 k3 hA3 => r_X2_test_46 ?_)⟩
    have k3 : xk (fun i => i = xN w0 + 1 ∨ i = A) w2 w3 := k3
    have nn3 := k3.1
    have hA3 : A3 = A ∨ xN w2 ≤ A3 := hA3
    have k13 : xk (fun i => i = 341 ∨ i = 342 ∨ i = xN w0 + 1 ∨ i = A) w w3 := xk_trans (xk_wk kw2 (fun i _ hi => by omega)) (xk_wk k3 (fun i _ hi => by omega))
    refine hl p op d w0 _ (E ++ [c]) (L ++ [o]) A3 _ _ ?_ hN0 ?_ ?_ hop hd F3 (by rw [List.length_append]; show 0 < E.length + 1; omega) (by rw [List.length_append, List.length_append, hLE]; rfl) ?_ ?_ hne2 ?_ ⟨fun kd pl hr2 w' f' e' s' => qe.1 kd pl (by rw [bnd_r hr]; exact bnd_l hr2) w' f' e' s', fun c2 p2 hr2 hst w' f' e' s' => qe.2 (c ++ 15 :: c2) p2 (by rw [bnd_r hr, bnd_r hr2]) hst w' f' e' s'⟩ (fun c2 p2 hr2 w' f' z' o' v' k' => qo (c ++ 15 :: c2) p2 (by rw [bnd_r hr, bnd_r hr2]) w' f' z' o' ?_ k')
    · exact xq_ke (xq_trans q01 f2) k3 (fun i hi => by omega)
    · exact XZw_k (w := w2) (w' := w3) z2 k3 (fun i hi => by omega)
    · show xI w3 341 4 = nI op
      rw [(k3.2.2 341 (by omega) (by omega)).1]; exact o2
    · intro k hk
      rw [List.length_append] at hk
      have hk : k < E.length + 1 := hk
      by_cases ck : k < E.length
      · rw [gdA _ _ _ _ ck, gdA _ _ _ _ (by omega)]
        exact XTd_m (hv k ck) (Nat.le_refl _) (w1 := w3) (xsm_k k13 (fun i hi => by unfold PF at hi; omega)) (fun i hi => by unfold PF at hi ⊢; exact ⟨hi.1, hi.2.1, by show i < xN w3; omega, by omega⟩)
      · have ek : k = E.length := by omega
        subst ek
        rw [gdB, ← hLE, gdB]
        exact XTd_m (w := w2) v2 (Nat.le_refl _) (w1 := w3) (xsm_k k3 (fun i hi => by have h1 : xN w1 ≤ i := hi.1; have h2 : i < xN w2 := hi.2; omega)) (fun i hi => by have h1 : xN w1 ≤ i := hi.1; have h2 : i < xN w2 := hi.2; exact ⟨by omega, by omega, by show i < xN w3; omega, by omega⟩)
    · rw [List.length_append]; show 2 * (E.length + 1) ≤ p; omega
    · show 60 * _ + 3 ≤ (xB w).1 - 3 - C - 1 ∧ 5500 * _ + 3220 ≤ (xB w).2 - 3220 - S - 1300
      omega
    · rw [faC_app _ _ _ (fun z => by rw [z] at hE; exact absurd hE (Nat.lt_irrefl 0)), List.append_assoc] at v'
      have ek : (c ++ [15]) ++ c2 = c ++ 15 :: c2 := by rw [List.append_assoc]; rfl
      rw [ek] at v'
      exact v'
set_option maxHeartbeats 2000000 in
theorem it_test (F f : Nat) (hs : SX T F f 1 1 10 1 2) (hl : SX_test T F f) : SX T F (f + 1) 3 0 0 2 3 := by
  intro a op d w Q Qx hz ho hop hd hne hb qe qo
  obtain ⟨d, rfl⟩ : ∃ n, d = n + 1 := ⟨d - 1, by omega⟩
  have hal := XZs_le hz
  have hN := XZs_n hz
  have l16 : T.length ≤ 1600 := by obtain ⟨b, _, _, z⟩ := hz; exact z.1.1.2.2.2.2.1.1
  have e1 : pT T F (f + 1) 3 a op = bnd (pT T F f 1 a op) (fun c a1 => bnd (pT T F f 4 a1 op) (fun c2 a2 => .inr (c ++ c2, a2))) := rfl
  rw [e1] at hne hb qe qo
  have hne1 : pT T F f 1 a op ≠ .inl (0, 0) := fun z => hne (bnd_l z)
  have en1 := eF_lt (T := T) (F := F) (f := f) (tag := 1) (a := a) (op := op) (by omega) hal
  have en2 := eF_bnd (T := T) (op := op) (r := pT T F f 1 a op) (k := fun c a1 => bnd (pT T F f 4 a1 op) (fun c2 a2 => .inr (c ++ c2, a2))) (fun c p hr => Nat.le_trans (eF_pT (F := F) (f := f) (tag := 4) (op := op) (pT_le T F f 1 _ op c p hal hr).1) (eF_bnd (fun c2 p2 h2 => Nat.le_refl _)))
  unfold XBw at hb
  have n12 : xNf 12 ≤ 6 := by decide
  have kn : xk (fun _ => False) w (xNew1 w (13, 0) (xNf 12)) := xk_n1 (xk_refl _ w) _ _
  have s1 : xS (xNew1 w (13, 0) (xNf 12)) (xN w) = (13, 0) := n1_S0
  obtain ⟨C, hC9⟩ : ∃ C, C = 60 * (eF T op (pT T F f 1 a op) - a) - 10 := ⟨_, rfl⟩
  obtain ⟨S, hS9⟩ : ∃ S, S = 5500 * (eF T op (pT T F f 1 a op) - a) - 330 * 10 := ⟨_, rfl⟩
  refine e_X2_test (r_X2_test_0 ⟨⟨by omega, by omega⟩, 2, 20, ⟨by show 2 ≤ (xB w).1 - 1; omega, by show 20 ≤ (xB w).2 - xNf 12; omega⟩, by show (xS (xNew1 w (13, 0) (xNf 12)) (xN w)).1 = 13; rw [s1], x_fainit (w := xSetB (xNew1 w (13, 0) (xNf 12)) (2, 20)) (f := xN w) (u := 0) rfl (by show (xS (xNew1 w (13, 0) (xNf 12)) (xN w)).1 = 13; rw [s1]) (by omega) rfl (by omega) ⟨Nat.le_refl _, Nat.le_refl _⟩ (fun w1 F1 k1 n1 => r_X2_test_8 ?_)⟩)
  have k1 : xk (fun i => i = xN w) (xNew1 w (13, 0) (xNf 12)) w1 := k1
  have n1 : xN w1 = xN w + 3 := n1
  have q01 : xq w w1 := xq_ke (xq_k kn) k1 (fun i hi => by omega)
  have z1 : XZs T a w1 := XZs_k (XZs_k hz kn (fun i hi => hi.elim)) k1 (fun i hi => by omega)
  have o1 : xI w1 341 4 = nI op := by rw [(k1.2.2 341 (by show 341 < xN w + 1; omega) (by omega)).1, (kn.2.2 341 (by omega) (fun z => z)).1]; exact ho
  have s341 : (xS w1 341).1 = 3 := by obtain ⟨b, _, _, z⟩ := z1; exact z.1.1.1.1
  have rF : ∀ B, xR (xSetB w1 B) (xN w) 0 = xN w + 1 := fun _ => F1.2.1.1
  rw [rF]
  refine ⟨F1.1.1, by omega, s341, C, S, ⟨by show C ≤ (xB w).1 - 1 - 2; omega, by show S ≤ (xB w).2 - xNf 12 - 20; omega⟩, hs a op d (xSetB (xSetB w1 _) (C, S)) _ _ z1 o1 hop (by omega) hne1 ⟨by show 60 * _ ≤ C + 10; omega, by show 5500 * _ ≤ S + 330 * 10; omega⟩ ⟨fun kd pl hr w2 f2 e2 s2 => qe.1 kd pl (bnd_l hr) _ (xq_trans q01 (w1 := w1) f2) e2 s2, fun c p hr hst w2 f2 e2 s2 => qe.2 (c ++ []) p (by rw [bnd_r hr, bnd_r (stk_rest (by omega) hst (fun z => hne (by rw [bnd_r hr]; exact bnd_l z)))]) hst _ (xq_trans q01 (w1 := w1) f2) e2 s2⟩ (fun c p hr w2 o f2 z2 o2 v2 k2 => ?_)⟩
  have f2 : xq w1 w2 := f2
  have nn2 := f2.1
  have kw2 := xk_q f2
  have F2 := XFa_k F1 kw2 (fun i hi => by omega) hN
  have hpl := pT_le T F f 1 _ op c p hal hr
  have en4 : eF T op (pT T F f 1 a op) = p := by rw [hr]; rfl
  rw [en4] at hC9 hS9 en1 en2
  have hlist := F2.2.2.2.2.choose_spec
  have hne2 : pT T F f 4 p op ≠ .inl (0, 0) := fun z => hne (by rw [bnd_r hr]; exact bnd_l z)
  have en3 := eF_bnd (T := T) (op := op) (r := pT T F f 4 p op) (k := fun c2 a2 => .inr (c ++ c2, a2)) (fun _ _ _ => Nat.le_refl _)
  have en5 := eF_pT (T := T) (F := F) (f := f) (tag := 4) (op := op) hpl.1
  rw [bnd_r hr] at hb
  refine r_X2_test_17 ⟨0, 0, ⟨Nat.zero_le _, Nat.zero_le _⟩, hlist.1.1, x_faadd (w := xSetB (xSetB w2 _) (0, 0)) F2 ⟨by have := k2.1; show 1 ≤ (xS w2 o).1; omega, by have := k2.2; show (xS w2 o).1 ≤ 19; omega⟩ v2.2.1.1.2 (by show 0 ≤ 800; omega) (fun z => absurd z (by decide)) (fun w3 A3 F3 k3 hA3 => r_X2_test_22 ?_)⟩
  have k3 : xk (fun i => i = xN w + 1 ∨ i = xN w + 2) w2 w3 := k3
  have nn3 := k3.1
  have hA3 : A3 = xN w + 2 ∨ xN w2 ≤ A3 := hA3
  refine hl p op d w _ [c] [o] A3 _ _ ?_ hN ?_ ?_ hop (by omega) F3 (Nat.succ_pos _) rfl ?_ ?_ hne2 ?_ ⟨fun kd pl hr2 w' f' e' s' => qe.1 kd pl (by rw [bnd_r hr]; exact bnd_l hr2) w' f' e' s', fun c2 p2 hr2 hst w' f' e' s' => qe.2 (c ++ c2) p2 (by rw [bnd_r hr, bnd_r hr2]) hst w' f' e' s'⟩ (fun c2 p2 hr2 w' f' z' o' v' k' => qo (c ++ c2) p2 (by rw [bnd_r hr, bnd_r hr2]) w' (xN w) f' z' o' ?_ k')
  · exact xq_ke (xq_trans q01 f2) k3 (fun i hi => by omega)
  · exact XZw_k (w := w2) (w' := w3) z2 k3 (fun i hi => by omega)
  · show xI w3 341 4 = nI op
    rw [(k3.2.2 341 (by omega) (by omega)).1]; exact o2
  · intro k hk
    have hk : k < 1 := hk
    have ek : k = 0 := by omega
    subst ek
    exact XTd_m (w := w2) v2 (Nat.le_refl _) (w1 := w3) (xsm_k k3 (fun i hi => by have h1 : xN w1 ≤ i := hi.1; have h2 : i < xN w2 := hi.2; omega)) (fun i hi => by have h1 : xN w1 ≤ i := hi.1; have h2 : i < xN w2 := hi.2; exact ⟨by omega, by omega, by show i < xN w3; omega, by omega⟩)
  · show 2 * 1 ≤ p; omega
  · show 60 * _ + 3 ≤ (xB w).1 - 1 - 2 - C - 0 ∧ 5500 * _ + 3220 ≤ (xB w).2 - xNf 12 - 20 - S - 0
    omega
  · have ek : faC 15 [c] ++ c2 = c ++ c2 := by show (c ++ []) ++ c2 = _; rw [List.append_nil]
    rw [ek] at v'
    exact v'

end
