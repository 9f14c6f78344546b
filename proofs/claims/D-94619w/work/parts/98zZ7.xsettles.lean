/-! X: the Border settles -/
section
variable {Q : Option Value → xw → Prop}
/-- settled so far: rim of kr places, worths of kw, steps from the places ahead of p, and of p to those ahead of q -/
def SI (wd hg : Nat) (R : List (List Nat × List Nat)) (b kr kw p q : Nat) (w w' : xw) : Prop := (xN w' = xN w ∧ xB w' = xB w ∧ xS w' = xS w ∧ xR w' = xR w) ∧
  ((∀ i, i ≠ 344 → ¬ (b + 8 ≤ i ∧ i < b + 83) → xI w' i = xI w i) ∧ ∀ i, i ≠ b → ¬ (b + 8 ≤ i ∧ i < b + 83) → xL w' i = xL w i) ∧
  xL w' b 12 = bldL (fun p => decide (edW wd hg p = 0)) kr ∧ (∀ u, u < kw → xI w' (b + 8) u = nI (wrR R (u % wd) (u / wd) (edW wd hg u))) ∧
  (∀ u v, u < 36 → v < 36 → xI w' (b + 10 + u) v = if u < wd * hg ∧ v < wd * hg ∧ (u < p ∨ (u = p ∧ v < q)) then nI (stp wd u v) else 0) ∧
  ∀ u v, u < 36 → v < 36 → xL w' (b + 47 + u) v = if u < wd * hg ∧ v < wd * hg ∧ (u < p ∨ (u = p ∧ v < q)) then betG wd u v else 0
theorem SI_k {wd hg b kr kw p q : Nat} {R : List (List Nat × List Nat)} {w w' : xw} (h : SI wd hg R b kr kw p q w w') : xk (fun i => i = 344 ∨ i = b ∨ (b + 8 ≤ i ∧ i < b + 83)) w w' := by
  obtain ⟨⟨h1, h2, h3, h4⟩, ⟨h5, h6⟩, _⟩ := h
  exact ⟨by omega, fun i _ => by rw [h3], fun i _ hn => ⟨h5 i (by omega) (by omega), h6 i (by omega) (by omega), by rw [h4]⟩⟩
theorem x_isEmpty {L : List Nat} {l A cap : Nat} {w : xw} (h : XLa L l A cap w) (hl : L.length < 100) (q : Q (some (.int (bI (decide (L.length = 0))))) w) : V_J2_isEmpty [.ref l] w Q := by
  refine e_J2_isEmpty (r_J2_isEmpty_0 ?_)
  rw [h.2.1, show (nI L.length = (0 : Int32)) ↔ L.length = 0 from n_eq (b := 0) (by omega) (by omega)]
  refine ⟨h.1.1, fun c => ⟨nr_0, ?_⟩, fun c => ⟨nr_1, ?_⟩⟩
  · rw [decide_eq_false c] at q; exact q
  · rw [decide_eq_true (Decidable.not_not.mp c)] at q; exact q
set_option maxHeartbeats 4000000 in
theorem x_settles {wd hg n b : Nat} {t : TB} {KL RL : List Nat} {A D lim : Nat} {w : xw} (hf : fOk wd hg) (tx : XTx wd hg t n b KL RL A D lim w) (hlim : lim ≤ xN w) (ht : tOk t) (hm : (xS w 343).1 = 5 ∧ xR w 343 0 = 344 ∧ xS w 344 = (51, 3)) (q : ∀ w', SI wd hg (tR t) b (wd * hg) (wd * hg) (wd * hg) 0 w w' → Q none w') : V_X1_settles [.ref b, .ref 343] w Q := by
  obtain ⟨hs, hz, h0, ⟨c1, c2, ⟨cA, hA⟩, cD, hD⟩, _, ⟨rl1, rl2⟩, _⟩ := id tx
  obtain ⟨⟨b1', b8, b83⟩, ⟨r4, r5, r6, r7, r8, r9, r10, r11⟩, b10, ⟨s9, m9⟩, s46, m46⟩ := id hs
  have hR6 : (tR t).length ≤ 6 := ht.2.2.2.2.2
  have hN36 := hf.2.2
  have hw3 := hf.1
  have hg3 := hf.2.1
  have s8 : xS w (b + 8) = (51, 36) := b10 3 (by omega)
  -- what holds in every world on the way
  have at_ : ∀ {kr kw p q : Nat} {w' : xw}, SI wd hg (tR t) b kr kw p q w w' → ((xS w' b).1 = 2 ∧ xI w' b 0 = nI wd ∧ xI w' b 1 = nI hg ∧ XBs b w' ∧ XLa RL (b + 3) D cD w') := fun {kr kw p q w'} h => by
    have k := SI_k h
    obtain ⟨⟨h1, h2, h3, h4⟩, ⟨h5, h6⟩, _⟩ := h
    refine ⟨by rw [h3]; exact b1', by rw [h5 b (by omega) (by omega)]; exact h0.1, by rw [h5 b (by omega) (by omega)]; exact h0.2.1, XBs_s hs k.1 k.2.1 ⟨by rw [h4], by rw [h4], by rw [h4]⟩, XLa_k hD k (by omega) (by omega)⟩
  have places : ∀ {w' : xw} {Q' : Option Value → xw → Prop}, (xS w' b).1 = 2 → xI w' b 0 = nI wd → xI w' b 1 = nI hg → Q' (some (.int (nI (wd * hg)))) w' → V_X1_places [.ref b] w' Q' := fun {w' Q'} e1 e2 e3 q' => by
    refine e_X1_places (r_X1_places_0 ⟨e1, e1, trivial, ?_⟩)
    rw [e2, e3, n_mul]; exact q'
  have outer : ∀ (m p : Nat) (w' : xw), p + m = wd * hg → SI wd hg (tR t) b p p p 0 w w' → ∀ {o3 o4 o5 o6 : Option Value}, T_X1_settles Q 2 [some (.ref b), some (.ref 343), some (.int (nI p)), o3, o4, o5, o6] [] w' := by
    intro m
    induction m with
    | zero =>
      intro p w' hp hI o3 o4 o5 o6
      obtain ⟨e1, e2, e3, _, _⟩ := at_ hI
      refine r_X1_settles_2 ⟨e1, places e1 e2 e3 (r_X1_settles_7 ⟨fun _ => ⟨rfl, q w' ?_⟩, fun z => absurd ((n_le (a := wd * hg) (b := p) (by omega) (by omega)).mpr (by omega)) z⟩)⟩
      rw [show p = wd * hg by omega] at hI; exact hI
    | succ m ih =>
      intro p w' hp hI o3 o4 o5 o6
      obtain ⟨e1, e2, e3, eB, eL⟩ := at_ hI
      have xy := xy_lt (w := wd) (h := hg) (p := p) (by omega)
      have nz : ¬ (nI wd = (0 : Int32)) := by rw [show (nI wd = (0 : Int32)) ↔ wd = 0 from n_eq (b := 0) (by omega) (by omega)]; omega
      have ra : bs_irem (nI p) (nI wd) = nI (p % wd) := n_rem (by omega) (by omega)
      have da : nI p / nI wd = nI (p / wd) := n_div (by omega) (by omega)
      have sx1 : nI wd - 1 - nI (p % wd) = nI (wd - 1 - p % wd) := by rw [show nI wd - 1 = nI (wd - 1) from n_sub (a := wd) (b := 1) (by omega), n_sub (by omega)]
      have sy1 : nI hg - 1 - nI (p / wd) = nI (hg - 1 - p / wd) := by rw [show nI hg - 1 = nI (hg - 1) from n_sub (a := hg) (b := 1) (by omega), n_sub (by omega)]
      have u1 : p % wd < 8 := by omega
      have u2 : wd - 1 - p % wd < 8 := by omega
      have u3 : p / wd < 8 := Nat.lt_of_lt_of_le xy.2 (by omega)
      have u4 : hg - 1 - p / wd < 8 := Nat.lt_of_le_of_lt (Nat.sub_le _ _) (by omega)
      have u5 : min (p % wd) (wd - 1 - p % wd) < 8 := Nat.lt_of_le_of_lt (Nat.min_le_left _ _) u1
      have u6 : min (p / wd) (hg - 1 - p / wd) < 8 := Nat.lt_of_le_of_lt (Nat.min_le_left _ _) u3
      have edl : edW wd hg p < 8 := Nat.lt_of_le_of_lt (Nat.min_le_left _ _) u5
      have B8 : ∀ {n : Nat}, n < 8 → n < 2147483648 := fun h => Nat.lt_trans h (by decide)
      refine r_X1_settles_2 ⟨e1, places e1 e2 e3 (r_X1_settles_7 ?_)⟩
      rw [n_le (by omega) (by omega), e2, ra, da, sx1]
      refine ⟨fun z => by omega, fun _ => ⟨e1, nz, e1, nz, e1, x_min (B8 u1) (B8 u2) (r_X1_settles_37 ?_)⟩⟩
      rw [e3, sy1]
      refine ⟨e1, x_min (B8 u3) (B8 u4) (r_X1_settles_51 (x_min (B8 u5) (B8 u6) (r_X1_settles_54 ?_)))⟩
      have ee : min (min (p % wd) (wd - 1 - p % wd)) (min (p / wd) (hg - 1 - p / wd)) = edW wd hg p := rfl
      rw [ee, show (nI (edW wd hg p) = (0 : Int32)) ↔ edW wd hg p = 0 from n_eq (b := 0) (by omega) (by omega)]
      -- the rest of this place
      have rest : ∀ v : Int64, xL w' b 12 ||| v = bldL (fun p => decide (edW wd hg p = 0)) (p + 1) → T_X1_settles Q 73 [some (.ref b), some (.ref 343), some (.int (nI p)), some (.int (nI (p % wd))), some (.int (nI (p / wd))), some (.int (nI (edW wd hg p))), none] [.long v, .long (xL w' b 12), .ref b] w' := by
        intro v hv
        have f4 : xR w' = xR w := hI.1.2.2.2
        have f3 : xS w' = xS w := hI.1.2.2.1
        have t0 : Int32.toNatClampNeg 0 = 0 := by decide
        have t1 : Int32.toNatClampNeg 1 = 1 := by decide
        have t2 : Int32.toNatClampNeg 2 = 2 := by decide
        have in0 : vp_in 0 (51, 3).2 := (n_in (a := 0) (by omega)).mpr (by decide)
        have in1 : vp_in 1 (51, 3).2 := (n_in (a := 1) (by omega)).mpr (by decide)
        have in2 : vp_in 2 (51, 3).2 := (n_in (a := 2) (by omega)).mpr (by decide)
        have s5 : (xS w 343).1 = 5 := hm.1
        refine r_X1_settles_73 ?_
        rw [hv]
        simp only [xS_uL, xR_uL, xS_uI, xR_uI, f3, f4, hm.2.1, hm.2.2, r5, r9, t0, t1, t2]
        obtain ⟨W3, hW3⟩ : ∃ W3, W3 = xUpI (xUpI (xUpI (xUpL w' b 12 (bldL (fun p => decide (edW wd hg p = 0)) (p + 1))) 344 0 (nI (p % wd))) 344 1 (nI (p / wd))) 344 2 (nI (edW wd hg p)) := ⟨_, rfl⟩
        rw [← hW3]
        have N3 : xN W3 = xN w' ∧ xB W3 = xB w' ∧ xS W3 = xS w' ∧ xR W3 = xR w' := by rw [hW3]; exact ⟨rfl, rfl, rfl, rfl⟩
        have I3 : ∀ i, i ≠ 344 → xI W3 i = xI w' i := fun i hi => by
          rw [hW3]; funext j
          rw [x_uI, if_neg (by omega), x_uI, if_neg (by omega), x_uI, if_neg (by omega)]; rfl
        have L3 : ∀ i j, ¬ (i = b ∧ j = 12) → xL W3 i j = xL w' i j := fun i j hij => by
          rw [hW3]
          show (if i = b ∧ j = 12 then _ else xL w' i j) = _
          rw [if_neg hij]
        have L12 : xL W3 b 12 = bldL (fun p => decide (edW wd hg p = 0)) (p + 1) := by
          rw [hW3]; exact if_pos ⟨rfl, rfl⟩
        have M3 : XMo (p % wd) (p / wd) (edW wd hg p) W3 := by
          refine ⟨by rw [N3.2.2.1, f3]; exact hm.1, by rw [N3.2.2.2, f4]; exact hm.2.1, by rw [N3.2.2.1, f3]; exact hm.2.2, ?_, ?_, ?_⟩
          · rw [hW3, x_uI, if_neg (by omega), x_uI, if_neg (by omega), x_uI, if_pos ⟨rfl, rfl⟩]
          · rw [hW3, x_uI, if_neg (by omega), x_uI, if_pos ⟨rfl, rfl⟩]
          · rw [hW3, x_uI, if_pos ⟨rfl, rfl⟩]
        have S3 : SI wd hg (tR t) b (p + 1) p p 0 w W3 := by
          obtain ⟨⟨g1, g2, g3, g4⟩, ⟨g5, g6⟩, g7, g8, g9, g10⟩ := id hI
          refine ⟨⟨by rw [N3.1]; exact g1, by rw [N3.2.1]; exact g2, by rw [N3.2.2.1]; exact g3, by rw [N3.2.2.2]; exact g4⟩, ⟨fun i h1 h2 => by rw [I3 i h1]; exact g5 i h1 h2, fun i h1 h2 => by funext j; rw [L3 i j (fun z => h1 z.1), g6 i h1 h2]⟩, L12, fun u hu => by rw [I3 _ (by omega)]; exact g8 u hu, fun u v hu hv9 => by rw [I3 _ (by omega)]; exact g9 u v hu hv9, fun u v hu hv9 => by rw [L3 _ _ (by omega)]; exact g10 u v hu hv9⟩
        obtain ⟨a1, a2, a3, aB, aL⟩ := at_ S3
        have k3 := SI_k S3
        -- behind the worth
        have behind : T_X1_settles Q 126 [some (.ref b), some (.ref 343), some (.int (nI p)), none, none, none, none] [.int (nI (wrR (tR t) (p % wd) (p / wd) (edW wd hg p))), .int (nI p), .ref (b + 8)] W3 := by
          have s8' : xS W3 (b + 8) = (51, 36) := by rw [N3.2.2.1, f3]; exact s8
          have inp : vp_in (nI p) (51, 36).2 := (n_in (a := p) (by omega)).mpr (by show p < 36; omega)
          have inner : ∀ (m2 q2 : Nat) (w4 : xw), q2 + m2 = wd * hg → SI wd hg (tR t) b (p + 1) (p + 1) p q2 w w4 → ∀ {o3 o4 o5 : Option Value}, T_X1_settles Q 130 [some (.ref b), some (.ref 343), some (.int (nI p)), o3, o4, o5, some (.int (nI q2))] [] w4 := by
            intro m2
            induction m2 with
            | zero =>
              intro q2 w4 hq2 h4 o3 o4 o5
              obtain ⟨e1, e2, e3, _, _⟩ := at_ h4
              refine r_X1_settles_130 ⟨e1, places e1 e2 e3 (r_X1_settles_136 ⟨fun _ => ?_, fun z => absurd ((n_le (a := wd * hg) (b := q2) (by omega) (by omega)).mpr (by omega)) z⟩)⟩
              rw [show nI p + 1 = nI (p + 1) from n_add p 1]
              obtain ⟨g1, g2, g3, g4, g5, g6⟩ := h4
              refine ih (p + 1) w4 (by omega) ⟨g1, g2, g3, g4, fun u v hu hv9 => ?_, fun u v hu hv9 => ?_⟩
              · rw [g5 u v hu hv9]
                by_cases c : u < wd * hg ∧ v < wd * hg ∧ (u < p ∨ (u = p ∧ v < q2))
                · rw [if_pos c, if_pos (by omega)]
                · rw [if_neg c, if_neg (by omega)]
              · rw [g6 u v hu hv9]
                by_cases c : u < wd * hg ∧ v < wd * hg ∧ (u < p ∨ (u = p ∧ v < q2))
                · rw [if_pos c, if_pos (by omega)]
                · rw [if_neg c, if_neg (by omega)]
            | succ m2 ih2 =>
              intro q2 w4 hq2 h4 o3 o4 o5
              obtain ⟨e1, e2, e3, eB, _⟩ := at_ h4
              have xyq := xy_lt (w := wd) (h := hg) (p := q2) (by omega)
              have y8 : q2 / wd < 8 := Nat.lt_of_lt_of_le xyq.2 (by omega)
              obtain ⟨g1, g2, g3, g4, g5, g6⟩ := id h4
              refine r_X1_settles_130 ⟨e1, places e1 e2 e3 (r_X1_settles_136 ⟨fun z => absurd ((n_le (a := wd * hg) (b := q2) (by omega) (by omega)).mp z) (by omega), fun _ => ⟨e1, ?_⟩⟩)⟩
              refine x_blays (b := b) (wd := wd) (a := p) (c := q2) eB e2 hw3 ⟨by omega, u3⟩ ⟨by omega, y8⟩ (by rw [g5 p q2 (by omega) (by omega), if_neg (by omega)]) (by rw [g6 p q2 (by omega) (by omega), if_neg (by omega)]) (fun w5 f5 i5 l5 v5 x5 => r_X1_settles_146 ?_)
              rw [show nI q2 + 1 = nI (q2 + 1) from n_add q2 1]
              obtain ⟨d1, d2, d3, d4⟩ := f5
              refine ih2 (q2 + 1) w5 (by omega) ⟨⟨by rw [d1]; exact g1.1, by rw [d2]; exact g1.2.1, by rw [d3]; exact g1.2.2.1, by rw [d4]; exact g1.2.2.2⟩, ⟨fun i h1 h2 => ?_, fun i h1 h2 => ?_⟩, ?_, fun u hu => ?_, fun u v hu hv9 => ?_, fun u v hu hv9 => ?_⟩
              · funext j; rw [i5 i j (by omega), g2.1 i h1 h2]
              · funext j; rw [l5 i j (by omega), g2.2 i h1 h2]
              · rw [l5 b 12 (by omega)]; exact g3
              · rw [i5 (b + 8) u (by omega)]; exact g4 u hu
              · by_cases c : u = p ∧ v = q2
                · rw [c.1, c.2, v5, if_pos (by omega)]
                · rw [i5 (b + 10 + u) v (by omega), g5 u v hu hv9]
                  by_cases c2 : u < wd * hg ∧ v < wd * hg ∧ (u < p ∨ (u = p ∧ v < q2))
                  · rw [if_pos c2, if_pos (by omega)]
                  · rw [if_neg c2, if_neg (by omega)]
              · by_cases c : u = p ∧ v = q2
                · rw [c.1, c.2, x5, if_pos (by omega)]
                · rw [l5 (b + 47 + u) v (by omega), g6 u v hu hv9]
                  by_cases c2 : u < wd * hg ∧ v < wd * hg ∧ (u < p ∨ (u = p ∧ v < q2))
                  · rw [if_pos c2, if_pos (by omega)]
                  · rw [if_neg c2, if_neg (by omega)]
          refine r_X1_settles_126 ?_
          rw [s8', n_tn (by omega)]
          refine ⟨rfl, by omega, inp, inner (wd * hg) 0 _ (by omega) ?_⟩
          obtain ⟨g1, g2, g3, g4, g5, g6⟩ := id S3
          refine ⟨g1, ⟨fun i h1 h2 => by rw [(xUpI_ne W3 (b + 8) p _ i (by omega)).1]; exact g2.1 i h1 h2, g2.2⟩, g3, fun u hu => ?_, fun u v hu hv9 => by rw [x_uI, if_neg (by omega)]; exact g5 u v hu hv9, g6⟩
          rw [x_uI]
          by_cases c : u = p
          · rw [if_pos ⟨rfl, c⟩, c]
          · rw [if_neg (by omega)]; exact g4 u (by omega)
        refine ⟨b1', by omega, s5, by omega, by trivial, by omega, in0, s5, by omega, by trivial, by omega, in1, s5, by omega, by trivial, by omega, in2, b1', by omega, b1', by omega, by have := aL.1.1; rw [N3.2.2.1, f3] at this; exact this, x_isEmpty aL (by omega) (r_X1_settles_114 ⟨fun c => ⟨a1, ?_⟩, fun c => ?_⟩)⟩
        · have hne : ¬ (RL.length = 0) := decide_eq_false_iff_not.mp (bI_e0 c)
          refine x_bworth (P := fC b A D lim) (R := tR t) a1 (by rw [N3.2.2.2, f4]; exact r5) aL rl1 (fun k hk => ?_) M3 (by omega) (by omega) (by omega) (by omega) hR6 behind
          obtain ⟨d1, d2⟩ := rl2 k hk
          refine ⟨XRu_k d1 k3 (fun z => d2.2 (by unfold bC; omega)) (fun i hi => ⟨by have := hi.1; omega, fun z => hi.2 (by unfold bC; omega)⟩) (fun i hi => hi), fun z => d2.2 (by rw [z]; unfold bC; omega)⟩
        · have he0 : RL.length = 0 := decide_eq_true_eq.mp (bI_n0 c)
          have ew : wrR (tR t) (p % wd) (p / wd) (edW wd hg p) = 1 := by
            unfold wrR
            rw [show (tR t).length = 0 by omega]; rfl
          rw [ew] at behind
          exact behind
      refine ⟨e1, fun c => rest 0 ?_, fun c => rest _ ?_⟩
      · rw [hI.2.2.1]
        show _ = if decide (edW wd hg p = 0) = true then _ else _
        rw [if_neg (by rw [decide_eq_false c]; decide), Int64.or_zero]
      · rw [hI.2.2.1]
        show _ = if decide (edW wd hg p = 0) = true then _ else _
        rw [if_pos (by rw [decide_eq_true (Decidable.not_not.mp c)])]; rfl
  refine e_X1_settles (r_X1_settles_0 (outer (wd * hg) 0 w (by omega) ⟨⟨rfl, rfl, rfl, rfl⟩, ⟨fun _ _ _ => rfl, fun _ _ _ => rfl⟩, hz.1, fun u hu => by omega, fun u v hu hv => ?_, fun u v hu hv => ?_⟩))
  · rw [if_neg (by omega)]; exact hz.2.1 u v hu hv
  · rw [if_neg (by omega)]; exact hz.2.2 u v hu hv
end
