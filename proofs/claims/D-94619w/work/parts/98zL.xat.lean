/-! X: what a value object says -/
section
variable {Q : Option Value → xw → Prop} {w : xw}
/-- the moment: across, down, edge -/
def XMo (x y e : Nat) (w : xw) : Prop := (xS w 343).1 = 5 ∧ xR w 343 0 = 344 ∧ xS w 344 = (51, 3) ∧ xI w 344 0 = nI x ∧ xI w 344 1 = nI y ∧ xI w 344 2 = nI e
def xsm (P : Nat → Prop) (w w' : xw) : Prop := xN w ≤ xN w' ∧ ∀ i, P i → xS w' i = xS w i ∧ xI w' i = xI w i ∧ xL w' i = xL w i ∧ xR w' i = xR w i
theorem xsm_tr {P P' : Nat → Prop} {w1 w2 : xw} (h : xsm P w w1) (g : xsm P' w1 w2) (s : ∀ i, P i → P' i) : xsm P w w2 := ⟨Nat.le_trans h.1 g.1, fun i hi => by
  obtain ⟨a1, a2, a3, a4⟩ := h.2 i hi
  obtain ⟨b1, b2, b3, b4⟩ := g.2 i (s i hi)
  exact ⟨b1.trans a1, b2.trans a2, b3.trans a3, b4.trans a4⟩⟩
def Vat (d o : Nat) (w : xw) (Q : Option Value → xw → Prop) : Prop := ((xS w o).1 = 8 ∧ G_at d 0 [.ref o, .ref 343] w Q) ∨ ((xS w o).1 = 9 ∧ G_at d 1 [.ref o, .ref 343] w Q) ∨ ((xS w o).1 = 10 ∧ V_X11_at [.ref o, .ref 343] w Q) ∨ ((xS w o).1 = 11 ∧ V_X12_at [.ref o, .ref 343] w Q)
theorem Vat_c {d o : Nat} (h : Vat d o w Q) : (xS w o).1 = 8 ∨ (xS w o).1 = 9 ∨ (xS w o).1 = 10 ∨ (xS w o).1 = 11 := by
  rcases h with h | h | h | h
  · exact Or.inl h.1
  · exact Or.inr (Or.inl h.1)
  · exact Or.inr (Or.inr (Or.inl h.1))
  · exact Or.inr (Or.inr (Or.inr h.1))
/-- object o, with the cells of P, means what the codes reckon -/
def XVd (d : Nat) (P : Nat → Prop) (c : List Nat) (o : Nat) (w : xw) : Prop := cVal c ∧ (P o ∧ o ≠ 0) ∧ ∀ w', xsm P w w' → ∀ x y e : Nat, XMo x y e w' → x < 100 → y < 100 → e < 100 → ∀ (v : Int) (Q : Option Value → xw → Prop), (∀ s, runC x y e c s = some (v :: s)) → Q (some (.long (jZ v))) w' → ∀ d', d ≤ d' → Vat d' o w' Q
theorem XVd_m {d d1 : Nat} {P P' : Nat → Prop} {c : List Nat} {o : Nat} {w1 : xw} (h : XVd d P c o w) (hd : d ≤ d1) (g : xsm P w w1) (s : ∀ i, P i → P' i) : XVd d1 P' c o w1 :=
  ⟨h.1, ⟨s _ h.2.1.1, h.2.1.2⟩, fun w' hw x y e hm hx hy he v Q hr q d' hd' => h.2.2 w' (xsm_tr g hw s) x y e hm hx hy he v Q hr q d' (by omega)⟩
theorem v_fixed {P : Nat → Prop} {o n : Nat} (hs : (xS w o).1 = 10) (hl : xL w o 0 = jZ n) (hn : n ≤ 9999) (hP : P o) (h0 : o ≠ 0) : XVd 0 P [1000 + n] o w := by
  have run : ∀ x y e s, runC x y e [1000 + n] s = some ((n : Int) :: s) := fun x y e s => by
    refine run_one ?_
    unfold stC
    rw [if_pos (by omega), if_pos (by omega), show 1000 + n - 1000 = n by omega]
  refine ⟨fun x y e _ _ _ => ⟨n, by unfold b6; omega, fun s => run x y e s⟩, ⟨hP, h0⟩, fun w' hw x y e hm hx hy he v Q hr q d' hd' => ?_⟩
  obtain ⟨a1, a2, a3, a4⟩ := hw.2 o hP
  have ev : v = n := by
    have := (hr []).symm.trans (run x y e [])
    exact (List.cons.inj (Option.some.inj this)).1
  refine Or.inr (Or.inr (Or.inl ⟨by rw [a1]; exact hs, e_X11_at (r_X11_at_0 ⟨by rw [a1]; exact hs, rfl, ?_⟩)⟩))
  rw [a3, hl, ← ev]; exact q
theorem v_asked {P : Nat → Prop} {o k : Nat} (hs : (xS w o).1 = 11) (hl : xI w o 0 = nI k) (hk : k < 3) (hP : P o) (h0 : o ≠ 0) : XVd 0 P [7 + k] o w := by
  have run : ∀ x y e s, runC x y e [7 + k] s = some ((if k = 0 then (x : Int) else if k = 1 then (y : Int) else (e : Int)) :: s) := fun x y e s => by
    refine run_one ?_
    rw [stC_7 (by omega)]
    by_cases c0 : k = 0
    · rw [if_pos (by omega), if_pos c0]
    · by_cases c1 : k = 1
      · rw [if_neg (by omega), if_pos (by omega), if_neg c0, if_pos c1]
      · rw [if_neg (by omega), if_neg (by omega), if_neg c0, if_neg c1]
  refine ⟨fun x y e hx hy he => ⟨_, ?_, fun s => run x y e s⟩, ⟨hP, h0⟩, fun w' hw x y e hm hx hy he v Q hr q d' hd' => ?_⟩
  · unfold b6; split <;> try split
    all_goals omega
  obtain ⟨a1, a2, a3, a4⟩ := hw.2 o hP
  obtain ⟨m1, m2, m3, m4, m5, m6⟩ := hm
  have ev := (List.cons.inj (Option.some.inj ((hr []).symm.trans (run x y e [])))).1
  refine Or.inr (Or.inr (Or.inr ⟨by rw [a1]; exact hs, e_X12_at (r_X12_at_0 ?_)⟩))
  rw [a2, hl, m2, m3, n_tn (by omega)]
  refine ⟨m1, by omega, by rw [a1]; exact hs, rfl, (n_in (by omega)).mpr (by dsimp only; omega), rfl, ?_⟩
  rw [ev] at q
  by_cases c0 : k = 0
  · rw [c0, m4, jZ_n (by omega)]; rw [if_pos c0] at q; exact q
  · by_cases c1 : k = 1
    · rw [c1, m5, jZ_n (by omega)]; rw [if_neg c0, if_pos c1] at q; exact q
    · rw [show k = 2 by omega, m6, jZ_n (by omega)]; rw [if_neg c0, if_neg c1] at q; exact q
theorem v_pair {d : Nat} {P : Nat → Prop} {o o1 o2 k : Nat} {c1 c2 : List Nat} (hs : (xS w o).1 = 9) (hk : k = 5 ∨ k = 6) (hl : xI w o 0 = nI (k - 5)) (r1 : xR w o 1 = o1) (r2 : xR w o 2 = o2) (hP : P o) (h0 : o ≠ 0) (v1 : XVd d P c1 o1 w) (v2 : XVd d P c2 o2 w) : XVd (d + 1) P (c1 ++ c2 ++ [k]) o w := by
  refine ⟨val_op (by omega) v1.1 v2.1, ⟨hP, h0⟩, fun w' hw x y e hm hx hy he v Q hr q d' hd' => ?_⟩
  obtain ⟨a1, a2, a3, a4⟩ := hw.2 o hP
  obtain ⟨u1, b1, run1⟩ := v1.1 x y e hx hy he
  obtain ⟨u2, b2, run2⟩ := v2.1 x y e hx hy he
  obtain ⟨n, rfl⟩ : ∃ n, d' = n + 1 := ⟨d' - 1, by omega⟩
  have so : (xS w' o).1 = 9 := by rw [a1]; exact hs
  have e1 : xR w' o 1 = o1 := by rw [a4]; exact r1
  have e2 : xR w' o 2 = o2 := by rw [a4]; exact r2
  refine Or.inr (Or.inl ⟨so, e_X10_at (r_X10_at_0 ?_)⟩)
  rw [e1]
  refine ⟨so, v1.2.1.2, v1.2.2 w' hw x y e hm hx hy he u1 _ run1 (r_X10_at_8 ?_) n (by omega)⟩
  rw [e2]
  refine ⟨so, v2.2.1.2, v2.2.2 w' hw x y e hm hx hy he u2 _ run2 (r_X10_at_17 ?_) n (by omega)⟩
  rw [a2, hl, lg_cmp_le, jZ_le (b6_9 b1) (b6_9 b2)]
  have rt : ∀ r, opV k u1 u2 = some r → v = r := fun r h => by
    have t : runC x y e (c1 ++ c2 ++ [k]) [] = some (r :: []) := by
      rw [List.append_assoc, run_2 (run1 []), run_2 (run2 [u1])]
      exact run_one (stC_op h)
    exact (List.cons.inj (Option.some.inj ((hr []).symm.trans t))).1
  rcases hk with hk | hk <;> subst hk
  · have := rt (if u1 < u2 then u1 else u2) rfl
    refine ⟨so, fun g => ⟨fun z => absurd rfl z, fun _ => ⟨rfl, ?_⟩⟩, fun g => ⟨fun _ => ⟨rfl, ?_⟩, fun z => absurd (by decide) z⟩⟩
    · rw [this] at q
      by_cases h : u1 < u2
      · rw [if_pos h] at q; exact q
      · rw [if_neg h, show u2 = u1 by omega] at q; exact q
    · rw [this, if_neg (by omega)] at q; exact q
  · have := rt (if u2 < u1 then u1 else u2) rfl
    refine ⟨so, fun g => ⟨fun _ => ⟨rfl, ?_⟩, fun z => absurd (by decide) z⟩, fun g => ⟨fun z => absurd rfl z, fun _ => ⟨rfl, ?_⟩⟩⟩
    · rw [this, if_neg (by omega)] at q; exact q
    · rw [this, if_pos (by omega)] at q; exact q
/-- the codes of a chain: what its values reckon, each but the first with its sign -/
def chR (E : List (List Nat × Nat)) : List Nat := E.flatMap (fun q => q.1 ++ [sgC q.2])
def chC : List (List Nat × Nat) → List Nat
  | [] => []
  | q :: r => q.1 ++ chR r
theorem chC_app (E : List (List Nat × Nat)) (q : List Nat × Nat) (h : E ≠ []) : chC (E ++ [q]) = chC E ++ (q.1 ++ [sgC q.2]) := by
  cases E with
  | nil => exact absurd rfl h
  | cons p r =>
    show p.1 ++ chR (r ++ [q]) = p.1 ++ chR r ++ _
    unfold chR
    rw [List.flatMap_append, List.append_assoc]
    simp
theorem XLa_s {L : List Nat} {l A cap : Nat} {P : Nat → Prop} {w' : xw} (h : XLa L l A cap w) (k : xsm P w w') (h1 : P l) (h2 : P A) (h3 : ∀ v, v ∈ L → P v) : XLa L l A cap w' := by
  obtain ⟨⟨a1, a2, a3⟩, b1, ⟨c1, c2, c3, c4⟩, d1, e1, g1, g2⟩ := h
  obtain ⟨z0, z1, z2, z3⟩ := k.2 l h1
  obtain ⟨y0, y1, y2, y3⟩ := k.2 A h2
  have nn := k.1
  refine ⟨⟨by rw [z0]; exact a1, a2, by omega⟩, by rw [z1]; exact b1, ⟨by rw [z3]; exact c1, c2, by omega, c4⟩, by rw [y0]; exact d1, e1, fun j hj => by rw [y3]; exact g1 j hj, fun v hv => ?_⟩
  obtain ⟨x1, x2⟩ := g2 v hv
  exact ⟨by unfold xIsO at x1 ⊢; rw [(k.2 v (h3 v hv)).1]; exact x1, by omega⟩
theorem XSb_s {S : List Nat} {b A cap : Nat} {P : Nat → Prop} {w' : xw} (h : XSb S b A cap w) (k : xsm P w w') (h1 : P b) (h2 : P A) : XSb S b A cap w' := by
  obtain ⟨⟨h1', h2', h3⟩, ⟨h4, h4'⟩, ⟨h5, h6, h7, h8⟩, h9, i1, i4, i5, i6⟩ := h
  obtain ⟨z0, z1, z2, z3⟩ := k.2 b h1
  obtain ⟨y0, y1, y2, y3⟩ := k.2 A h2
  have nn := k.1
  exact ⟨⟨by rw [z0]; exact h1', h2', by omega⟩, ⟨by rw [z1]; exact h4, by rw [z1]; exact h4'⟩, ⟨by rw [z3]; exact h5, h6, by omega, h8⟩, by rw [y0]; exact h9, i1, fun j hj => by rw [y1]; exact i4 j hj, i5, fun j a b => by rw [y1]; exact i6 j a b⟩
theorem getD_ne {L : List Nat} {k : Nat} (h : k < L.length) : L.getD k 0 ∈ L := getD_mem h
theorem x_lgetA {L : List Nat} {l A cap k : Nat} (h : XLa L l A cap w) (hk : k < L.length) (h0 : L.getD k 0 ≠ 0) (q : Q (some (.ref (L.getD k 0))) w) : V_J2_get [.ref l, .int (nI k)] w Q := by
  obtain ⟨⟨a1, a2, a3⟩, b1, ⟨c1, c2, c3, c4⟩, d1, e1, g1, g2⟩ := h
  exact x_lget a1 b1 (by omega) (by omega) (by rw [c1, d1]) (by rw [c1, d1]; exact e1.1) hk (by rw [c1]; exact g1 k hk) h0 q
theorem x_lsize {L : List Nat} {l A cap : Nat} (h : XLa L l A cap w) (q : Q (some (.int (nI L.length))) w) : V_J2_size [.ref l] w Q :=
  e_J2_size (r_J2_size_0 ⟨h.1.1, trivial, by rw [h.2.1]; exact q⟩)
theorem sgC_in (s : Nat) : 1 ≤ sgC s ∧ sgC s ≤ 6 := by
  unfold sgC
  split
  · omega
  split
  · omega
  split <;> omega
set_option maxHeartbeats 1000000 in
theorem v_chain {d : Nat} {P : Nat → Prop} {L : List Nat} {E : List (List Nat × Nat)} {c A D : Nat} (h : XCh L (E.map (fun q => q.2)) c A D w) (hP : P c ∧ P (c + 1) ∧ P A ∧ P (c + 3) ∧ P D) (hE : 0 < E.length) (hs : ∀ q, q ∈ E → sgB q.2) (hv : ∀ k, k < E.length → XVd d P (E.getD k ([], 0)).1 (L.getD k 0) w) : XVd (d + 1) P (chC E) c w := by
  obtain ⟨⟨h1, h2, h3⟩, ⟨h4, h5⟩, hne, hl, ⟨cap, hA⟩, cp, hS, h16⟩ := h
  have hlE : L.length = E.length := by rw [hl, List.length_map]
  have l5 : L.length ≤ 100000 := by have := hA.2.2.2.2.1; omega
  have eget : ∀ k, k < E.length → E[k]? = some (E.getD k ([], 0)) := fun k hk => by
    rw [List.getD_eq_getElem?_getD, List.getElem?_eq_getElem hk]; rfl
  have emem : ∀ k, k < E.length → E.getD k ([], 0) ∈ E := fun k hk => List.mem_of_getElem? (eget k hk)
  have tk : ∀ k, k < E.length → E.take (k + 1) = E.take k ++ [E.getD k ([], 0)] := fun k hk => by
    rw [List.take_add_one, eget k hk]; rfl
  have step : ∀ x y e, x < 100 → y < 100 → e < 100 → ∀ k, 1 ≤ k → k < E.length → ∀ v0 : Int, b6 v0 → (∀ s, runC x y e (chC (E.take k)) s = some (v0 :: s)) → ∃ u r, b6 u ∧ b6 r ∧ (∀ s, runC x y e (E.getD k ([], 0)).1 s = some (u :: s)) ∧ opV (sgC (E.getD k ([], 0)).2) v0 u = some r ∧ ∀ s, runC x y e (chC (E.take (k + 1))) s = some (r :: s) := by
    intro x y e hx hy he k k1 hk v0 hb0 h0
    obtain ⟨u, hu, ru⟩ := (hv k hk).1 x y e hx hy he
    have hsg := sgC_in (E.getD k ([], 0)).2
    obtain ⟨r, hr⟩ := op14 hsg v0 u
    refine ⟨u, r, hu, opV_b hb0 hu hr, ru, hr, fun s => ?_⟩
    rw [tk k hk, chC_app _ _ (by intro z; have := congrArg List.length z; rw [List.length_take, List.length_nil] at this; omega), run_2 (h0 s), run_2 (ru (v0 :: s))]
    exact run_one (stC_op hr)
  have first : ∀ x y e s, runC x y e (chC (E.take 1)) s = runC x y e (E.getD 0 ([], 0)).1 s := fun x y e s => by
    rw [show (1 : Nat) = 0 + 1 from rfl, tk 0 hE]
    show runC x y e ((E.getD 0 ([], 0)).1 ++ []) s = _
    rw [List.append_nil]
  have val : cVal (chC E) := fun x y e hx hy he => by
    have : ∀ k, 1 ≤ k → k ≤ E.length → ∃ v : Int, b6 v ∧ ∀ s, runC x y e (chC (E.take k)) s = some (v :: s) := by
      intro k
      induction k with
      | zero => intro z; omega
      | succ k ih =>
        intro _ hk
        by_cases c0 : k = 0
        · subst c0
          obtain ⟨u, hu, ru⟩ := (hv 0 hE).1 x y e hx hy he
          exact ⟨u, hu, fun s => by rw [show 0 + 1 = 1 from rfl, first]; exact ru s⟩
        · obtain ⟨v0, b0, r0⟩ := ih (by omega) (by omega)
          obtain ⟨u, r, _, hr, _, _, rr⟩ := step x y e hx hy he k (by omega) (by omega) v0 b0 r0
          exact ⟨r, hr, rr⟩
    have := this E.length hE (Nat.le_refl _)
    rw [List.take_length] at this; exact this
  refine ⟨val, ⟨hP.1, by omega⟩, fun w' hw x y e hm hx hy he v Q hr q d' hd' => ?_⟩
  obtain ⟨n, rfl⟩ : ∃ n, d' = n + 1 := ⟨d' - 1, by omega⟩
  obtain ⟨a1, a2, a3, a4⟩ := hw.2 c hP.1
  have so : (xS w' c).1 = 8 := by rw [a1]; exact h1
  have e0 : xR w' c 0 = c + 1 := by rw [a4]; exact h4
  have e1 : xR w' c 1 = c + 3 := by rw [a4]; exact h5
  have A' : XLa L (c + 1) A cap w' := XLa_s hA hw hP.2.1 hP.2.2.1 (fun o ho => by
    obtain ⟨k, hk, ek⟩ := List.mem_iff_getElem.mp ho
    have := (hv k (by omega)).2.1.1
    rw [List.getD_eq_getElem?_getD, List.getElem?_eq_getElem hk] at this
    rw [← ek]; exact this)
  have S' : XSb (E.map (fun q => q.2)) (c + 3) D cp w' := XSb_s hS hw hP.2.2.2.1 hP.2.2.2.2
  have sg : ∀ k, k < E.length → (E.map (fun q => q.2)).getD k 0 = (E.getD k ([], 0)).2 := fun k hk => by
    rw [List.getD_eq_getElem?_getD, List.getElem?_map, eget k hk]; rfl
  refine Or.inl ⟨so, e_X9_at (r_X9_at_0 ?_)⟩
  rw [e0]
  refine ⟨so, by omega, A'.1.1, x_lgetA (k := 0) A' (by omega) (hv 0 hE).2.1.2 (r_X9_at_10 ?_)⟩
  obtain ⟨u0, b0, r0⟩ := (hv 0 hE).1 x y e hx hy he
  have loop : ∀ (m k : Nat) (v0 : Int), k + m = E.length → 1 ≤ k → b6 v0 → (∀ s, runC x y e (chC (E.take k)) s = some (v0 :: s)) → ∀ {o3 : Option Value}, T_X9_at n Q 21 [some (.ref c), some (.ref 343), some (.long (jZ v0)), o3, some (.int (nI k))] [] w' := by
    intro m
    induction m with
    | zero =>
      intro k v0 hk k1 hb0 h0 o3
      refine r_X9_at_21 ?_
      rw [e0]
      refine ⟨so, by omega, A'.1.1, x_lsize A' (r_X9_at_32 ?_)⟩
      rw [n_le (by omega) (by omega)]
      refine ⟨fun _ => ⟨rfl, ?_⟩, fun z => absurd (by omega) z⟩
      have e9 : E.take k = E := List.take_of_length_le (by omega)
      rw [e9] at h0
      rw [(List.cons.inj (Option.some.inj ((hr []).symm.trans (h0 [])))).1] at q
      exact q
    | succ m ih =>
      intro k v0 hk k1 hb0 h0 o3
      obtain ⟨u, r, hu, hr6, ru, hop, rr⟩ := step x y e hx hy he k k1 (by omega) v0 hb0 h0
      have vk := hv k (by omega)
      refine r_X9_at_21 ?_
      rw [e0]
      refine ⟨so, by omega, A'.1.1, x_lsize A' (r_X9_at_32 ?_)⟩
      rw [n_le (by omega) (by omega), e1]
      refine ⟨fun z => by omega, fun _ => ⟨so, by omega, S'.1.1, x_chAt (k := k) S' (by rw [List.length_map]; omega) (r_X9_at_44 ?_)⟩⟩
      rw [e0, sg k (by omega)]
      refine ⟨so, by omega, A'.1.1, x_lgetA (k := k) A' (by omega) vk.2.1.2 (r_X9_at_56 ?_)⟩
      have V := vk.2.2 w' hw x y e hm hx hy he u (fun v w1 => T_X9_at n Q 63 [some (.ref c), some (.ref 343), none, none, some (.int (nI k))] (v.toList ++ [.long (jZ v0), .int (nI (E.getD k ([], 0)).2)]) w1) ru (r_X9_at_63 (x_two (hs _ (emem k (by omega))) hb0 hu hop (fun r9 hb9 hc9 => r_X9_at_66 (x_held hb9 (r_X9_at_69 ?_))))) n (by omega)
      · exact ⟨Vat_c V, V⟩
      · rw [hc9, show nI k + 1 = nI (k + 1) from n_add k 1]
        exact ih (k + 1) r (by omega) (by omega) hr6 rr
  have V := (hv 0 hE).2.2 w' hw x y e hm hx hy he u0 (fun v w1 => T_X9_at n Q 17 [some (.ref c), some (.ref 343), none, none, none] (v.toList ++ []) w1) r0 (r_X9_at_17 (loop (E.length - 1) 1 u0 (by omega) (Nat.le_refl _) b0 (fun s => by rw [first]; exact r0 s))) n (by omega)
  exact ⟨Vat_c V, V⟩
end
