/-! X: what a test object says -/
section
variable {Q : Option Value → xw → Prop} {w : xw}
def Vho (d o : Nat) (w : xw) (Q : Option Value → xw → Prop) : Prop := ((xS w o).1 = 13 ∧ G_holds d 0 [.ref o, .ref 343] w Q) ∨ ((xS w o).1 = 14 ∧ G_holds d 1 [.ref o, .ref 343] w Q) ∨ ((xS w o).1 = 15 ∧ V_X17_holds [.ref o, .ref 343] w Q) ∨ ((xS w o).1 = 16 ∧ V_X18_holds [.ref o, .ref 343] w Q)
theorem Vho_c {d o : Nat} (h : Vho d o w Q) : (xS w o).1 = 13 ∨ (xS w o).1 = 14 ∨ (xS w o).1 = 15 ∨ (xS w o).1 = 16 := by
  rcases h with h | h | h | h
  · exact Or.inl h.1
  · exact Or.inr (Or.inl h.1)
  · exact Or.inr (Or.inr (Or.inl h.1))
  · exact Or.inr (Or.inr (Or.inr h.1))
def bZ (b : Bool) : Int := if b then 1 else 0
theorem bZ_inj {a b : Bool} (h : bZ a = bZ b) : a = b := by
  cases a <;> cases b <;> first | rfl | exact absurd h (by decide)
theorem bZ_of {v : Int} (h : v = 0 ∨ v = 1) : ∃ b, v = bZ b := by
  rcases h with g | g
  · exact ⟨false, g⟩
  · exact ⟨true, g⟩
/-- object o, with the cells of P, is the test that the codes reckon -/
def XTd (d : Nat) (P : Nat → Prop) (c : List Nat) (o : Nat) (w : xw) : Prop := cTst c ∧ (P o ∧ o ≠ 0) ∧ ∀ w', xsm P w w' → ∀ x y e : Nat, XMo x y e w' → x < 100 → y < 100 → e < 100 → ∀ (b : Bool) (Q : Option Value → xw → Prop), (∀ s, runC x y e c s = some (bZ b :: s)) → Q (some (.int (bI b))) w' → ∀ d', d ≤ d' → Vho d' o w' Q
theorem XTd_m {d d1 : Nat} {P P' : Nat → Prop} {c : List Nat} {o : Nat} {w1 : xw} (h : XTd d P c o w) (hd : d ≤ d1) (g : xsm P w w1) (s : ∀ i, P i → P' i) : XTd d1 P' c o w1 :=
  ⟨h.1, ⟨s _ h.2.1.1, h.2.1.2⟩, fun w' hw x y e hm hx hy he v Q hr q d' hd' => h.2.2 w' (xsm_tr g hw s) x y e hm hx hy he v Q hr q d' (by omega)⟩
theorem run_in {x y e : Nat} {c : List Nat} {u v : Int} (h : ∀ s, runC x y e c s = some (u :: s)) (g : ∀ s, runC x y e c s = some (v :: s)) : u = v := (List.cons.inj (Option.some.inj ((h []).symm.trans (g [])))).1
theorem t_all {P : Nat → Prop} {o : Nat} (hs : (xS w o).1 = 15) (hP : P o) (h0 : o ≠ 0) : XTd 0 P [17] o w := by
  have run : ∀ x y e s, runC x y e [17] s = some ((1 : Int) :: s) := fun x y e s => run_one rfl
  refine ⟨fun x y e _ _ _ => ⟨1, Or.inr rfl, fun s => run x y e s⟩, ⟨hP, h0⟩, fun w' hw x y e hm hx hy he b Q hr q d' hd' => ?_⟩
  have ev := run_in hr (run x y e)
  have eb : b = true := bZ_inj (b := true) ev
  subst eb
  obtain ⟨a1, a2, a3, a4⟩ := hw.2 o hP
  exact Or.inr (Or.inr (Or.inl ⟨by rw [a1]; exact hs, e_X17_holds (r_X17_holds_0 ⟨nr_1, q⟩)⟩))
def cmK (s : Nat) : Nat := if s = 60 then 11 else if s = 62 then 12 else 13
theorem t_than {P : Nat → Prop} {o o1 o2 s : Nat} {c1 c2 : List Nat} (hs : (xS w o).1 = 16) (hk : s = 60 ∨ s = 62 ∨ s = 61) (hl : xI w o 2 = nI s) (r1 : xR w o 0 = o1) (r2 : xR w o 1 = o2) (hP : P o) (h0 : o ≠ 0) (v1 : XVd 24 P c1 o1 w) (v2 : XVd 24 P c2 o2 w) : XTd 0 P (c1 ++ c2 ++ [cmK s]) o w := by
  have hkk : cmK s = 11 ∨ cmK s = 12 ∨ cmK s = 13 := by rcases hk with g | g | g <;> subst g <;> decide
  refine ⟨tst_cmp hkk v1.1 v2.1, ⟨hP, h0⟩, fun w' hw x y e hm hx hy he b Q hr q d' hd' => ?_⟩
  obtain ⟨a1, a2, a3, a4⟩ := hw.2 o hP
  obtain ⟨u1, b1, run1⟩ := v1.1 x y e hx hy he
  obtain ⟨u2, b2, run2⟩ := v2.1 x y e hx hy he
  have so : (xS w' o).1 = 16 := by rw [a1]; exact hs
  have e1 : xR w' o 0 = o1 := by rw [a4]; exact r1
  have e2 : xR w' o 1 = o2 := by rw [a4]; exact r2
  refine Or.inr (Or.inr (Or.inr ⟨so, e_X18_holds (r_X18_holds_0 ?_)⟩))
  rw [e1]
  refine ⟨so, v1.2.1.2, v1.2.2 w' hw x y e hm hx hy he u1 _ run1 (r_X18_holds_8 ?_) 24 (by omega)⟩
  rw [e2]
  refine ⟨so, v2.2.1.2, v2.2.2 w' hw x y e hm hx hy he u2 _ run2 (r_X18_holds_17 ?_) 24 (by omega)⟩
  have rt : ∀ r, opV (cmK s) u1 u2 = some r → bZ b = r := fun r h => by
    refine run_in hr (fun s9 => ?_)
    rw [List.append_assoc, run_2 (run1 s9), run_2 (run2 (u1 :: s9))]
    exact run_one (stC_op h)
  rw [a2, hl, lg_cmp_le, lg_cmp_eq, lg_cmp_ge, jZ_le (b6_9 b1) (b6_9 b2), jZ_le (b6_9 b2) (b6_9 b1), jZ_eq (b6_9 b1) (b6_9 b2)]
  have fin : ∀ c : Bool, bZ b = bZ c → Q (some (.int (bI c))) w' := fun c h => by rw [← bZ_inj h]; exact q
  rcases hk with g | g | g <;> subst g
  · have := rt (if u1 < u2 then 1 else 0) rfl
    refine ⟨so, fun z => absurd rfl z, fun _ => ⟨fun g => ⟨nr_0, fin false ?_⟩, fun g => ⟨nr_1, fin true ?_⟩⟩⟩
    · rw [this, if_neg (by omega)]; rfl
    · rw [this, if_pos (by omega)]; rfl
  · have := rt (if u2 < u1 then 1 else 0) rfl
    refine ⟨so, fun _ => ⟨so, fun z => absurd rfl z, fun _ => ⟨fun g => ⟨nr_0, fin false ?_⟩, fun g => ⟨nr_1, fin true ?_⟩⟩⟩, fun z => absurd (by decide) z⟩
    · rw [this, if_neg (by omega)]; rfl
    · rw [this, if_pos (by omega)]; rfl
  · have := rt (if u1 = u2 then 1 else 0) rfl
    refine ⟨so, fun _ => ⟨so, fun _ => ⟨fun g => ⟨nr_0, fin false ?_⟩, fun g => ⟨nr_1, fin true ?_⟩⟩, fun z => absurd (by decide) z⟩, fun z => absurd (by decide) z⟩
    · rw [this, if_neg g]; rfl
    · rw [this, if_pos (Decidable.not_not.mp g)]; rfl
theorem t_not {d : Nat} {P : Nat → Prop} {o o1 : Nat} {c1 : List Nat} (hs : (xS w o).1 = 14) (r1 : xR w o 0 = o1) (hP : P o) (h0 : o ≠ 0) (v1 : XTd d P c1 o1 w) : XTd (d + 1) P (c1 ++ [16]) o w := by
  refine ⟨tst_not v1.1, ⟨hP, h0⟩, fun w' hw x y e hm hx hy he b Q hr q d' hd' => ?_⟩
  obtain ⟨a1, a2, a3, a4⟩ := hw.2 o hP
  obtain ⟨u1, h01, run1⟩ := v1.1 x y e hx hy he
  obtain ⟨b1, rfl⟩ := bZ_of h01
  obtain ⟨n, rfl⟩ : ∃ n, d' = n + 1 := ⟨d' - 1, by omega⟩
  have so : (xS w' o).1 = 14 := by rw [a1]; exact hs
  have e1 : xR w' o 0 = o1 := by rw [a4]; exact r1
  have eb : b = !b1 := by
    refine bZ_inj (run_in hr (fun s => ?_))
    rw [run_2 (run1 s)]
    refine run_one ?_
    cases b1 <;> rfl
  subst eb
  refine Or.inr (Or.inl ⟨so, e_X16_holds (r_X16_holds_0 ?_)⟩)
  rw [e1]
  refine ⟨so, v1.2.1.2, v1.2.2 w' hw x y e hm hx hy he b1 _ run1 (r_X16_holds_8 ?_) n (by omega)⟩
  cases b1
  · exact ⟨fun z => absurd rfl z, fun _ => ⟨nr_1, q⟩⟩
  · exact ⟨fun _ => ⟨nr_0, q⟩, fun z => absurd (by decide) z⟩
/-- the codes of facts: all (14) or one (15) of them -/
def faR (k : Nat) (E : List (List Nat)) : List Nat := E.flatMap (fun q => q ++ [k])
def faC (k : Nat) : List (List Nat) → List Nat
  | [] => []
  | q :: r => q ++ faR k r
theorem faC_app (k : Nat) (E : List (List Nat)) (q : List Nat) (h : E ≠ []) : faC k (E ++ [q]) = faC k E ++ (q ++ [k]) := by
  cases E with
  | nil => exact absurd rfl h
  | cons p r =>
    show p ++ faR k (r ++ [q]) = p ++ faR k r ++ _
    unfold faR
    rw [List.flatMap_append, List.append_assoc]
    simp
/-- Facts f: the tests L, all of them or one -/
def XFa (L : List Nat) (u f A : Nat) (w : xw) : Prop := ((xS w f).1 = 13 ∧ 256 ≤ f ∧ f < xN w) ∧ (xR w f 0 = f + 1 ∧ xI w f 1 = nI u) ∧ f + 2 ≤ A ∧ u ≤ 1 ∧ ∃ cap, XLa L (f + 1) A cap w
theorem op_b {k u : Nat} (hk : k = 15 - u) (hu : u ≤ 1) (a b : Bool) : opV k (bZ a) (bZ b) = some (bZ (if u = 1 then a && b else a || b)) := by
  have : u = 0 ∨ u = 1 := by omega
  rcases this with g | g <;> subst g <;> subst hk <;> cases a <;> cases b <;> rfl
set_option maxHeartbeats 1000000 in
theorem t_facts {d : Nat} {P : Nat → Prop} {L : List Nat} {E : List (List Nat)} {k u f A : Nat} (h : XFa L u f A w) (hk : k = 15 - u) (hP : P f ∧ P (f + 1) ∧ P A) (hE : 0 < E.length) (hlE : L.length = E.length) (hv : ∀ j, j < E.length → XTd d P (E.getD j []) (L.getD j 0) w) : XTd (d + 1) P (faC k E) f w := by
  obtain ⟨⟨h1, h2, h3⟩, ⟨h4, h5⟩, hne, hu, cap, hA⟩ := h
  have l5 : L.length ≤ 100000 := by have := hA.2.2.2.2.1; omega
  have eget : ∀ j, j < E.length → E[j]? = some (E.getD j []) := fun j hj => by
    rw [List.getD_eq_getElem?_getD, List.getElem?_eq_getElem hj]; rfl
  have tk : ∀ j, j < E.length → E.take (j + 1) = E.take j ++ [E.getD j []] := fun j hj => by
    rw [List.take_add_one, eget j hj]; rfl
  have step : ∀ x y e, x < 100 → y < 100 → e < 100 → ∀ j, 1 ≤ j → j < E.length → ∀ v0 : Bool, (∀ s, runC x y e (faC k (E.take j)) s = some (bZ v0 :: s)) → ∃ b : Bool, (∀ s, runC x y e (E.getD j []) s = some (bZ b :: s)) ∧ ∀ s, runC x y e (faC k (E.take (j + 1))) s = some (bZ (if u = 1 then v0 && b else v0 || b) :: s) := by
    intro x y e hx hy he j j1 hj v0 h0
    obtain ⟨b, hb, ru⟩ := (hv j hj).1 x y e hx hy he
    obtain ⟨b, rfl⟩ := bZ_of hb
    refine ⟨b, ru, fun s => ?_⟩
    rw [tk j hj, faC_app _ _ _ (by intro z; have := congrArg List.length z; rw [List.length_take, List.length_nil] at this; omega), run_2 (h0 s), run_2 (ru (bZ v0 :: s))]
    exact run_one (stC_op (op_b hk hu v0 b))
  have first : ∀ x y e s, runC x y e (faC k (E.take 1)) s = runC x y e (E.getD 0 []) s := fun x y e s => by
    rw [show (1 : Nat) = 0 + 1 from rfl, tk 0 hE]
    show runC x y e ((E.getD 0 []) ++ []) s = _
    rw [List.append_nil]
  have run0 : ∀ x y e, x < 100 → y < 100 → e < 100 → ∃ b : Bool, (∀ s, runC x y e (E.getD 0 []) s = some (bZ b :: s)) ∧ ∀ s, runC x y e (faC k (E.take 1)) s = some (bZ b :: s) := fun x y e hx hy he => by
    obtain ⟨b, hb, ru⟩ := (hv 0 hE).1 x y e hx hy he
    obtain ⟨b, rfl⟩ := bZ_of hb
    exact ⟨b, ru, fun s => by rw [first]; exact ru s⟩
  have val : cTst (faC k E) := fun x y e hx hy he => by
    have : ∀ j, 1 ≤ j → j ≤ E.length → ∃ v : Bool, ∀ s, runC x y e (faC k (E.take j)) s = some (bZ v :: s) := by
      intro j
      induction j with
      | zero => intro z; omega
      | succ j ih =>
        intro _ hj
        by_cases c0 : j = 0
        · subst c0
          obtain ⟨b, _, r⟩ := run0 x y e hx hy he
          exact ⟨b, r⟩
        · obtain ⟨v0, r0⟩ := ih (by omega) (by omega)
          obtain ⟨b, _, rr⟩ := step x y e hx hy he j (by omega) (by omega) v0 r0
          exact ⟨_, rr⟩
    obtain ⟨v, hv9⟩ := this E.length hE (Nat.le_refl _)
    rw [List.take_length] at hv9
    refine ⟨bZ v, ?_, hv9⟩
    cases v
    · exact Or.inl rfl
    · exact Or.inr rfl
  refine ⟨val, ⟨hP.1, by omega⟩, fun w' hw x y e hm hx hy he b Q hr q d' hd' => ?_⟩
  obtain ⟨n, rfl⟩ : ∃ n, d' = n + 1 := ⟨d' - 1, by omega⟩
  obtain ⟨a1, a2, a3, a4⟩ := hw.2 f hP.1
  have so : (xS w' f).1 = 13 := by rw [a1]; exact h1
  have e0 : xR w' f 0 = f + 1 := by rw [a4]; exact h4
  have eu : xI w' f 1 = nI u := by rw [a2]; exact h5
  have A' : XLa L (f + 1) A cap w' := XLa_s hA hw hP.2.1 hP.2.2 (fun o ho => by
    obtain ⟨j, hj, ej⟩ := List.mem_iff_getElem.mp ho
    have := (hv j (by omega)).2.1.1
    rw [List.getD_eq_getElem?_getD, List.getElem?_eq_getElem hj] at this
    rw [← ej]; exact this)
  -- what the rest of the facts says when all so far were as they should
  have tail : ∀ m j, j + m = E.length → 1 ≤ j → (∀ s, runC x y e (faC k (E.take j)) s = some (bZ (decide (u = 0)) :: s)) → b = decide (u = 0) := by
    intro m
    induction m with
    | zero =>
      intro j hj j1 h0
      rw [List.take_of_length_le (by omega)] at h0
      exact bZ_inj (run_in hr h0)
    | succ m ih =>
      intro j hj j1 h0
      obtain ⟨b9, _, rr⟩ := step x y e hx hy he j j1 (by omega) _ h0
      refine ih (j + 1) (by omega) (by omega) ?_
      have : u = 0 ∨ u = 1 := by omega
      rcases this with g | g <;> subst g
      · exact rr
      · exact rr
  have loop : ∀ (m j : Nat), j + m = E.length → (1 ≤ j → ∀ s, runC x y e (faC k (E.take j)) s = some (bZ (decide (u = 1)) :: s)) → T_X15_holds n Q 2 [some (.ref f), some (.ref 343), some (.int (nI j))] [] w' := by
    intro m
    induction m with
    | zero =>
      intro j hj h0
      refine r_X15_holds_2 ?_
      rw [e0]
      refine ⟨so, by omega, A'.1.1, x_lsize A' (r_X15_holds_12 ?_)⟩
      rw [n_le (by omega) (by omega), eu]
      have h0 := h0 (by omega)
      rw [List.take_of_length_le (by omega)] at h0
      have eb := bZ_inj (run_in hr h0)
      have e9 : nI u = bI b := by
        have : u = 0 ∨ u = 1 := by omega
        rcases this with g | g <;> subst g <;> rw [eb] <;> rfl
      refine ⟨fun _ => ⟨so, by rw [e9]; exact nr_b b, ?_⟩, fun z => absurd (by omega) z⟩
      rw [e9]; exact q
    | succ m ih =>
      intro j hj h0
      have vj := hv j (by omega)
      refine r_X15_holds_2 ?_
      rw [e0]
      refine ⟨so, by omega, A'.1.1, x_lsize A' (r_X15_holds_12 ?_)⟩
      rw [n_le (by omega) (by omega), e0]
      refine ⟨fun z => by omega, fun _ => ⟨so, by omega, A'.1.1, x_lgetA (k := j) A' (by omega) vj.2.1.2 (r_X15_holds_25 ?_)⟩⟩
      obtain ⟨bj, hbj, ruj⟩ := vj.1 x y e hx hy he
      obtain ⟨bj, rfl⟩ := bZ_of hbj
      have nx : ∀ s, runC x y e (faC k (E.take (j + 1))) s = some (bZ bj :: s) := by
        by_cases j0 : j = 0
        · subst j0
          intro s; rw [show 0 + 1 = 1 from rfl, first]; exact ruj s
        · obtain ⟨b9, r9, rr⟩ := step x y e hx hy he j (by omega) (by omega) _ (h0 (by omega))
          have e9 : b9 = bj := bZ_inj (run_in r9 ruj)
          subst e9
          have : u = 0 ∨ u = 1 := by omega
          rcases this with g | g <;> subst g
          · exact rr
          · cases b9 <;> exact rr
      have V := vj.2.2 w' hw x y e hm hx hy he bj (fun v w1 => T_X15_holds n Q 32 [some (.ref f), some (.ref 343), some (.int (nI j))] (v.toList ++ []) w1) ruj (r_X15_holds_32 ?_) n (by omega)
      · exact ⟨Vho_c V, V⟩
      · rw [eu, show nI j + 1 = nI (j + 1) from n_add j 1]
        have hu01 : u = 0 ∨ u = 1 := by omega
        refine ⟨so, fun z => ih (j + 1) (by omega) (fun _ => ?_), fun z => ⟨so, ?_⟩⟩
        · have e9 : bj = decide (u = 1) := by
            rcases hu01 with g | g <;> subst g <;> cases bj <;> first | rfl | exact absurd z (by decide)
          rw [← e9]; exact nx
        · have e9 : bj = decide (u = 0) := by
            rcases hu01 with g | g <;> subst g <;> cases bj <;> first | rfl | exact absurd (by decide) z
          rw [e9] at nx
          have eb := tail (E.length - (j + 1)) (j + 1) (by omega) (by omega) nx
          rw [eb] at q
          rcases hu01 with g | g <;> subst g
          · exact ⟨fun y => absurd rfl y, fun _ => ⟨nr_1, q⟩⟩
          · exact ⟨fun _ => ⟨nr_0, q⟩, fun y => absurd (by decide) y⟩
  exact Or.inl ⟨so, e_X15_holds (r_X15_holds_0 (loop E.length 0 (by omega) (fun z => by omega)))⟩
end
