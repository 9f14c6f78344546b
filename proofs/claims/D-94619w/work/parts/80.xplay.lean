/-! X: answers; what a state is worth; plays -/
section
variable {Q : Option Value → xw → Prop} {w : xw} {B : Bd} {s t : GS} {a b : Nat} {H : List GS}
def ansL (s : GS) : Nat → Int64
  | 0 => if (gO s).length = 0 then 0 else allL (gS s) ^^^ (-1)
  | k + 1 => ansL s k &&& (gO s).getD k 0
theorem mb_ansL {s : GS} {k p : Nat} (hp : p < 64) : mb (ansL s k) p = true ↔ 0 < (gO s).length ∧ mb (allL (gS s)) p = false ∧ ∀ j, j < k → mb ((gO s).getD j 0) p = true := by
  induction k with
  | zero =>
    unfold ansL
    by_cases z : (gO s).length = 0
    · rw [if_pos z, mb_0]
      constructor
      · intro h; cases h
      · intro h; omega
    · rw [if_neg z, mb_not _ hp]
      constructor
      · intro h; exact ⟨by omega, by simpa using h, fun j hj => by omega⟩
      · intro h; simp [h.2.1]
  | succ k ih =>
    have e : ansL s (k + 1) = ansL s k &&& (gO s).getD k 0 := rfl
    rw [e, mb_and, Bool.and_eq_true, ih]
    constructor
    · rintro ⟨⟨h1, h2, h3⟩, h4⟩
      refine ⟨h1, h2, fun j hj => ?_⟩
      by_cases z : j = k
      · rw [z]; exact h4
      · exact h3 j (by omega)
    · rintro ⟨h1, h2, h3⟩
      exact ⟨⟨h1, h2, fun j hj => h3 j (by omega)⟩, h3 k (by omega)⟩
theorem ansL_iff {B : Bd} {s : GS} (hN : bN B ≤ 36) (hg : gOk B s) {p : Nat} (hp : p < 64) : mb (ansL s (gO s).length) p = (decide (p < bN B) && ansF s p) := by
  have key : mb (ansL s (gO s).length) p = true ↔ (decide (p < bN B) && ansF s p) = true := by
    rw [mb_ansL hp]
    unfold ansF
    simp only [Bool.and_eq_true, decide_eq_true_eq, List.all_eq_true, List.mem_range]
    constructor
    · rintro ⟨h1, h2, h3⟩
      have om : (gO s).getD 0 0 ∈ gO s := by
        rw [List.getD_eq_getElem?_getD, List.getElem?_eq_getElem h1]
        exact List.getElem_mem h1
      have hl := hg.2.2.2.2.2.2.1 _ om p (h3 0 h1)
      refine ⟨hl, ⟨h1, ?_⟩, h3⟩
      rw [mb_allL _ hp] at h2
      simp [show p < 36 from by omega] at h2
      exact h2
    · rintro ⟨h1, ⟨h2, h3⟩, h4⟩
      refine ⟨h2, ?_, h4⟩
      rw [mb_allL _ hp, h3]; simp
  cases z : mb (ansL s (gO s).length) p with
  | true => exact (key.mp z).symm
  | false =>
    cases y : (decide (p < bN B) && ansF s p) with
    | false => rfl
    | true => rw [key.mpr y] at z; cases z
theorem x_answer (hN : bN B ≤ 36) (hA : XA B b s w) (hg : gOk B s) (k : Int32) (q : Q (some (.int (ansR s (bN B) k))) w) : V_X0_answer [.ref 256, .int k] w Q := by
  obtain ⟨hE, hO, hG⟩ := id hA
  have hP := XO_n hO
  have h16 := hg.2.2.2.2.2.1
  have r1 := hG.2.1
  have two : ∀ {o3 o5 : Option Value}, T_X0_answer Q 29 [some (.ref 256), some (.int k), some (.long (ansL s 0)), o3, some (.int (nI 0)), o5] [] w := by
    refine upTo (gO s).length (fun _ (_ : Unit) => True)
      (fun j _ => ∀ {o3 o5 : Option Value}, T_X0_answer Q 29 [some (.ref 256), some (.int k), some (.long (ansL s j)), o3, some (.int (nI j)), o5] [] w) ?_ ?_ 0 () (by omega) trivial
    · intro _ _ o3 o5
      refine r_X0_answer_29 ?_
      (try simp +decide (disch := omega) only [n_lit2, n_add, n_mul, n_tn, n_inT, n_ltT, n_ltF, n_leT, n_leF, n_eqT, n_eqF, n_eqm, n_meq, n_div, n_rem, nb_0, nb_1, nr_b, true_and, and_true, eq_self, Decidable.not_not, not_false_eq_true, not_true_eq_false, false_implies, true_implies, implies_true, Option.toList_some, Option.toList_none, List.cons_append, List.nil_append, xS_uI, xS_uL, xR_uI, xR_uL, xL_uI, xI_uL, xN_uI, xN_uL, xB_uI, xB_uL, add_nz, ge_256, and_self, XE_s hE, XO_7 hO, XP_s hP, r1]); (try simp (disch := omega) only [lc_eq, lc_le, lc_lt, lc_ge, lc_gt, mb_t1, mb_t0, bI_0, bI_1, n_in, n_lt, n_le, n_eq, Bool.not_eq_false, Bool.not_eq_true, Decidable.not_not, true_and, XE_s hE, XO_7 hO, XP_s hP, r1])
      unfold ansR at q
      refine ⟨fun c => ?_, fun c => x_bitCount _ (r_X0_answer_69 ⟨trivial, ?_⟩)⟩
      · rw [if_neg c] at q
        have loop := upTo (bN B) (fun p (_ : Unit) => ∀ u, u < p → (ansF s u && decide (nI (ctP (ansF s) u) = k)) = false)
          (fun p _ => ∀ {o1 o3 : Option Value}, T_X0_answer Q 76 [some (.ref 256), o1, some (.long (ansL s (gO s).length)), o3, some (.int (k - nI (ctP (ansF s) p))), some (.int (nI p))] [] w) ?_ ?_
        · have e0 : k - nI (ctP (ansF s) 0) = k := by
            show k - nI 0 = k
            exact Int32.sub_zero k
          have z := loop 0 () (by omega) (fun u hu => by omega) (o1 := some (.int k)) (o3 := none)
          rw [e0] at z
          exact z
        · intro _ h o1 o3
          refine r_X0_answer_76 ⟨XE_s hE, x_placeMany hE (r_X0_answer_82 ⟨fun _ => ⟨trivial, ?_⟩, fun z => absurd (Int32.le_refl _) z⟩)⟩
          rw [fstP_none h] at q; exact q
        · intro p _ hp h next o1 o3
          have hc := ctP_le (ansF s) p
          have ea := ansL_iff hN hg (p := p) (by omega)
          rw [decide_eq_true hp, Bool.true_and] at ea
          have es : ctP (ansF s) (p + 1) = ctP (ansF s) p + (if ansF s p = true then 1 else 0) := rfl
          have e1 : nI p + 1 = nI (p + 1) := n_add p 1
          have ei : (k - nI (ctP (ansF s) p) = 0) ↔ nI (ctP (ansF s) p) = k := by
            rw [Int32.sub_eq_iff_eq_add, Int32.zero_add]
            exact ⟨fun z => z.symm, fun z => z.symm⟩
          refine r_X0_answer_76 ⟨XE_s hE, x_placeMany hE (r_X0_answer_82 ⟨fun z => by rw [n_le (by omega) (by omega)] at z; omega, fun _ => ?_⟩)⟩
          rw [lg_cmp_eq, mb_t0 _ (by omega), ea, ei, e1]
          refine ⟨fun c2 => ⟨fun c3 => ?_, fun c3 => ⟨trivial, ?_⟩⟩, fun c2 => ?_⟩
          · have c2 : ansF s p = true := by simpa using c2
            rw [if_pos c2] at es
            have e4 : k - nI (ctP (ansF s) p) + -1 = k - nI (ctP (ansF s) (p + 1)) := by
              rw [es, ← n_add]
              show k - nI (ctP (ansF s) p) + -1 = k - (nI (ctP (ansF s) p) + 1)
              grind
            rw [e4]
            refine next () (fun u hu => ?_)
            by_cases z : u = p
            · subst z; rw [decide_eq_false c3, Bool.and_false]
            · exact h u (by omega)
          · rw [Decidable.not_not] at c3
            have c2 : ansF s p = true := by simpa using c2
            rw [fstP_some hp (by rw [c2, decide_eq_true c3]; rfl) h] at q; exact q
          · rw [Decidable.not_not] at c2
            have es' : ctP (ansF s) (p + 1) = ctP (ansF s) p := by
              rw [es, if_neg (by rw [c2]; simp)]; rfl
            rw [← es']
            refine next () (fun u hu => ?_)
            by_cases z : u = p
            · subst z; rw [c2]; rfl
            · exact h u (by omega)
      · rw [if_pos c] at q
        rw [cnt_fn (N := bN B) (f := ansF s) (by omega) (fun p hp => ansL_iff hN hg hp)]; exact q
    · intro j _ hj _ next o3 o5
      have r2 := lsL_get hG.2.2.1 hj
      refine r_X0_answer_29 ?_
      (try simp +decide (disch := omega) only [n_lit2, n_add, n_mul, n_tn, n_inT, n_ltT, n_ltF, n_leT, n_leF, n_eqT, n_eqF, n_eqm, n_meq, n_div, n_rem, nb_0, nb_1, nr_b, true_and, and_true, eq_self, Decidable.not_not, not_false_eq_true, not_true_eq_false, false_implies, true_implies, implies_true, Option.toList_some, Option.toList_none, List.cons_append, List.nil_append, xS_uI, xS_uL, xR_uI, xR_uL, xL_uI, xI_uL, xN_uI, xN_uL, xB_uI, xB_uL, add_nz, ge_256, and_self, XE_s hE, XO_7 hO, XP_s hP, XP_r2 hP, XP_r3 hP, XP_r7 hP, XP_r8 hP, XP_r9 hP, XP_r11 hP, XP_r12 hP, XP_r13 hP, XP_s1 hP, XP_s2 hP, XP_s3 hP, XP_s4 hP, XP_s5 hP, XP_s6 hP, XP_s7 hP, r1, r2]); (try simp (disch := omega) only [lc_eq, lc_le, lc_lt, lc_ge, lc_gt, mb_t1, mb_t0, bI_0, bI_1, n_in, n_lt, n_le, n_eq, Bool.not_eq_false, Bool.not_eq_true, Decidable.not_not, true_and, XE_s hE, XO_7 hO, XP_s hP, XP_r2 hP, XP_r3 hP, XP_r7 hP, XP_r8 hP, XP_r9 hP, XP_r11 hP, XP_r12 hP, XP_r13 hP, XP_s1 hP, XP_s2 hP, XP_s3 hP, XP_s4 hP, XP_s5 hP, XP_s6 hP, XP_s7 hP, r1, r2])
      exact next () trivial
  refine e_X0_answer (r_X0_answer_0 ?_)
  by_cases z : (gO s).length = 0
  · have e0 : ansL s 0 = 0 := if_pos z
    rw [e0] at two
    rw [z] at r1
    (try simp +decide (disch := omega) only [n_lit2, n_add, n_mul, n_tn, n_inT, n_ltT, n_ltF, n_leT, n_leF, n_eqT, n_eqF, n_eqm, n_meq, n_div, n_rem, nb_0, nb_1, nr_b, true_and, and_true, eq_self, Decidable.not_not, not_false_eq_true, not_true_eq_false, false_implies, true_implies, implies_true, Option.toList_some, Option.toList_none, List.cons_append, List.nil_append, xS_uI, xS_uL, xR_uI, xR_uL, xL_uI, xI_uL, xN_uI, xN_uL, xB_uI, xB_uL, add_nz, ge_256, and_self, XE_s hE, XO_7 hO, XP_s hP, r1]); (try simp (disch := omega) only [lc_eq, lc_le, lc_lt, lc_ge, lc_gt, mb_t1, mb_t0, bI_0, bI_1, n_in, n_lt, n_le, n_eq, Bool.not_eq_false, Bool.not_eq_true, Decidable.not_not, true_and, XE_s hE, XO_7 hO, XP_s hP, r1])
    exact two
  · have e0 : ansL s 0 = allL (gS s) ^^^ (-1) := if_neg z
    rw [e0] at two
    (try simp +decide (disch := omega) only [n_lit2, n_add, n_mul, n_tn, n_inT, n_ltT, n_ltF, n_leT, n_leF, n_eqT, n_eqF, n_eqm, n_meq, n_div, n_rem, nb_0, nb_1, nr_b, true_and, and_true, eq_self, Decidable.not_not, not_false_eq_true, not_true_eq_false, false_implies, true_implies, implies_true, Option.toList_some, Option.toList_none, List.cons_append, List.nil_append, xS_uI, xS_uL, xR_uI, xR_uL, xL_uI, xI_uL, xN_uI, xN_uL, xB_uI, xB_uL, add_nz, ge_256, and_self, XE_s hE, XO_7 hO, XP_s hP, r1]); (try simp (disch := omega) only [lc_eq, lc_le, lc_lt, lc_ge, lc_gt, mb_t1, mb_t0, bI_0, bI_1, n_in, n_lt, n_le, n_eq, Bool.not_eq_false, Bool.not_eq_true, Decidable.not_not, true_and, XE_s hE, XO_7 hO, XP_s hP, r1])
    exact x_all hP hG (r_X0_answer_21 two)
/-! values -/
def vtm (B : Bd) (side : Nat) (l p : Nat) : Int32 := if l = 1 + side then nI (bV B p) else if l = 2 - side then -nI (bV B p) else 0
def vI (B : Bd) (side : Nat) (l : Nat → Nat) : Nat → Int32
  | 0 => 0
  | n + 1 => vI B side l n + vtm B side (l n) n
theorem vI_land {B : Bd} {side : Nat} (hs : side < 2) (l : Nat → Nat) (n : Nat) : vI B side l n = nI (smP (landF B l side true) n) - nI (smP (landF B l (1 - side) true) n) := by
  induction n with
  | zero => exact (Int32.sub_self _).symm
  | succ n ih =>
    show vI B side l n + vtm B side (l n) n = nI (smP (landF B l side true) n + landF B l side true n) - nI (smP (landF B l (1 - side) true) n + landF B l (1 - side) true n)
    rw [ih, ← n_add, ← n_add]
    generalize nI (smP (landF B l side true) n) = x
    generalize nI (smP (landF B l (1 - side) true) n) = y
    unfold vtm landF
    by_cases c : l n = 1 + side
    · rw [if_pos c, if_pos c, if_neg (show ¬ l n = 1 + (1 - side) by omega), if_pos (show (true : Bool) = true from rfl)]
      show x - y + nI (bV B n) = x + nI (bV B n) - (y + 0)
      grind
    · rw [if_neg c, if_neg c]
      by_cases c2 : l n = 2 - side
      · rw [if_pos c2, if_pos (show l n = 1 + (1 - side) by omega), if_pos (show (true : Bool) = true from rfl)]
        show x - y + -nI (bV B n) = x + 0 - (y + nI (bV B n))
        grind
      · rw [if_neg c2, if_neg (show ¬ l n = 1 + (1 - side) by omega)]
        show x - y + 0 = x + 0 - (y + 0)
        grind
theorem vI_cong {B : Bd} {side : Nat} {l l' : Nat → Nat} {n : Nat} (h : ∀ p, p < n → l p = l' p) : vI B side l n = vI B side l' n := by
  induction n with
  | zero => rfl
  | succ n ih =>
    show vI B side l n + vtm B side (l n) n = vI B side l' n + vtm B side (l' n) n
    rw [ih (fun p hp => h p (by omega)), h n (by omega)]
theorem vI_up {B : Bd} {side : Nat} {l : Nat → Nat} {u v n : Nat} (hu : u < n) : vI B side (upN l u v) n = vI B side l n + (vtm B side v u - vtm B side (l u) u) := by
  induction n with
  | zero => omega
  | succ n ih =>
    show vI B side (upN l u v) n + vtm B side (upN l u v n) n = vI B side l n + vtm B side (l n) n + _
    by_cases e : u = n
    · subst e
      rw [vI_cong (l' := l) (fun p hp => by unfold upN; rw [if_neg (by omega)])]
      have : upN l u v u = v := by unfold upN; rw [if_pos rfl]
      rw [this]
      grind
    · have : upN l u v n = l n := by unfold upN; rw [if_neg (fun z => e z.symm)]
      rw [this, ih (by omega)]
      grind
theorem lzs_or {N to : Nat} {O : List Int64} {l : Nat → Nat} {c : Nat → Int32} {k : Nat} : (lzs N to none O l c k).1 = fun p => if p < N ∧ mb (orL O k) p = true then to else l p := by
  induction k with
  | zero =>
    funext p
    have : mb (orL O 0) p = false := mb_0 p
    rw [if_neg (by rw [this]; simp)]; rfl
  | succ k ih =>
    have e : (lzs N to none O l c (k + 1)).1 = lz1 N to (O.getD k 0) (lzs N to none O l c k).1 := rfl
    rw [e, ih]
    funext p
    unfold lz1
    have e2 : mb (orL O (k + 1)) p = (mb (orL O k) p || mb (O.getD k 0) p) := mb_or _ _ _
    rw [e2]
    by_cases c1 : p < N
    · cases z1 : mb (orL O k) p <;> cases z2 : mb (O.getD k 0) p <;> simp [c1, z1, z2]
    · simp [c1]
def prL (N to : Nat) (o : Int64) (l : Nat → Nat) (u : Nat) : Nat → Nat := fun p => if p < N ∧ mb o p = true ∧ p < u then to else l p
set_option maxHeartbeats 1000000 in
theorem x_value (hN : bN B ≤ 36) (hV : ∀ p, p < bN B → bV B p ≤ 99) (hE : XE B b w) (hP : XP a w) (hG : XG B t a w) (hg : gOk B t) {side : Nat} (hs : side < 2) (q : Q (some (.int (valG B t side))) w) : V_X0_value [.ref 256, .ref a, .int (nI side)] w Q := by
  have ha := XP_ge hP
  have h16 := hg.2.2.2.2.2.1
  have hd : gD t ≤ 200 := hg.2.2.2.2.1
  have l0 := hg.2.2.2.1
  have l2 := hg.2.2.1
  have e1 : (1 : Int32) - nI side = nI (1 - side) := n_sub (a := 1) (by omega)
  have eo : ∀ p, mb (owedAll t) p = true → p < bN B := fun p hp => by
    obtain ⟨i, hi, hm⟩ := mb_orL.mp hp
    have om : (gO t).getD i 0 ∈ gO t := by
      rw [List.getD_eq_getElem?_getD, List.getElem?_eq_getElem hi]
      exact List.getElem_mem hi
    exact hg.2.2.2.2.2.2.1 _ om p hm
  have ev : valG B t side = vI B side (prL (bN B) (2 - gD t % 2) (owedAll t) (gL t) 64) (bN B) := by
    unfold valG
    rw [show landG B (lzA B t none).1 side true = smP (landF B (lzA B t none).1 side true) (bN B) from rfl, show landG B (lzA B t none).1 (1 - side) true = smP (landF B (lzA B t none).1 (1 - side) true) (bN B) from rfl, ← vI_land hs]
    refine vI_cong (fun p hp => ?_)
    show (lzs (bN B) (2 - gD t % 2) none (gO t) (gL t) (gC t) (gO t).length).1 p = _
    rw [lzs_or]
    unfold prL
    have : p < 64 := by omega
    simp [this]
  rw [ev] at q
  generalize ho : owedAll t = o at *
  have main : ∀ (f k : Nat) (left : Int64), k + f = 64 → (∀ p, p < 64 → mb left p = (mb o p && decide (k ≤ p))) → ∀ {o3 o4 o7 o8 o9 o10 o11 : Option Value}, T_X0_value Q 23 [some (.ref 256), some (.ref a), some (.int (nI side)), o3, o4, some (.int (vI B side (prL (bN B) (2 - gD t % 2) o (gL t) k) (bN B))), some (.long left), o7, o8, o9, o10, o11] [] w := by
    intro f
    induction f using Nat.strongRecOn with
    | _ f ih =>
      intro k left hf hl o3 o4 o7 o8 o9 o10 o11
      refine r_X0_value_23 ⟨fun c => ⟨trivial, ?_⟩, fun c => ?_⟩
      · rw [lg_cmp_eq, mb_zero] at c
        have : vI B side (prL (bN B) (2 - gD t % 2) o (gL t) 64) (bN B) = vI B side (prL (bN B) (2 - gD t % 2) o (gL t) k) (bN B) := vI_cong (fun p hp => by
          unfold prL
          have := c p (by omega)
          rw [hl p (by omega)] at this
          cases z : mb o p with
          | false => simp
          | true => rw [z] at this; simp at this; simp [this, show p < 64 from by omega])
        rw [this] at q; exact q
      · rw [lg_cmp_eq] at c
        obtain ⟨u, hu1, hu2, hu3⟩ := lowB c
        have hu4 : mb o u = true ∧ k ≤ u := by
          rw [hl u hu1] at hu2
          simp at hu2; exact hu2
        have hub := eo u hu4.1
        have ek : vI B side (prL (bN B) (2 - gD t % 2) o (gL t) k) (bN B) = vI B side (prL (bN B) (2 - gD t % 2) o (gL t) u) (bN B) := vI_cong (fun p hp => by
          unfold prL
          cases z : mb o p with
          | false => simp
          | true =>
            have : p < k ↔ p < u := by
              constructor
              · intro h; omega
              · intro h
                have h3 := hu3 p h
                rw [hl p (by omega), z] at h3
                simp at h3; exact h3
            simp only [this])
        have lu : prL (bN B) (2 - gD t % 2) o (gL t) u u = gL t u := by unfold prL; rw [if_neg (by omega)]
        have eu : vI B side (prL (bN B) (2 - gD t % 2) o (gL t) (u + 1)) (bN B) = vI B side (prL (bN B) (2 - gD t % 2) o (gL t) u) (bN B) + (vtm B side (2 - gD t % 2) u - vtm B side (gL t u) u) := by
          rw [← lu, ← vI_up hub]
          refine vI_cong (fun p hp => ?_)
          unfold upN prL
          by_cases z : p = u
          · subst z; simp [hp, hu4.1]
          · have : p < u + 1 ↔ p < u := by omega
            simp [z, this]
        have dl : ∀ p, p < 64 → mb (left &&& (left - 1)) p = (mb o p && decide (u + 1 ≤ p)) := fun p hp => by
          rw [mb_drop hu2 hu3, hl p hp]
          by_cases z1 : u + 1 ≤ p
          · simp [z1, show p ≠ u from by omega, show k ≤ p from by omega]
          · by_cases z2 : p = u
            · subst z2; simp
            · have := hu3 p (by omega)
              rw [hl p hp] at this
              rw [this]; simp [z1]
        have m0 := hG.2.2.2.2.1 0 (by omega)
        have m1 := hG.2.2.2.2.1 1 (by omega)
        refine x_ntz hu1 hu2 hu3 (r_X0_value_35 ⟨XP_s hP, x_side hP hG (by omega) (r_X0_value_41 ?_)⟩)
        rw [XP_r3 hP]
        refine ⟨XP_s hP, by omega, x_sideOf (f := fun p => decide (gL t p = 1 + 0)) (g := fun p => decide (gL t p = 1 + 1)) (XP_s2 hP) hu1 (by rw [m0, mb_ldL _ _ hu1]; simp; omega) (by rw [m1, mb_ldL _ _ hu1]; simp; omega) (r_X0_value_52 ?_)⟩
        have rv := hE.2.2.2.2.1.2.2 u hub
        have nx : ∀ {o3 o4 o7 o8 o9 o10 o11 : Option Value}, T_X0_value Q 23 [some (.ref 256), some (.ref a), some (.int (nI side)), o3, o4, some (.int (vI B side (prL (bN B) (2 - gD t % 2) o (gL t) (u + 1)) (bN B))), some (.long (left &&& (left - 1))), o7, o8, o9, o10, o11] [] w := ih (64 - (u + 1)) (by omega) (u + 1) (left &&& (left - 1)) (by omega) dl
        rw [eu] at nx
        rw [ek]
        have hlu := l2 u
        have hv := hV u hub
        have vin : vp_in (nI u) 36 := (n_in (by omega)).mpr (by omega)
        have fin : ∀ x : Int32, x = vI B side (prL (bN B) (2 - gD t % 2) o (gL t) u) (bN B) + (vtm B side (2 - gD t % 2) u - vtm B side (gL t u) u) → ∀ {o3 o4 o7 o8 o9 o10 o11 : Option Value}, T_X0_value Q 23 [some (.ref 256), some (.ref a), some (.int (nI side)), o3, o4, some (.int x), some (.long (left &&& (left - 1))), o7, o8, o9, o10, o11] [] w := fun x hx => by rw [hx]; exact nx
        clear nx ih
        generalize vI B side (prL (bN B) (2 - gD t % 2) o (gL t) u) (bN B) = V0 at *
        rw [XE_b hE, n_tn (by omega), rv]
        have sh : (xS w 256).1 = 1 ∧ ¬ b = 0 ∧ (xS w b).1 = 2 ∧ ¬ xR w b 9 = 0 ∧ (xS w (xR w b 9)).1 = 51 ∧ vp_in (nI u) (xS w (xR w b 9)).2 := ⟨XE_s hE, hE.2.1.1.1, XE_bs hE, hE.2.2.2.2.1.1.1, by rw [XE_vs hE], by rw [XE_vs hE]; exact vin⟩
        obtain ⟨h1, h2, h3, h4, h5, h6⟩ := sh
        have vt : ∀ l, vtm B side l u = if l = 1 + side then nI (bV B u) else if l = 2 - side then -nI (bV B u) else 0 := fun l => rfl
        rw [vt, vt] at fin
        clear vt eu ek rv
        generalize nI (bV B u) = W at *
        have k1 : ((if decide (gL t u = 1 + 0) = true then nI 0 else if decide (gL t u = 1 + 1) = true then nI 1 else -nI 1) = 1 - nI (gD t % 2)) ↔ gL t u = 2 - gD t % 2 := by
          have : ∀ l, l < 3 → ∀ d, d < 2 → (((if decide (l = 1 + 0) = true then nI 0 else if decide (l = 1 + 1) = true then nI 1 else -nI 1) = 1 - nI d) ↔ l = 2 - d) := by decide
          exact this _ (by omega) _ (by omega)
        have k2 : ((if decide (gL t u = 1 + 0) = true then nI 0 else if decide (gL t u = 1 + 1) = true then nI 1 else -nI 1) = -1) ↔ gL t u = 0 := by
          have : ∀ l, l < 3 → (((if decide (l = 1 + 0) = true then nI 0 else if decide (l = 1 + 1) = true then nI 1 else -nI 1) = -1) ↔ l = 0) := by decide
          exact this _ (by omega)
        have k3 : (nI (gD t % 2) = nI side) ↔ gD t % 2 = side := n_eq (by omega) (by omega)
        rw [k1, k2, k3]
        refine ⟨fun c1 => ⟨h1, h2, h3, h4, h5, h6, fun c2 => ⟨fun c3 => fin _ ?_, fun c3 => fin _ ?_⟩, fun c2 => ⟨fun c3 => fin _ ?_, fun c3 => fin _ ?_⟩⟩, fun c1 => fin _ ?_⟩
        · rw [if_pos (show 2 - gD t % 2 = 1 + side by omega), if_neg (show ¬ gL t u = 1 + side by omega), if_pos (show gL t u = 2 - side by omega)]
          grind
        · rw [if_neg (show ¬ 2 - gD t % 2 = 1 + side by omega), if_pos (show 2 - gD t % 2 = 2 - side by omega), if_pos (show gL t u = 1 + side by omega)]
          grind
        · rw [if_pos (show 2 - gD t % 2 = 1 + side by omega), if_neg (show ¬ gL t u = 1 + side by omega), if_neg (show ¬ gL t u = 2 - side by omega)]
          grind
        · rw [if_neg (show ¬ 2 - gD t % 2 = 1 + side by omega), if_pos (show 2 - gD t % 2 = 2 - side by omega), if_neg (show ¬ gL t u = 1 + side by omega), if_neg (show ¬ gL t u = 2 - side by omega)]
          grind
        · rw [Decidable.not_not] at c1
          rw [c1]
          grind
  refine e_X0_value (r_X0_value_0 ⟨XP_s hP, x_owedPlaces hP hG h16 (r_X0_value_4 ⟨XP_s hP, x_worth hN hV hE hP hs (hG.2.2.2.2.1 side hs) l0 (r_X0_value_10 ⟨XP_s hP, ?_⟩)⟩)⟩)
  rw [e1]
  refine x_worth hN hV hE hP (by omega) (hG.2.2.2.2.1 (1 - side) (by omega)) l0 (r_X0_value_17 ?_)
  rw [ho]
  have e0 : nI (landG B (gL t) side true) - nI (landG B (gL t) (1 - side) true) = vI B side (prL (bN B) (2 - gD t % 2) o (gL t) 0) (bN B) := by
    have : vI B side (prL (bN B) (2 - gD t % 2) o (gL t) 0) (bN B) = vI B side (gL t) (bN B) := vI_cong (fun p _ => by unfold prL; rw [if_neg (by omega)])
    rw [this, vI_land hs]; rfl
  rw [e0]
  exact main 64 0 o (by omega) (fun p hp => by simp)
/-! plays -/
def xfD (n : Nat) (w w' : xw) : Prop := (xN w' = xN w ∧ xB w' = xB w) ∧ (xS w' = xS w ∧ xR w' = xR w) ∧ (∀ i, i ≠ 684 → (i < 693 + 8 * n ∨ 716 < i) → xI w' i = xI w i ∧ xL w' i = xL w i) ∧ ∀ j, j < n → xI w' 684 j = xI w 684 j
theorem xfD_refl (n : Nat) (w : xw) : xfD n w w := ⟨⟨rfl, rfl⟩, ⟨rfl, rfl⟩, fun _ _ _ => ⟨rfl, rfl⟩, fun _ _ => rfl⟩
theorem xfD_trans {n : Nat} {w w1 w2 : xw} (h : xfD n w w1) (g : xfD n w1 w2) : xfD n w w2 :=
  ⟨⟨g.1.1.trans h.1.1, g.1.2.trans h.1.2⟩, ⟨g.2.1.1.trans h.2.1.1, g.2.1.2.trans h.2.1.2⟩, fun i h1 h2 => ⟨(g.2.2.1 i h1 h2).1.trans (h.2.2.1 i h1 h2).1, (g.2.2.1 i h1 h2).2.trans (h.2.2.1 i h1 h2).2⟩, fun j hj => (g.2.2.2 j hj).trans (h.2.2.2 j hj)⟩
theorem xfD_wk {n : Nat} {w w1 : xw} (h : xfD (n + 1) w w1) : xfD n w w1 := ⟨h.1, h.2.1, fun i h1 h2 => h.2.2.1 i h1 (by omega), fun j hj => h.2.2.2 j (by omega)⟩
theorem xfD_of {n lo hi : Nat} {w w1 : xw} (h : xfr lo hi w w1) (h1 : 693 + 8 * n ≤ lo ∧ hi ≤ 716) : xfD n w w1 := ⟨h.1, ⟨h.2.1, h.2.2.1⟩, fun i _ hi => h.2.2.2 i (by omega), fun j hj => by rw [(h.2.2.2 684 (by omega)).1]⟩
theorem xfD_u {n k : Nat} {w : xw} (v : Int32) (h : n ≤ k) : xfD n w (xUpI w 684 k v) := ⟨⟨rfl, rfl⟩, ⟨rfl, rfl⟩, fun i hi _ => ⟨x_uI_ne hi, rfl⟩, fun j hj => by rw [x_uI, if_neg (by omega)]⟩
theorem xfQ_D {n : Nat} {w w1 : xw} (h : xfD n w w1) : xfQ w w1 := ⟨h.1, h.2.1, fun i h1 h2 => h.2.2.1 i (by omega) (by omega), fun k _ _ => by rw [(h.2.2.1 256 (by omega) (by omega)).1], (h.2.2.1 256 (by omega) (by omega)).2⟩
theorem XG_D {n a : Nat} {w w' : xw} {B : Bd} {s : GS} (h : xfD n w w') (h1 : a + 7 < 684 ∨ (684 < a ∧ a + 7 < 693 + 8 * n)) (g : XG B s a w) : XG B s a w' := by
  obtain ⟨g1, g2, g3, g4, g5, g6, g7, g8, g9, g10⟩ := g
  have e := fun i (hi : a ≤ i ∧ i ≤ a + 7) => h.2.2.1 i (by omega) (by omega)
  exact ⟨by rw [(e a (by omega)).1]; exact g1, by rw [(e a (by omega)).1]; exact g2, by rw [(e _ (by omega)).2]; exact g3, by rw [(e _ (by omega)).2]; exact g4, by rw [(e _ (by omega)).2]; exact g5, by rw [(e _ (by omega)).1]; exact g6, by rw [(e _ (by omega)).1]; exact g7, by rw [(e a (by omega)).2]; exact g8, by rw [(e a (by omega)).2]; exact g9, by rw [(e a (by omega)).2]; exact g10⟩
/-- what plays(at, n, side) does, at a depth -/
def plP (B : Bd) (b side n d : Nat) : Prop := ∀ (at_ : Nat) (t : GS) (w : xw) (Q : Option Value → xw → Prop), at_ + n ≤ 3 → XE B b w → XO w → XG B t (685 + 8 * at_) w → gOk B t → gD t + n ≤ 200 →
  (∀ w', xfD at_ w w' → (1 ≤ n → xI w' 684 at_ = plI (mvP (bN B) (plM B side n t))) → Q (some (.int (plV B side n t))) w') → G_plays d 0 [.ref 256, .int (nI at_), .int (nI n), .int (nI side)] w Q
theorem x_playsOn (hB : bOk B) (hK0 : 0 < bK B) {side n d : Nat} (hp : plP B b side n d) {at_ : Nat} (hn : at_ + n + 1 ≤ 3) (hE : XE B b w) (hO : XO w) (hG : XG B t (685 + 8 * at_) w) (hg : gOk B t) (hd : gD t + n + 1 ≤ 200) (pl : Option Nat) (hpl : ∀ p, pl = some p → p < bN B ∧ gS t p = 0)
    (q : ∀ w', xfD at_ w w' → xI w' 684 at_ = xI w 684 at_ → Q (some (.int (plV B side n (goG B t 0 pl)))) w') : G_plays (d + 1) 1 [.ref 256, .int (nI at_), .int (plI pl), .int (nI (n + 1)), .int (nI side)] w Q := by
  have o5 := hO.2.2.2.2.1
  obtain ⟨r0, p0⟩ := o5 at_ (by omega)
  obtain ⟨r1, p1⟩ := o5 (at_ + 1) (by omega)
  have h16 := hg.2.2.2.2.2.1
  have n0 : (685 + 8 * at_ = 0) = False := eq_false (by omega)
  have n1 : (685 + 8 * (at_ + 1) = 0) = False := eq_false (by omega)
  refine e_X0_playsOn (r_X0_playsOn_0 ?_)
  (try simp +decide (disch := omega) only [n_lit2, n_add, n_mul, n_tn, n_inT, n_ltT, n_ltF, n_leT, n_leF, n_eqT, n_eqF, n_eqm, n_meq, n_div, n_rem, nb_0, nb_1, nr_b, true_and, and_true, eq_self, Decidable.not_not, not_false_eq_true, not_true_eq_false, false_implies, true_implies, implies_true, Option.toList_some, Option.toList_none, List.cons_append, List.nil_append, xS_uI, xS_uL, xR_uI, xR_uL, xL_uI, xI_uL, xN_uI, xN_uL, xB_uI, xB_uL, add_nz, ge_256, and_self, XE_s hE, XO_12 hO, XO_s12 hO, r0, r1, n0, n1, XP_s p0, XP_s p1]); (try simp (disch := omega) only [lc_eq, lc_le, lc_lt, lc_ge, lc_gt, mb_t1, mb_t0, bI_0, bI_1, n_in, n_lt, n_le, n_eq, Bool.not_eq_false, Bool.not_eq_true, Decidable.not_not, true_and, XE_s hE, XO_12 hO, XO_s12 hO, r0, r1, n0, n1, XP_s p0, XP_s p1])
  refine x_copy p1 p0 (by omega) hG h16 (fun w1 f1 g1 => r_X0_playsOn_17 ?_)
  have hE1 := XE_fr f1 (by omega) hE
  have hO1 := XO_fr f1 hO
  obtain ⟨r1', p1'⟩ := hO1.2.2.2.2.1 (at_ + 1) (by omega)
  (try simp +decide (disch := omega) only [n_lit2, n_add, n_mul, n_tn, n_inT, n_ltT, n_ltF, n_leT, n_leF, n_eqT, n_eqF, n_eqm, n_meq, n_div, n_rem, nb_0, nb_1, nr_b, true_and, and_true, eq_self, Decidable.not_not, not_false_eq_true, not_true_eq_false, false_implies, true_implies, implies_true, Option.toList_some, Option.toList_none, List.cons_append, List.nil_append, xS_uI, xS_uL, xR_uI, xR_uL, xL_uI, xI_uL, xN_uI, xN_uL, xB_uI, xB_uL, add_nz, ge_256, and_self, XE_s hE1, XO_12 hO1, XO_s12 hO1, r1', n1, XP_s p1']); (try simp (disch := omega) only [lc_eq, lc_le, lc_lt, lc_ge, lc_gt, mb_t1, mb_t0, bI_0, bI_1, n_in, n_lt, n_le, n_eq, Bool.not_eq_false, Bool.not_eq_true, Decidable.not_not, true_and, XE_s hE1, XO_12 hO1, XO_s12 hO1, r1', n1, XP_s p1'])
  refine x_goes (k := 0) (Or.inl hB) hE1 p1' g1 hg pl (fun p h => ⟨(hpl p h).1, hK0, rfl, (hpl p h).2⟩) (fun w2 f2 g2 => r_X0_playsOn_30 ?_)
  have hE2 := XE_fr f2 (by omega) hE1
  have hO2 := XO_fr f2 hO1
  have ed : xfD at_ w w2 := xfD_trans (xfD_of f1 (by omega)) (xfD_of f2 (by omega))
  have en : nI (n + 1) - 1 = nI n := n_sub (b := 1) (by omega)
  have ea : nI at_ + 1 = nI (at_ + 1) := n_add _ 1
  rw [en, ea]
  have go2 := goOk_all hB t 0 pl hg (by omega) (fun p h => ⟨(hpl p h).1, hK0⟩)
  have dg : gD (goG B t 0 pl) = gD t + 1 := by cases pl <;> rfl
  refine ⟨XE_s hE2, hp (at_ + 1) _ w2 _ (by omega) hE2 hO2 g2 go2 (by omega) (fun w3 f3 _ => r_X0_playsOn_42 ⟨trivial, q w3 (xfD_trans ed (xfD_wk f3)) ?_⟩)⟩
  rw [f3.2.2.2 at_ (by omega), (f2.2.2.2 684 (by omega)).1, (f1.2.2.2 684 (by omega)).1]
end
