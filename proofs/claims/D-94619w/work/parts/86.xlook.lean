/-! X: hidden, look -/
theorem smP_in {f : Nat → Nat} {w n : Nat} (h : w < n) : f w ≤ smP f n := by
  have := smP_mono (f := f) (show w + 1 ≤ n from h)
  have e : smP f (w + 1) = smP f w + f w := rfl
  omega
theorem smP_ex {f : Nat → Nat} {n : Nat} (h : smP f n ≠ 0) : ∃ w, w < n ∧ f w ≠ 0 := by
  induction n with
  | zero => exact absurd rfl h
  | succ n ih =>
    have e : smP f (n + 1) = smP f n + f n := rfl
    by_cases c : f n = 0
    · obtain ⟨w, h1, h2⟩ := ih (by omega)
      exact ⟨w, by omega, h2⟩
    · exact ⟨n, by omega, c⟩
theorem mxP_is {f : Nat → Nat} {n : Nat} : 0 < n → mxP f n < n ∧ (∀ j, j < n → f j ≤ f (mxP f n)) ∧ ∀ j, j < mxP f n → f j < f (mxP f n) := by
  induction n with
  | zero => intro h; omega
  | succ n ih =>
    intro _
    have e : mxP f (n + 1) = if f (mxP f n) < f n then n else mxP f n := rfl
    rcases Nat.eq_zero_or_pos n with z | z
    · subst z
      have : mxP f 1 = 0 := by unfold mxP; split <;> rfl
      rw [this]
      exact ⟨by omega, fun j hj => by rw [show j = 0 from by omega]; exact Nat.le_refl _, fun j hj => by omega⟩
    · obtain ⟨a, b, c⟩ := ih z
      rw [e]
      split
      · rename_i h
        refine ⟨by omega, fun j hj => ?_, fun j hj => ?_⟩
        · by_cases y : j = n
          · rw [y]; exact Nat.le_refl _
          · have := b j (by omega); omega
        · have := b j hj; omega
      · refine ⟨by omega, fun j hj => ?_, c⟩
        by_cases y : j = n
        · rw [y]; omega
        · exact b j (by omega)
theorem mxP_un {f : Nat → Nat} {n i : Nat} (h : i < n) (h1 : ∀ j, j < n → f j ≤ f i) (h2 : ∀ j, j < i → f j < f i) : mxP f n = i := by
  obtain ⟨a, b, c⟩ := mxP_is (f := f) (n := n) (by omega)
  rcases Nat.lt_trichotomy (mxP f n) i with x | x | x
  · have := h2 _ x; have := b i h; omega
  · exact x
  · have := c _ x; have := h1 _ a; omega
theorem pcN_pos {w : Nat} (h : pcN w ≠ 0) : ∃ k, k < 12 ∧ w.testBit k = true := by
  obtain ⟨k, a, b⟩ := smP_ex h
  refine ⟨k, a, ?_⟩
  cases z : w.testBit k
  · simp only [z] at b; exact absurd rfl b
  · rfl
theorem hw_some {B : Bd} {st : Nat → Nat} {fl : List Nat} {side many told : Nat} (hm : 1 ≤ many) (h : hwA B st fl side many told (2 ^ fl.length) ≠ 0) : ∃ k, k < fl.length ∧ 0 < hwK B st fl side many told k (2 ^ fl.length) := by
  obtain ⟨w, a, b⟩ := smP_ex h
  have hF : hwF B st fl side many told w = true := by
    cases z : hwF B st fl side many told w
    · simp only [z] at b; exact absurd rfl b
    · rfl
  have hF2 := hF
  unfold hwF at hF2
  rw [Bool.and_eq_true, decide_eq_true_eq] at hF2
  obtain ⟨k, _, hk⟩ := pcN_pos (w := w) (by omega)
  refine ⟨k, ?_, ?_⟩
  · rcases Nat.lt_or_ge k fl.length with c | c
    · exact c
    · have := Nat.testBit_lt_two_pow (Nat.lt_of_lt_of_le a (Nat.pow_le_pow_right (by omega) c))
      rw [hk] at this; cases this
  · have := smP_in (f := fun way => if (hwF B st fl side many told way && way.testBit k) = true then 1 else 0) a
    simp only [hF, hk] at this
    exact this
theorem hwP_at {B : Bd} {st : Nat → Nat} {fl : List Nat} {side many told : Nat} (hs : fl.Pairwise (fun a b => a < b)) {i : Nat} (hi : i < fl.length) : hwP B st fl side many told (fl.getD i 0) = hwK B st fl side many told i (2 ^ fl.length) := by
  unfold hwP
  rw [fstP_some hi (by simp) (fun u hu => decide_eq_false (fun e => by have := srt_inj hs (by omega) hi e; omega))]
theorem hwP_in {B : Bd} {st : Nat → Nat} {fl : List Nat} {side many told p : Nat} (hs : fl.Pairwise (fun a b => a < b)) : hwP B st fl side many told p = 0 ∨ ∃ i, i < fl.length ∧ fl.getD i 0 = p ∧ hwP B st fl side many told p = hwK B st fl side many told i (2 ^ fl.length) := by
  rcases fstP_ex (f := fun i => decide (fl.getD i 0 = p)) (n := fl.length) with ⟨e, _⟩ | ⟨i, _, hi, yes, _⟩
  · left; unfold hwP; rw [e]
  · rw [decide_eq_true_eq] at yes
    exact Or.inr ⟨i, hi, yes, by rw [← yes]; exact hwP_at hs hi⟩
theorem mx_fl {B : Bd} {st : Nat → Nat} {fl : List Nat} {side many told N : Nat} (hs : fl.Pairwise (fun a b => a < b)) (hb : ∀ k, k < fl.length → fl.getD k 0 < N) (hm : 1 ≤ many) (h : hwA B st fl side many told (2 ^ fl.length) ≠ 0) : fl.getD (mxP (fun k => hwK B st fl side many told k (2 ^ fl.length)) fl.length) 0 = mxP (hwP B st fl side many told) N := by
  obtain ⟨k0, hk0, p0⟩ := hw_some hm h
  obtain ⟨a, b, c⟩ := mxP_is (f := fun k => hwK B st fl side many told k (2 ^ fl.length)) (n := fl.length) (by omega)
  generalize mxP (fun k => hwK B st fl side many told k (2 ^ fl.length)) fl.length = i at *
  have pi := b k0 hk0
  refine (mxP_un (hb i a) (fun j hj => ?_) (fun j hj => ?_)).symm
  · rw [hwP_at hs a]
    rcases hwP_in (B := B) (st := st) (side := side) (many := many) (told := told) (p := j) hs with z | ⟨l, l1, l2, l3⟩
    · rw [z]; exact Nat.zero_le _
    · rw [l3]; exact b l l1
  · rw [hwP_at hs a]
    rcases hwP_in (B := B) (st := st) (side := side) (many := many) (told := told) (p := j) hs with z | ⟨l, l1, l2, l3⟩
    · rw [z]; omega
    · rw [l3]
      refine c l ?_
      rcases Nat.lt_trichotomy l i with x | x | x
      · exact x
      · rw [x] at l2; omega
      · have := srt_get hs x l1; omega
section
variable {Q : Option Value → xw → Prop} {w : xw} {B : Bd} {s t : GS} {a b : Nat} {H : List GS}
set_option maxHeartbeats 1000000 in
theorem x_hidden (hB : bOk B ∨ bN B = 0) (hK : bK B ≤ 5) (hA : XA B b s w) (hg : gOk B s) (set : Int64) (x y c k : Int32)
    (q0 : ¬ ((k = -nI 1 ∨ vld k (bN B)) ∧ hidOk B s set x y c) → Q (some (.int (-nI 1))) w)
    (q1 : ∀ side many told, x = nI side → side < 2 → y = nI many → 1 ≤ many → many ≤ 3 → c = nI told → told < bN B → hidOk B s set x y c → (k = -nI 1 ∨ vld k (bN B)) → ∀ w', xfQ w w' → XG B s 345 w' → Q (some (.int (hidR B s set side many told k))) w') : V_X0_hidden [.ref 256, .long set, .int x, .int y, .int c, .int k] w Q := by
  have hN : bN B ≤ 36 := bN36 hB
  have go : (k = -nI 1 ∨ vld k (bN B)) → ∀ {o1 o2 o3 o4 o5 o7 : Option Value}, V_X0_hides [.ref 256, .long set, .int x, .int y, .int c] w (fun v w1 => T_X0_hidden Q 25 [some (.ref 256), o1, o2, o3, o4, o5, some (.int k), o7] (v.toList ++ []) w1) := by
    intro hk o1 o2 o3 o4 o5 o7
    refine x_hides hB hK hA hg set x y c (fun h => r_X0_hidden_25 ?_) (fun side many told ea hs eb m1 m3 ec ht hok w1 f1 g1 fr1 b1 c1 => r_X0_hidden_25 ?_)
    · exact ⟨fun z => absurd rfl z, fun _ => ⟨trivial, q0 (fun z => h z.2)⟩⟩
    have q := q1 side many told ea hs eb m1 m3 ec ht hok hk w1 f1 g1
    unfold hidR at q
    have hl : (flG B s set).length ≤ 12 := hok.2.2.2.2.2.2
    have srt : (flG B s set).Pairwise (fun a b => a < b) := hfL_srt set (gS s) (bN B)
    obtain ⟨hE1, hO1, hG1⟩ := XA_fQ f1 hA g1
    have hmem : ∀ k, k < (flG B s set).length → (flG B s set).getD k 0 < bN B := fun k hk => (hfL_mem.mp (getD_mem hk)).1
    have hA := hwA_le (B := B) (st := gS s) (side := side) (told := told) m3 hl
    unfold flG at *
    generalize hfL set (gS s) (bN B) = fl at *
    have hP := fun p => hwP_le (B := B) (st := gS s) (fl := fl) (side := side) (many := many) (told := told) (p := p)
    have hP2 := fun {i : Nat} (hi : i < fl.length) => hwP_at (B := B) (st := gS s) (side := side) (many := many) (told := told) srt hi
    have eA : (nI (hwA B (gS s) fl side many told (2 ^ fl.length)) = (0 : Int32)) ↔ hwA B (gS s) fl side many told (2 ^ fl.length) = 0 := n_eq (b := 0) (by omega) (by omega)
    refine ⟨fun _ => ⟨fun x => ⟨XE_s hE1, ?_⟩, fun x => ⟨XE_s hE1, trivial, ?_⟩⟩, fun z => absurd (by decide) z⟩
    rotate_left
    · rw [if_pos (show k = -nI 1 from Decidable.not_not.mp x)] at q; rw [b1]; exact q
    rw [b1, eA]
    rw [if_neg (show ¬ k = -nI 1 from x)] at q
    refine ⟨fun y => ?_, fun y => ⟨trivial, ?_⟩⟩
    rotate_left
    · rw [if_pos (Decidable.not_not.mp y)] at q; exact q
    rw [if_neg y] at q
    obtain ⟨p, hp, ep⟩ := vld_ex (a := k) (n := bN B) (hk.elim (fun h => absurd h x) id)
    subst ep
    rw [n_tn (by omega)] at q
    have main := upTo fl.length (fun i (_ : Unit) => ∀ j, j < i → fl.getD j 0 ≠ p) (fun i _ => ∀ {o1 o2 o3 o4 o5 : Option Value}, T_X0_hidden Q 53 [some (.ref 256), o1, o2, o3, o4, o5, some (.int (nI p)), some (.int (nI i))] [] w1) ?_ ?_
    · exact main 0 () (by omega) (fun j hj => by omega)
    · intro _ h o1 o2 o3 o4 o5
      refine r_X0_hidden_53 ?_
      rw [fr1.1]
      refine ⟨XE_s hE1, fun _ => ⟨trivial, ?_⟩, fun z => absurd (Int32.le_refl _) z⟩
      have e0 : hwP B (gS s) fl side many told p = 0 := by
        unfold hwP
        rw [fstP_none (fun u hu => decide_eq_false (h u hu))]
      rw [e0] at q
      rw [Nat.mul_zero, Nat.zero_div] at q
      exact q
    · intro i _ hi h next o1 o2 o3 o4 o5
      refine r_X0_hidden_53 ?_
      have m1 := hmem i hi
      have := hP (fl.getD i 0)
      rw [fr1.1]
      refine ⟨XE_s hE1, fun z => by rw [n_le (by omega) (by omega)] at z; omega, fun _ => ?_⟩
      rw [XO_16 hO1, XO_17 hO1, XO_s16 hO1, XO_s17 hO1, n_tn (by omega), fr1.2 i hi, c1 i hi, b1, n_eq (by omega) (by omega), show nI i + 1 = nI (i + 1) from n_add i 1]
      refine ⟨XE_s hE1, by omega, rfl, (n_in (by omega)).mpr (by omega), fun z => next () (fun j hj => ?_), fun z => ?_⟩
      · by_cases e : j = i
        · rw [e]; exact z
        · exact h j (by omega)
      · rw [Decidable.not_not] at z
        rw [← z, hP2 hi] at q
        rw [hP2 hi] at this
        refine ⟨XE_s hE1, by omega, rfl, (n_in (by omega)).mpr (by omega), XE_s hE1, fun x => y (eA.mp x), trivial, ?_⟩
        rw [show (1000 : Int32) * nI (hwK B (gS s) fl side many told i (2 ^ fl.length)) = nI (1000 * hwK B (gS s) fl side many told i (2 ^ fl.length)) from n_mul 1000 _, n_div (by omega) (by omega)]
        exact q
  refine e_X0_hidden (r_X0_hidden_0 ⟨fun z => ⟨XE_s hA.1, go (Or.inl z)⟩, fun z => ⟨XE_s hA.1, ?_⟩⟩)
  refine x_isPlace hN hA.1 k (r_X0_hidden_12 ⟨fun y => ⟨trivial, q0 (fun x => ?_)⟩, fun y => ⟨XE_s hA.1, ?_⟩⟩)
  · have := bI_e0 y
    rw [decide_eq_false_iff_not] at this
    rcases x.1 with h | h
    · exact z h
    · exact this h
  · have y' := bI_n0 y
    rw [decide_eq_true_eq] at y'
    exact go (Or.inr y')
set_option maxHeartbeats 1000000 in
theorem x_look (hB : bOk B ∨ bN B = 0) (hK : bK B ≤ 5) (hA : XA B b s w) (hg : gOk B s) (set : Int64) (x y c : Int32)
    (q0 : ¬ hidOk B s set x y c → Q (some (.int (-nI 1))) w)
    (q1 : ∀ side many told, x = nI side → side < 2 → y = nI many → 1 ≤ many → many ≤ 3 → c = nI told → told < bN B → hidOk B s set x y c → ∀ w', xfQ w w' → XG B s 345 w' → Q (some (.int (lookR B s set side many told))) w') : V_X0_look [.ref 256, .long set, .int x, .int y, .int c] w Q := by
  have hN : bN B ≤ 36 := bN36 hB
  refine e_X0_look (r_X0_look_0 ⟨XE_s hA.1, x_hides hB hK hA hg set x y c (fun h => r_X0_look_10 ?_) (fun side many told ea hs eb m1 m3 ec ht hok w1 f1 g1 fr1 b1 c1 => r_X0_look_10 ?_)⟩)
  · exact ⟨fun _ => ⟨trivial, q0 h⟩, fun z => absurd rfl z⟩
  have q := q1 side many told ea hs eb m1 m3 ec ht hok w1 f1 g1
  unfold lookR at q
  have hl : (flG B s set).length ≤ 12 := hok.2.2.2.2.2.2
  have srt : (flG B s set).Pairwise (fun a b => a < b) := hfL_srt set (gS s) (bN B)
  obtain ⟨hE1, hO1, hG1⟩ := XA_fQ f1 hA g1
  have hmem : ∀ k, k < (flG B s set).length → (flG B s set).getD k 0 < bN B := fun k hk => (hfL_mem.mp (getD_mem hk)).1
  have hA := hwA_le (B := B) (st := gS s) (side := side) (told := told) m3 hl
  unfold flG at *
  generalize hfL set (gS s) (bN B) = fl at *
  have eA : (nI (hwA B (gS s) fl side many told (2 ^ fl.length)) = (0 : Int32)) ↔ hwA B (gS s) fl side many told (2 ^ fl.length) = 0 := n_eq (b := 0) (by omega) (by omega)
  have hk1 := fun i => hwK_le (B := B) (st := gS s) (fl := fl) (side := side) (many := many) (told := told) (k := i) (2 ^ fl.length)
  refine ⟨fun z => absurd z (by decide), fun _ => ⟨XE_s hE1, ?_⟩⟩
  rw [b1, eA]
  refine ⟨fun y => ?_, fun y => ⟨trivial, ?_⟩⟩
  rotate_left
  · rw [if_pos (Decidable.not_not.mp y)] at q; exact q
  have mm := mx_fl srt hmem m1 y
  rw [if_neg y, ← mm] at q
  clear mm
  obtain ⟨k0, hk0, _⟩ := hw_some m1 y
  generalize hF : (fun k => hwK B (gS s) fl side many told k (2 ^ fl.length)) = F at *
  have c2 : ∀ k, k < fl.length → xI w1 792 k = nI (F k) := fun k hk => by rw [← hF]; exact c1 k hk
  have hk2 : ∀ k, F k ≤ hwA B (gS s) fl side many told (2 ^ fl.length) := fun k => by rw [← hF]; exact hk1 k
  have main := upTo fl.length (fun p (_ : Unit) => 1 ≤ p) (fun p _ => ∀ {o1 o2 o3 o4 o5 : Option Value}, T_X0_look Q 28 [some (.ref 256), o1, o2, o3, o4, o5, some (.int (nI (mxP F p))), some (.int (nI p))] [] w1) ?_ ?_
  · have start := main 1 () (by omega) (Nat.le_refl 1) (o1 := none) (o2 := none) (o3 := none) (o4 := none) (o5 := none)
    have e0 : mxP F 1 = 0 := by unfold mxP; split <;> rfl
    rw [e0] at start
    exact start
  · intro _ _ o1 o2 o3 o4 o5
    have ml := mxP_lt (f := F) (n := fl.length) (by omega)
    refine r_X0_look_28 ?_
    rw [fr1.1, XO_16 hO1, XO_s16 hO1, n_tn (by omega), fr1.2 _ ml]
    exact ⟨XE_s hE1, fun _ => ⟨XE_s hE1, by omega, rfl, (n_in (by omega)).mpr (by omega), trivial, q⟩, fun z => absurd (Int32.le_refl _) z⟩
  · intro p _ hp h1 next o1 o2 o3 o4 o5
    have hm := mxP_lt (f := F) (n := p) h1
    have k1 := hk2 p
    have k2 := hk2 (mxP F p)
    refine r_X0_look_28 ?_
    rw [fr1.1, XO_17 hO1, XO_s17 hO1, n_tn (by omega), n_tn (by omega), c2 p hp, c2 _ (by omega), show nI p + 1 = nI (p + 1) from n_add p 1]
    have nx := fun {o1 o2 o3 o4 o5} => next () (by omega) (o1 := o1) (o2 := o2) (o3 := o3) (o4 := o4) (o5 := o5)
    unfold mxP at nx
    refine ⟨XE_s hE1, fun z => by rw [n_le (by omega) (by omega)] at z; omega, fun _ => ⟨XE_s hE1, by omega, rfl, (n_in (by omega)).mpr (by omega), XE_s hE1, by omega, rfl, (n_in (by omega)).mpr (by omega), fun z => ?_, fun z => ?_⟩⟩
    · rw [n_le (by omega) (by omega)] at z
      rw [if_neg (by omega)] at nx; exact nx
    · rw [n_le (by omega) (by omega)] at z
      rw [if_pos (by omega)] at nx; exact nx
end
