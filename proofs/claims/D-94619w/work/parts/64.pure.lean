/-! plain facts of the game: parts lie apart, a day leaves a state -/
theorem mod_of {w y x : Nat} (hx : x < w) : (w * y + x) % w = x := by rw [Nat.mul_add_mod]; exact Nat.mod_eq_of_lt hx
theorem div_of {w y x : Nat} (hx : x < w) : (w * y + x) / w = y := by
  rw [Nat.mul_add_div (by omega), Nat.div_eq_of_lt hx, Nat.add_zero]
theorem nbr_sym {B : Bd} {u v d : Nat} (hu : u < bN B) (h : nbr B u d = some v) : ∃ d', nbr B v d' = some u := by
  obtain ⟨c1, c2⟩ := bOk_xy hu
  have e := Nat.div_add_mod u (bW B)
  have hd := nbr_d h
  rcases (by omega : d = 0 ∨ d = 1 ∨ d = 2 ∨ d = 3) with z | z | z | z <;> subst z
  · rw [nbr_0] at h
    split at h
    · rename_i c
      cases h
      refine ⟨1, ?_⟩
      have m : (u + 1) % bW B = u % bW B + 1 := by
        conv => lhs; rw [← e, Nat.add_assoc]
        exact mod_of c
      rw [nbr_1, if_pos (by omega)]; rfl
    · cases h
  · rw [nbr_1] at h
    split at h
    · rename_i c
      cases h
      refine ⟨0, ?_⟩
      have e2 : u - 1 = bW B * (u / bW B) + (u % bW B - 1) := by omega
      have m : (u - 1) % bW B = u % bW B - 1 := by rw [e2]; exact mod_of (by omega)
      have : u - 1 + 1 = u := by omega
      rw [nbr_0, if_pos (by omega), this]
    · cases h
  · rw [nbr_2] at h
    split at h
    · rename_i c
      cases h
      refine ⟨3, ?_⟩
      have m : (u + bW B) / bW B = u / bW B + 1 := Nat.add_div_right u (by omega)
      have : u + bW B - bW B = u := by omega
      rw [nbr_3, if_pos (show 0 < (u + bW B) / bW B by rw [m]; exact Nat.succ_pos _), this]
    · cases h
  · rw [nbr_3] at h
    split at h
    · rename_i c
      cases h
      refine ⟨2, ?_⟩
      have w0 : bW B ≤ u := by
        have : bW B * 1 ≤ bW B * (u / bW B) := Nat.mul_le_mul_left _ (by omega)
        omega
      have m : u / bW B = (u - bW B) / bW B + 1 := Nat.div_eq_sub_div (by omega) w0
      have : u - bW B + bW B = u := by omega
      rw [nbr_2, if_pos (by omega), this]
    · cases h
theorem Rc_lt {B : Bd} {e : Int64} {p q : Nat} (hp : p < bN B) (h : Rc B e p q) : q < bN B := h (fun u => u < bN B) hp (fun _ _ _ hu hn _ => nbr_lt hu hn)
/-- what is seen is closed: no way leads into it from what is free and not seen -/
theorem seenL_e {B : Bd} {e : Int64} {n q : Nat} (h : mb e q = true) : mb (seenL B e n) q = true := by
  induction n with
  | zero => exact h
  | succ n ih =>
    unfold seenL
    split
    · exact ih
    · rw [mb_or, ih]; rfl
theorem seenL_cl {B : Bd} {e : Int64} (hN : bN B ≤ 36) {n : Nat} (hn : n ≤ bN B) : ∀ u v d, u < bN B → mb (seenL B e n) u = true → mb e u = false → nbr B u d = some v → mb e v = false → mb (seenL B e n) v = true := by
  induction n with
  | zero => intro u v d _ h1 h2; unfold seenL at h1; rw [h2] at h1; cases h1
  | succ n ih =>
    intro u v d hu h1 h2 h3 h4
    have hv := nbr_lt hu h3
    unfold seenL at h1 ⊢
    split
    · rename_i c
      rw [if_pos c] at h1
      exact ih (by omega) u v d hu h1 h2 h3 h4
    · rename_i c
      rw [if_neg c, mb_or] at h1
      rw [mb_or]
      cases z : mb (seenL B e n) u with
      | true => rw [ih (by omega) u v d hu z h2 h3 h4]; rfl
      | false =>
        rw [z, Bool.false_or, mb_cpL B e n (by omega)] at h1
        rw [(mb_cpL B e n (by omega)).mpr (Rc_step h1 h3 h4), Bool.or_true]
theorem cpL_off {B : Bd} {e : Int64} (hN : bN B ≤ 36) {n : Nat} (hn : n < bN B) (h : mb (seenL B e n) n = false) {q : Nat} (hq : Rc B e n q) : mb (seenL B e n) q = false := by
  have he : mb e n = false := by
    cases z : mb e n with
    | false => rfl
    | true => rw [seenL_e z] at h; cases h
  refine (hq (fun u => (mb (seenL B e n) u = false ∧ mb e u = false) ∧ u < bN B) ⟨⟨h, he⟩, hn⟩ (fun u v d hu h1 h2 => ?_)).1.1
  have hv := nbr_lt hu.2 h1
  refine ⟨⟨?_, h2⟩, hv⟩
  cases z : mb (seenL B e n) v with
  | false => rfl
  | true =>
    obtain ⟨d', hs⟩ := nbr_sym hu.2 h1
    have := seenL_cl hN (Nat.le_of_lt hn) v u d' hv z h2 hs hu.1.2
    rw [hu.1.1] at this; cases this
abbrev apart (L : List Int64) : Prop := L.Pairwise (fun a b => ∀ p, ¬ (mb a p = true ∧ mb b p = true))
theorem ptsL_ok {B : Bd} {e : Int64} (hN : bN B ≤ 36) {n : Nat} (hn : n ≤ bN B) : (∀ o, o ∈ ptsL B e n → ∀ p, mb o p = true → p < bN B ∧ mb (seenL B e n) p = true) ∧ apart (ptsL B e n) := by
  induction n with
  | zero => exact ⟨fun o h => by simp [ptsL] at h, List.Pairwise.nil⟩
  | succ n ih =>
    obtain ⟨i1, i2⟩ := ih (by omega)
    have ep : ptsL B e (n + 1) = if mb (seenL B e n) n = true then ptsL B e n else if rimG B (cpL B e n) = true then ptsL B e n else ptsL B e n ++ [cpL B e n] := rfl
    have es : seenL B e (n + 1) = if mb (seenL B e n) n = true then seenL B e n else seenL B e n ||| cpL B e n := rfl
    rw [ep, es]
    by_cases c : mb (seenL B e n) n = true
    · rw [if_pos c, if_pos c]; exact ⟨i1, i2⟩
    · rw [if_neg c, if_neg c]
      have c' : mb (seenL B e n) n = false := by simpa using c
      have i1' : ∀ o, o ∈ ptsL B e n → ∀ p, mb o p = true → p < bN B ∧ mb (seenL B e n ||| cpL B e n) p = true := fun o ho p hp => by
        obtain ⟨a, b⟩ := i1 o ho p hp
        exact ⟨a, by rw [mb_or, b]; rfl⟩
      split
      · exact ⟨i1', i2⟩
      · refine ⟨fun o ho p hp => ?_, ?_⟩
        · rcases List.mem_append.mp ho with h | h
          · exact i1' o h p hp
          · rw [List.mem_singleton] at h
            subst h
            have h64 : p < 64 := by
              rcases Nat.lt_or_ge p 64 with z | z
              · exact z
              · rw [mb_big _ z] at hp; cases hp
            have r := (mb_cpL B e n h64).mp hp
            exact ⟨Rc_lt (by omega) r, by rw [mb_or, hp, Bool.or_true]⟩
        · refine List.pairwise_append.mpr ⟨i2, List.pairwise_singleton _ _, fun a ha b hb p => ?_⟩
          rw [List.mem_singleton] at hb
          subst hb
          intro ⟨h1, h2⟩
          have h64 : p < 64 := by
            rcases Nat.lt_or_ge p 64 with z | z
            · exact z
            · rw [mb_big _ z] at h2; cases h2
          have r := (mb_cpL B e n h64).mp h2
          have := (i1 a ha p h1).2
          rw [cpL_off hN (by omega) c' r] at this; cases this
theorem goOk_all {B : Bd} (hB : bOk B) : goOk B := by
  intro s k pl hg hd hp
  have hN := hB.2.2.2.2.1
  obtain ⟨g1, g2, g3, g4, g5, g6, g7, g8⟩ := hg
  have l1 : ∀ u, (lzA B s pl).1 u ≤ 2 := fun u => lzs_le g3 (by omega) _ u
  have l2 : ∀ u, bN B ≤ u → (lzA B s pl).1 u = 0 := fun u hu => by
    unfold lzA; rw [lzs_out hu]; exact g4 u hu
  cases pl with
  | none => exact ⟨g1, g2, l1, l2, by show gD s + 1 ≤ 200; omega, Nat.zero_le _, fun o h => absurd (show o ∈ ([] : List Int64) from h) List.not_mem_nil, List.Pairwise.nil⟩
  | some p =>
    obtain ⟨hp1, hk⟩ := hp p rfl
    obtain ⟨q1, q2⟩ := ptsL_ok (B := B) (e := edgeL B (upN (gS s) p (2 + 2 * k + gD s % 2)) (gD s % 2)) hN (Nat.le_refl _)
    refine ⟨sOk_up g1 hk (by omega), fun u hu => ?_, l1, l2, by show gD s + 1 ≤ 200; omega, newG_len hB _ _ _ _, fun o ho u hu => ?_, ?_⟩
    · show upN (gS s) p _ u = 0
      unfold upN; rw [if_neg (by omega)]; exact g2 u hu
    · exact (q1 o (List.mem_filter.mp ho).1 u hu).1
    · exact List.Pairwise.filter _ q2
/-! sums of sets that lie apart -/
theorem ctT_or {a b : Int64} (h : ∀ p, ¬ (mb a p = true ∧ mb b p = true)) (n : Nat) : ctT (a ||| b) n = ctT a n + ctT b n := by
  induction n with
  | zero => rfl
  | succ n ih =>
    unfold ctT
    rw [ih, mb_or]
    have := h n
    cases x : mb a n <;> cases y : mb b n <;> simp_all <;> omega
theorem mb_orL {L : List Int64} {k p : Nat} : mb (orL L k) p = true ↔ ∃ i, i < k ∧ mb (L.getD i 0) p = true := by
  induction k with
  | zero =>
    constructor
    · intro h; unfold orL at h; rw [mb_0] at h; cases h
    · intro ⟨i, h, _⟩; omega
  | succ k ih =>
    unfold orL
    rw [mb_or, Bool.or_eq_true, ih]
    constructor
    · rintro (⟨i, h1, h2⟩ | h)
      · exact ⟨i, by omega, h2⟩
      · exact ⟨k, by omega, h⟩
    · intro ⟨i, h1, h2⟩
      by_cases e : i = k
      · subst e; exact Or.inr h2
      · exact Or.inl ⟨i, by omega, h2⟩
theorem apart_get {L : List Int64} (h : apart L) {i j : Nat} (hij : i < j) (hj : j < L.length) (p : Nat) : ¬ (mb (L.getD i 0) p = true ∧ mb (L.getD j 0) p = true) := by
  have := List.pairwise_iff_getElem.mp h i j (by omega) hj hij p
  rw [List.getD_eq_getElem?_getD, List.getD_eq_getElem?_getD, List.getElem?_eq_getElem (by omega), List.getElem?_eq_getElem hj]
  exact this
theorem smC_or {L : List Int64} (h : apart L) {k : Nat} (hk : k ≤ L.length) : cnt (orL L k) = smC L k := by
  induction k with
  | zero => exact cnt_0
  | succ k ih =>
    unfold orL smC
    rw [← ih (by omega)]
    refine ctT_or (fun p ⟨h1, h2⟩ => ?_) 64
    obtain ⟨i, a1, a2⟩ := mb_orL.mp h1
    exact apart_get h a1 (by omega) p ⟨a2, h2⟩
theorem owed_cnt {B : Bd} {s : GS} (hg : gOk B s) : cnt (owedAll s) = smC (gO s) (gO s).length := smC_or hg.2.2.2.2.2.2.2 (Nat.le_refl _)
/-- the places of a set, counted -/
theorem cnt_fn {x : Int64} {f : Nat → Bool} {N : Nat} (hN : N ≤ 64) (h : ∀ p, p < 64 → mb x p = (decide (p < N) && f p)) : cnt x = smP (fun p => if f p = true then 1 else 0) N := by
  have key : ∀ n, n ≤ 64 → ctT x n = smP (fun p => if f p = true then 1 else 0) (min n N) := by
    intro n
    induction n with
    | zero => intro _; rw [Nat.zero_min]; rfl
    | succ n ih =>
      intro hn
      unfold ctT
      rw [ih (by omega), h n (by omega)]
      by_cases c : n < N
      · rw [show min (n + 1) N = min n N + 1 from by omega, show min n N = n from by omega]
        conv => rhs; unfold smP
        rw [decide_eq_true c, Bool.true_and]
      · rw [show min (n + 1) N = min n N from by omega, decide_eq_false c]; simp
  rw [show cnt x = ctT x 64 from rfl, key 64 (Nat.le_refl _), show min 64 N = N from by omega]
