/-! values of codes -/
def cl (v : Int) : Int := if 1000000 < v then 1000000 else if v < -1000000 then -1000000 else v
def fl (a b : Int) : Int := if b = 0 then 0 else if a - a.tdiv b * b ≠ 0 ∧ decide (a < 0) ≠ decide (b < 0) then a.tdiv b - 1 else a.tdiv b
def b6 (v : Int) : Prop := -1000000 ≤ v ∧ v ≤ 1000000
def b01 (v : Int) : Bool := decide (v = 0) || decide (v = 1)
theorem b01_i {v : Int} (h : b01 v = true) : v = 0 ∨ v = 1 := by
  unfold b01 at h
  rw [Bool.or_eq_true, decide_eq_true_eq, decide_eq_true_eq] at h
  exact h
theorem cl_b (v : Int) : b6 (cl v) := by unfold cl b6; split <;> try split
                                         all_goals omega
theorem fl_b {a b : Int} (h : b6 a) : b6 (fl a b) := by
  unfold fl
  unfold b6 at h
  split
  · unfold b6; omega
  rename_i hb
  have e : (a.tdiv b).natAbs = a.natAbs / b.natAbs := Int.natAbs_tdiv a b
  have e1 : a.natAbs / b.natAbs ≤ a.natAbs := Nat.div_le_self _ _
  split
  · rename_i c
    by_cases h1 : b.natAbs = 1
    · exfalso
      have hb1 : b = 1 ∨ b = -1 := by omega
      apply c.1
      rcases hb1 with z | z
      · rw [z, Int.tdiv_one]; omega
      · rw [z, Int.tdiv_neg, Int.tdiv_one]; omega
    · have e2 : a.natAbs / b.natAbs ≤ a.natAbs / 2 := Nat.div_le_div_left (by omega) (by omega)
      unfold b6
      omega
  · unfold b6; omega
def opV (c : Nat) (a b : Int) : Option Int :=
  if c = 1 then some (cl (a + b)) else if c = 2 then some (cl (a - b)) else if c = 3 then some (cl (a * b)) else if c = 4 then some (fl a b)
  else if c = 5 then some (if a < b then a else b) else if c = 6 then some (if b < a then a else b)
  else if c = 11 then some (if a < b then 1 else 0) else if c = 12 then some (if b < a then 1 else 0) else if c = 13 then some (if a = b then 1 else 0)
  else if c = 14 then (if (b01 a && b01 b) = true then some (a * b) else none) else if c = 15 then (if (b01 a && b01 b) = true then some (if 0 < a + b then 1 else 0) else none) else none
/-- place: across, down, edge -/
def stC (x y e : Nat) (c : Nat) (s : List Int) : Option (List Int) :=
  if 1000 ≤ c then (if c ≤ 10999 then some (((c - 1000 : Nat) : Int) :: s) else none)
  else if c = 17 then some (1 :: s)
  else if c = 16 then (match s with
    | v :: r => if b01 v = true then some ((1 - v) :: r) else none
    | [] => none)
  else if c = 7 then some ((x : Int) :: s) else if c = 8 then some ((y : Int) :: s) else if c = 9 then some ((e : Int) :: s)
  else match s with
    | b :: a :: r => (opV c a b).map (fun v => v :: r)
    | _ => none
def runC (x y e : Nat) : List Nat → List Int → Option (List Int)
  | [], s => some s
  | c :: l, s => match stC x y e c s with
    | none => none
    | some s' => runC x y e l s'
theorem run_app (x y e : Nat) (l1 l2 : List Nat) : ∀ s, runC x y e (l1 ++ l2) s = match runC x y e l1 s with
    | none => none
    | some s' => runC x y e l2 s' := by
  induction l1 with
  | nil => intro s; rfl
  | cons c l ih =>
    intro s
    have e1 : runC x y e (c :: l ++ l2) s = match stC x y e c s with | none => none | some s' => runC x y e (l ++ l2) s' := rfl
    have e2 : runC x y e (c :: l) s = match stC x y e c s with | none => none | some s' => runC x y e l s' := rfl
    rw [e1, e2]
    cases stC x y e c s with
    | none => rfl
    | some s' => exact ih s'
theorem opV_in {c : Nat} {a b v : Int} (h : opV c a b = some v) : c = 1 ∨ c = 2 ∨ c = 3 ∨ c = 4 ∨ c = 5 ∨ c = 6 ∨ c = 11 ∨ c = 12 ∨ c = 13 ∨ c = 14 ∨ c = 15 := by
  unfold opV at h
  by_cases h1 : c = 1 ∨ c = 2 ∨ c = 3 ∨ c = 4 ∨ c = 5 ∨ c = 6 ∨ c = 11 ∨ c = 12 ∨ c = 13 ∨ c = 14 ∨ c = 15
  · exact h1
  · rw [if_neg (by omega), if_neg (by omega), if_neg (by omega), if_neg (by omega), if_neg (by omega), if_neg (by omega), if_neg (by omega), if_neg (by omega), if_neg (by omega), if_neg (by omega), if_neg (by omega)] at h
    cases h
theorem opV_b {c : Nat} {a b v : Int} (ha : b6 a) (hb : b6 b) (h : opV c a b = some v) : b6 v := by
  have z01 : b6 0 ∧ b6 1 := by unfold b6; omega
  rcases opV_in h with g | g | g | g | g | g | g | g | g | g | g <;> subst g
  · have h : some (cl (a + b)) = some v := h
    cases h; exact cl_b _
  · have h : some (cl (a - b)) = some v := h
    cases h; exact cl_b _
  · have h : some (cl (a * b)) = some v := h
    cases h; exact cl_b _
  · have h : some (fl a b) = some v := h
    cases h; exact fl_b ha
  · have h : some (if a < b then a else b) = some v := h
    cases h; split
    · exact ha
    · exact hb
  · have h : some (if b < a then a else b) = some v := h
    cases h; split
    · exact ha
    · exact hb
  · have h : some (if a < b then (1 : Int) else 0) = some v := h
    cases h; split
    · exact z01.2
    · exact z01.1
  · have h : some (if b < a then (1 : Int) else 0) = some v := h
    cases h; split
    · exact z01.2
    · exact z01.1
  · have h : some (if a = b then (1 : Int) else 0) = some v := h
    cases h; split
    · exact z01.2
    · exact z01.1
  · have h : (if (b01 a && b01 b) = true then some (a * b) else none) = some v := h
    split at h
    · rename_i c2
      rw [Bool.and_eq_true] at c2
      cases h
      rcases b01_i c2.1 with e | e <;> rcases b01_i c2.2 with f | f <;> rw [e, f] <;> unfold b6 <;> decide
    · cases h
  · have h : (if (b01 a && b01 b) = true then some (if 0 < a + b then (1 : Int) else 0) else none) = some v := h
    split at h
    · cases h; split
      · exact z01.2
      · exact z01.1
    · cases h
theorem stC_b {x y e c : Nat} {s s' : List Int} (hp : x < 100 ∧ y < 100 ∧ e < 100) (hs : ∀ v, v ∈ s → b6 v) (h : stC x y e c s = some s') : (∀ v, v ∈ s' → b6 v) ∧ s'.length ≤ s.length + 1 := by
  have cons : ∀ (v : Int) (r : List Int), b6 v → (∀ u, u ∈ r → b6 u) → ∀ u, u ∈ v :: r → b6 u := fun v r h1 h2 u hu => by
    rcases List.mem_cons.mp hu with g | g
    · rw [g]; exact h1
    · exact h2 u g
  unfold stC at h
  split at h
  · split at h
    · cases h; exact ⟨cons _ _ (by unfold b6; omega) hs, Nat.le_refl _⟩
    · cases h
  split at h
  · cases h; exact ⟨cons _ _ (by unfold b6; omega) hs, Nat.le_refl _⟩
  split at h
  · split at h
    · split at h
      · rename_i v r c2
        cases h
        refine ⟨cons _ _ ?_ (fun u hu => hs u (List.mem_cons_of_mem _ hu)), by simp⟩
        rcases b01_i c2 with g | g <;> rw [g] <;> unfold b6 <;> decide
      · cases h
    · cases h
  split at h
  · cases h; exact ⟨cons _ _ (by unfold b6; omega) hs, Nat.le_refl _⟩
  split at h
  · cases h; exact ⟨cons _ _ (by unfold b6; omega) hs, Nat.le_refl _⟩
  split at h
  · cases h; exact ⟨cons _ _ (by unfold b6; omega) hs, Nat.le_refl _⟩
  split at h
  · rename_i b a r
    cases ho : opV c a b with
    | none => rw [ho] at h; cases h
    | some v =>
      rw [ho] at h
      cases h
      exact ⟨cons _ _ (opV_b (hs a (by simp)) (hs b (by simp)) ho) (fun u hu => hs u (by simp [hu])), by simp⟩
  · cases h
/-! longs that stand for such values -/
def jZ (v : Int) : Int64 := Int64.ofInt v
theorem jZ_T {v : Int} (h : -9000000000000000000 ≤ v ∧ v ≤ 9000000000000000000) : (jZ v).toInt = v := by
  unfold jZ
  exact Int64.toInt_ofInt_of_le (by omega) (by omega)
theorem jZ_add (a b : Int) : jZ a + jZ b = jZ (a + b) := (Int64.ofInt_add a b).symm
theorem jZ_sub (a b : Int) : jZ a - jZ b = jZ (a - b) := (Int64.ofInt_sub a b).symm
theorem jZ_mul (a b : Int) : jZ a * jZ b = jZ (a * b) := (Int64.ofInt_mul a b).symm
theorem jZ_n {n : Nat} (h : n < 2147483648) : (nI n).toInt64 = jZ n := by
  rw [← Int64.toInt_inj, Int32.toInt_toInt64, n_T h, jZ_T (by omega)]
theorem jZ_le {a b : Int} (ha : -9000000000000000000 ≤ a ∧ a ≤ 9000000000000000000) (hb : -9000000000000000000 ≤ b ∧ b ≤ 9000000000000000000) : jZ a ≤ jZ b ↔ a ≤ b := by
  rw [Int64.le_iff_toInt_le, jZ_T ha, jZ_T hb]
theorem jZ_eq {a b : Int} (ha : -9000000000000000000 ≤ a ∧ a ≤ 9000000000000000000) (hb : -9000000000000000000 ≤ b ∧ b ≤ 9000000000000000000) : jZ a = jZ b ↔ a = b := by
  rw [← Int64.toInt_inj, jZ_T ha, jZ_T hb]
theorem jZ_div {a b : Int} (ha : b6 a) (hb : b6 b) : jZ a / jZ b = jZ (a.tdiv b) := by
  unfold b6 at ha hb
  have e : (a.tdiv b).natAbs = a.natAbs / b.natAbs := Int.natAbs_tdiv a b
  have e1 : a.natAbs / b.natAbs ≤ a.natAbs := Nat.div_le_self _ _
  rw [← Int64.toInt_inj, Int64.toInt_div, jZ_T (by omega), jZ_T (by omega), jZ_T (by omega)]
  exact Int.bmod_eq_of_le (by omega) (by omega)
section
variable {Q : Option Value → mw → Prop} {M : mw}
def frQ (M M' : mw) : Prop := (∀ j, j ≠ 54 → M'.2 j = M.2 j) ∧ ∀ j, j ≠ 55 → M'.1 j = M.1 j
theorem frQ_refl (M : mw) : frQ M M := ⟨fun _ _ => rfl, fun _ _ => rfl⟩
theorem frQ_trans {M M1 M2 : mw} (h : frQ M M1) (g : frQ M1 M2) : frQ M M2 := ⟨fun j a => (g.1 j a).trans (h.1 j a), fun j a => (g.2 j a).trans (h.2 j a)⟩
theorem frQ_up {M M1 : mw} {i : Nat} {v : Int32} (h : frQ M M1) : frQ M (mM_up M1 55 i v) := frQ_trans h ⟨fun _ _ => rfl, fun j a => by funext u; rw [m_up, if_neg (by omega)]⟩
theorem frQ_upl {M M1 : mw} {i : Nat} {v : Int64} (h : frQ M M1) : frQ M (mM_upl M1 54 i v) := frQ_trans h ⟨fun j a => by funext u; rw [m_upl, if_neg (by omega)], fun j a => rfl⟩
/-- the pile, its top first -/
def MPl (s : List Int) (M : mw) : Prop := M.1 55 0 = nI s.length ∧ ∀ i, i < s.length → M.2 54 (s.length - 1 - i) = jZ (s.getD i 0)
theorem MPl_tl {s r : List Int} {M1 : mw} (h : MPl (s ++ r) M) (h1 : M1.1 55 0 = nI r.length) (h2 : M1.2 54 = M.2 54) : MPl r M1 := ⟨h1, fun i hi => by
  have := h.2 (s.length + i) (by rw [List.length_append]; omega)
  rw [List.length_append, show s.length + r.length - 1 - (s.length + i) = r.length - 1 - i from by omega] at this
  rw [h2, this, List.getD_eq_getElem?_getD, List.getD_eq_getElem?_getD, List.getElem?_append_right (by omega), Nat.add_sub_cancel_left]⟩
theorem MPl_push {s : List Int} {v : Int} (h : MPl s M) : MPl (v :: s) (mM_up (mM_upl M 54 s.length (jZ v)) 55 0 (nI (s.length + 1))) := by
  refine ⟨by rw [m_up, if_pos ⟨rfl, rfl⟩]; rfl, fun i hi => ?_⟩
  rw [List.length_cons] at hi ⊢
  rw [m_up2, m_upl]
  cases i with
  | zero => rw [if_pos ⟨rfl, by omega⟩]; rfl
  | succ i =>
    rw [if_neg (by omega), show s.length + 1 - 1 - (i + 1) = s.length - 1 - i from by omega]
    exact h.2 i (by omega)
theorem s_puts {s : List Int} {v : Int} (h : MPl s M) (hl : s.length < 1700) (q : ∀ M', frQ M M' → MPl (v :: s) M' → Q none M') : V_puts [.ref 0, .long (jZ v)] M Q := by
  refine e_puts (r_puts_0 ?_)
  rw [m_upl2, h.1, n_tn (by omega), show nI s.length + 1 = nI (s.length + 1) from n_add _ 1]
  exact ⟨(n_in (by omega)).mpr hl, rfl, q _ (frQ_up (frQ_upl (frQ_refl M))) (MPl_push h)⟩
theorem s_clip {v : Int} (hv : -9000000000000000000 ≤ v ∧ v ≤ 9000000000000000000) (q : Q (some (.long (jZ (cl v)))) M) : V_clip [.long (jZ v)] M Q := by
  refine e_clip (r_clip_0 ?_)
  rw [lg_cmp_le, lg_cmp_ge, show (1000000 : Int64) = jZ 1000000 from rfl, show -jZ 1000000 = jZ (-1000000) from rfl, jZ_le hv (by omega), jZ_le (by omega) hv]
  unfold cl at q
  refine ⟨fun c1 => ⟨fun c2 => ⟨rfl, ?_⟩, fun c2 => ⟨rfl, ?_⟩⟩, fun c1 => ⟨rfl, ?_⟩⟩
  · rw [if_neg (by omega), if_neg (by omega)] at q; exact q
  · rw [if_neg (by omega), if_pos (by omega)] at q; exact q
  · rw [if_pos (by omega)] at q; exact q
theorem s_floor {a b : Int} (ha : b6 a) (hb : b6 b) (q : Q (some (.long (jZ (fl a b)))) M) : V_floor [.long (jZ a), .long (jZ b)] M Q := by
  have ha' : -9000000000000000000 ≤ a ∧ a ≤ 9000000000000000000 := by unfold b6 at ha; omega
  have hb' : -9000000000000000000 ≤ b ∧ b ≤ 9000000000000000000 := by unfold b6 at hb; omega
  have z0 : (0 : Int64) = jZ 0 := rfl
  have z1 : (1 : Int64) = jZ 1 := rfl
  have e : (a.tdiv b).natAbs = a.natAbs / b.natAbs := Int.natAbs_tdiv a b
  have e1 : a.natAbs / b.natAbs ≤ a.natAbs := Nat.div_le_self _ _
  have hq : -1000000 ≤ a.tdiv b ∧ a.tdiv b ≤ 1000000 := by unfold b6 at ha; omega
  have hm : -1000000000000 ≤ a.tdiv b * b ∧ a.tdiv b * b ≤ 1000000000000 := by
    have m1 : (a.tdiv b * b).natAbs = (a.tdiv b).natAbs * b.natAbs := Int.natAbs_mul _ _
    have m2 : (a.tdiv b).natAbs * b.natAbs ≤ 1000000 * 1000000 := Nat.mul_le_mul (by omega) (by unfold b6 at hb; omega)
    omega
  have er : bs_lrem (jZ a) (jZ b) = jZ (a - a.tdiv b * b) := by rw [bs_lrem, jZ_div ha hb, jZ_mul, jZ_sub]
  have ha6 : -1000000 ≤ a ∧ a ≤ 1000000 := ha
  refine e_floor (r_floor_0 ?_)
  rw [er, jZ_div ha hb, lg_cmp_eq, lg_cmp_eq, lg_cmp_ge, lg_cmp_ge, z0, z1, jZ_sub, jZ_eq hb' (by omega), jZ_eq (by omega) (by omega), jZ_le (by omega) ha', jZ_le (by omega) hb']
  unfold fl at q
  refine ⟨fun c1 => ⟨c1, c1, fun c2 => ⟨rfl, ?_⟩, fun c2 => ⟨fun c3 => ⟨fun c4 => ⟨fun _ => ⟨rfl, ?_⟩, fun z => absurd rfl z⟩, fun c4 => ⟨fun z => absurd z (by decide), fun _ => ⟨rfl, ?_⟩⟩⟩, fun c3 => ⟨fun c4 => ⟨fun z => absurd z (by decide), fun _ => ⟨rfl, ?_⟩⟩, fun c4 => ⟨fun _ => ⟨rfl, ?_⟩, fun z => absurd rfl z⟩⟩⟩⟩, fun c1 => ⟨rfl, ?_⟩⟩
  · rw [if_neg c1, if_neg (fun z => z.1 c2)] at q; exact q
  · rw [if_neg c1, if_neg (fun z => z.2 (by rw [decide_eq_false (by omega), decide_eq_false (by omega)]))] at q; exact q
  · rw [if_neg c1, if_pos ⟨c2, by rw [decide_eq_false (by omega), decide_eq_true (by omega)]; decide⟩] at q; exact q
  · rw [if_neg c1, if_pos ⟨c2, by rw [decide_eq_true (by omega), decide_eq_false (by omega)]; decide⟩] at q; exact q
  · rw [if_neg c1, if_neg (fun z => z.2 (by rw [decide_eq_true (by omega), decide_eq_true (by omega)]))] at q; exact q
  · rw [if_pos (Decidable.not_not.mp c1)] at q; exact q
theorem s_joins {c : Nat} {x : Int32} {a b v : Int} {r : List Int} (h : MPl (b :: a :: r) M) (ha : b6 a) (hb : b6 b) (hl : r.length < 1690) (hv : opV c a b = some v) (hx : x = nI c) (q : ∀ M', frQ M M' → MPl (v :: r) M' → Q none M') : V_joins [.ref 0, .int x] M Q := by
  subst hx
  have hc := opV_in hv
  have ha6 : -1000000 ≤ a ∧ a ≤ 1000000 := ha
  have hb6 : -1000000 ≤ b ∧ b ≤ 1000000 := hb
  have ha' : -9000000000000000000 ≤ a ∧ a ≤ 9000000000000000000 := by omega
  have hb' : -9000000000000000000 ≤ b ∧ b ≤ 9000000000000000000 := by omega
  have hm : -1000000000000 ≤ a * b ∧ a * b ≤ 1000000000000 := by
    have m1 : (a * b).natAbs = a.natAbs * b.natAbs := Int.natAbs_mul _ _
    have m2 : a.natAbs * b.natAbs ≤ 1000000 * 1000000 := Nat.mul_le_mul (by omega) (by omega)
    omega
  have z0 : (0 : Int64) = jZ 0 := rfl
  have z1 : (1 : Int64) = jZ 1 := rfl
  have h55 : M.1 55 0 = nI (r.length + 2) := h.1
  have eb : M.2 54 (r.length + 1) = jZ b := h.2 0 (by simp)
  have ea : M.2 54 r.length = jZ a := h.2 1 (by simp)
  have i1 : vp_in (nI (r.length + 1)) 1700 := (n_in (by omega)).mpr (by omega)
  have i2 : vp_in (nI r.length) 1700 := (n_in (by omega)).mpr (by omega)
  have d1 : nI (r.length + 2) - (1 : Int32) = nI (r.length + 1) := n_sub (a := r.length + 2) (b := 1) (by omega)
  have d2 : nI (r.length + 2) - (2 : Int32) = nI r.length := n_sub (a := r.length + 2) (b := 2) (by omega)
  have m1 : MPl r (mM_up M 55 0 (nI r.length)) := MPl_tl (s := [b, a]) h (by rw [m_up, if_pos ⟨rfl, rfl⟩]) rfl
  have f1 : frQ M (mM_up M 55 0 (nI r.length)) := frQ_up (frQ_refl M)
  have en : ∀ (u : Int) (R : Option Value → mw → Prop), (∀ M', frQ M M' → MPl (u :: r) M' → R none M') → V_puts [.ref 0, .long (jZ u)] (mM_up M 55 0 (nI r.length)) R := fun u R k => s_puts m1 (by omega) (fun M' f' m' => k M' (frQ_trans f1 f') m')
  have fin : ∀ (u : Int), some u = some v → ∀ M', frQ M M' → MPl (u :: r) M' → ∀ {o0 o1 o2 o3 o4 o5 : Option Value}, T_joins Q 289 [o0, o1, o2, o3, o4, o5] [] M' := fun u hu M' f' m' _ _ _ _ _ _ => r_joins_289 ⟨rfl, q M' f' (by cases hu; exact m')⟩
  refine e_joins (r_joins_0 ?_)
  rw [h55, d1, d2, n_tn (by omega), n_tn (by omega), ea, eb, jZ_add, jZ_sub, jZ_mul, lg_cmp_ge, lg_cmp_le, lg_cmp_eq, jZ_le hb' ha', jZ_le ha' hb', jZ_eq ha' hb']
  refine ⟨i1, i2, ?_⟩
  rcases hc with g | g | g | g | g | g | g | g | g | g | g <;> subst g
  · skip
    exact ⟨fun z => absurd z (by decide), fun _ => s_clip (by omega) (r_joins_116 (en _ _ (fun M' f' m' => r_joins_119 (fin _ hv M' f' m')))), fun z => absurd z (by decide), fun z => absurd z (by decide), fun z => absurd z (by decide), fun z => absurd z (by decide), fun z => absurd z (by decide), fun z => absurd z (by decide), fun z => absurd z (by decide), fun z => absurd z (by decide), fun z => absurd z (by decide), fun z => absurd z (by decide), fun z => absurd z (by decide), fun z => absurd z (by decide), fun z => absurd z (by decide), trivial⟩
  · skip
    exact ⟨fun z => absurd z (by decide), fun z => absurd z (by decide), fun _ => s_clip (by omega) (r_joins_130 (en _ _ (fun M' f' m' => r_joins_133 (fin _ hv M' f' m')))), fun z => absurd z (by decide), fun z => absurd z (by decide), fun z => absurd z (by decide), fun z => absurd z (by decide), fun z => absurd z (by decide), fun z => absurd z (by decide), fun z => absurd z (by decide), fun z => absurd z (by decide), fun z => absurd z (by decide), fun z => absurd z (by decide), fun z => absurd z (by decide), fun z => absurd z (by decide), trivial⟩
  · skip
    exact ⟨fun z => absurd z (by decide), fun z => absurd z (by decide), fun z => absurd z (by decide), fun _ => s_clip (by omega) (r_joins_144 (en _ _ (fun M' f' m' => r_joins_147 (fin _ hv M' f' m')))), fun z => absurd z (by decide), fun z => absurd z (by decide), fun z => absurd z (by decide), fun z => absurd z (by decide), fun z => absurd z (by decide), fun z => absurd z (by decide), fun z => absurd z (by decide), fun z => absurd z (by decide), fun z => absurd z (by decide), fun z => absurd z (by decide), fun z => absurd z (by decide), trivial⟩
  · skip
    exact ⟨fun z => absurd z (by decide), fun z => absurd z (by decide), fun z => absurd z (by decide), fun z => absurd z (by decide), fun _ => s_floor ha hb (r_joins_157 (en _ _ (fun M' f' m' => r_joins_160 (fin _ hv M' f' m')))), fun z => absurd z (by decide), fun z => absurd z (by decide), fun z => absurd z (by decide), fun z => absurd z (by decide), fun z => absurd z (by decide), fun z => absurd z (by decide), fun z => absurd z (by decide), fun z => absurd z (by decide), fun z => absurd z (by decide), fun z => absurd z (by decide), trivial⟩
  · skip
    exact ⟨fun z => absurd z (by decide), fun z => absurd z (by decide), fun z => absurd z (by decide), fun z => absurd z (by decide), fun z => absurd z (by decide), fun _ => ⟨fun d => r_joins_177 (en _ _ (fun M' f' m' => r_joins_180 (fin _ (by rw [← hv]; exact congrArg some (if_neg (by omega)).symm) M' f' m'))), fun d => r_joins_177 (en _ _ (fun M' f' m' => r_joins_180 (fin _ (by rw [← hv]; exact congrArg some (if_pos (by omega)).symm) M' f' m')))⟩, fun z => absurd z (by decide), fun z => absurd z (by decide), fun z => absurd z (by decide), fun z => absurd z (by decide), fun z => absurd z (by decide), fun z => absurd z (by decide), fun z => absurd z (by decide), fun z => absurd z (by decide), fun z => absurd z (by decide), trivial⟩
  · skip
    exact ⟨fun z => absurd z (by decide), fun z => absurd z (by decide), fun z => absurd z (by decide), fun z => absurd z (by decide), fun z => absurd z (by decide), fun z => absurd z (by decide), fun _ => ⟨fun d => r_joins_197 (en _ _ (fun M' f' m' => r_joins_200 (fin _ (by rw [← hv]; exact congrArg some (if_neg (by omega)).symm) M' f' m'))), fun d => r_joins_197 (en _ _ (fun M' f' m' => r_joins_200 (fin _ (by rw [← hv]; exact congrArg some (if_pos (by omega)).symm) M' f' m')))⟩, fun z => absurd z (by decide), fun z => absurd z (by decide), fun z => absurd z (by decide), fun z => absurd z (by decide), fun z => absurd z (by decide), fun z => absurd z (by decide), fun z => absurd z (by decide), fun z => absurd z (by decide), trivial⟩
  · skip
    exact ⟨fun z => absurd z (by decide), fun z => absurd z (by decide), fun z => absurd z (by decide), fun z => absurd z (by decide), fun z => absurd z (by decide), fun z => absurd z (by decide), fun z => absurd z (by decide), fun z => absurd z (by decide), fun z => absurd z (by decide), fun z => absurd z (by decide), fun z => absurd z (by decide), fun _ => ⟨fun d => r_joins_216 (en 0 _ (fun M' f' m' => r_joins_219 (fin _ (by rw [← hv]; exact congrArg some (if_neg (by omega)).symm) M' f' m'))), fun d => r_joins_216 (en 1 _ (fun M' f' m' => r_joins_219 (fin _ (by rw [← hv]; exact congrArg some (if_pos (by omega)).symm) M' f' m')))⟩, fun z => absurd z (by decide), fun z => absurd z (by decide), fun z => absurd z (by decide), trivial⟩
  · skip
    exact ⟨fun z => absurd z (by decide), fun z => absurd z (by decide), fun z => absurd z (by decide), fun z => absurd z (by decide), fun z => absurd z (by decide), fun z => absurd z (by decide), fun z => absurd z (by decide), fun z => absurd z (by decide), fun z => absurd z (by decide), fun z => absurd z (by decide), fun z => absurd z (by decide), fun z => absurd z (by decide), fun _ => ⟨fun d => r_joins_235 (en 0 _ (fun M' f' m' => r_joins_238 (fin _ (by rw [← hv]; exact congrArg some (if_neg (by omega)).symm) M' f' m'))), fun d => r_joins_235 (en 1 _ (fun M' f' m' => r_joins_238 (fin _ (by rw [← hv]; exact congrArg some (if_pos (by omega)).symm) M' f' m')))⟩, fun z => absurd z (by decide), fun z => absurd z (by decide), trivial⟩
  · skip
    exact ⟨fun z => absurd z (by decide), fun z => absurd z (by decide), fun z => absurd z (by decide), fun z => absurd z (by decide), fun z => absurd z (by decide), fun z => absurd z (by decide), fun z => absurd z (by decide), fun z => absurd z (by decide), fun z => absurd z (by decide), fun z => absurd z (by decide), fun z => absurd z (by decide), fun z => absurd z (by decide), fun z => absurd z (by decide), fun _ => ⟨fun d => r_joins_254 (en 0 _ (fun M' f' m' => r_joins_257 (fin _ (by rw [← hv]; exact congrArg some (if_neg (by omega)).symm) M' f' m'))), fun d => r_joins_254 (en 1 _ (fun M' f' m' => r_joins_257 (fin _ (by rw [← hv]; exact congrArg some (if_pos (by omega)).symm) M' f' m')))⟩, fun z => absurd z (by decide), trivial⟩
  · skip
    have hv' : (if (b01 a && b01 b) = true then some (a * b) else none) = some v := hv
    split at hv'
    rotate_left
    · cases hv'
    have hv := hv'
    exact ⟨fun z => absurd z (by decide), fun z => absurd z (by decide), fun z => absurd z (by decide), fun z => absurd z (by decide), fun z => absurd z (by decide), fun z => absurd z (by decide), fun z => absurd z (by decide), fun z => absurd z (by decide), fun z => absurd z (by decide), fun z => absurd z (by decide), fun z => absurd z (by decide), fun z => absurd z (by decide), fun z => absurd z (by decide), fun z => absurd z (by decide), fun _ => en _ _ (fun M' f' m' => r_joins_268 (fin _ hv M' f' m')), trivial⟩
  · skip
    have hv' : (if (b01 a && b01 b) = true then some (if 0 < a + b then 1 else 0) else none) = some v := hv
    split at hv'
    rotate_left
    · cases hv'
    have hv := hv'
    refine ⟨fun _ => r_joins_271 ?_, fun z => absurd z (by decide), fun z => absurd z (by decide), fun z => absurd z (by decide), fun z => absurd z (by decide), fun z => absurd z (by decide), fun z => absurd z (by decide), fun z => absurd z (by decide), fun z => absurd z (by decide), fun z => absurd z (by decide), fun z => absurd z (by decide), fun z => absurd z (by decide), fun z => absurd z (by decide), fun z => absurd z (by decide), fun z => absurd z (by decide), trivial⟩
    rw [jZ_add, z0, lg_cmp_le, jZ_le (by omega) (by omega)]
    exact ⟨fun d => r_joins_286 (en 0 _ (fun M' f' m' => fin _ (by rw [← hv]; exact congrArg some (if_neg (by omega)).symm) M' f' m')), fun d => r_joins_286 (en 1 _ (fun M' f' m' => fin _ (by rw [← hv]; exact congrArg some (if_pos (by omega)).symm) M' f' m'))⟩
end
