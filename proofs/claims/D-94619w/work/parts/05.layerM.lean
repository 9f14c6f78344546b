/-! THE M LAYER: one object of BorderStonesModel and its arrays. The world M: M.1 k i the int field k (i = 0) or its array's cell i, M.2 k i likewise for long. -/
set_option maxRecDepth 100000
abbrev mw : Type := (Nat → Nat → Int32) × (Nat → Nat → Int64)
abbrev mM_V : Type := List Value → mw → (Option Value → mw → Prop) → Prop
def mM_kd (k : Nat) : Nat := mM_kdL.getD k 9
def mM_ln (k : Nat) : Nat := mM_lnL.getD k 0
def mM_of (k : Nat) : Nat := mM_ofL.getD k 0
def mM_val (M : mw) (k : Nat) : Value := match mM_kd k with
  | 0 => .int (M.1 k 0)
  | 1 => .long (M.2 k 0)
  | _ => .ref (k + 1)
def mM_ad (b : Nat) (i : Nat) : Nat := match i with
  | 0 => b
  | k + 1 => b + mM_of k
def mM_up (M : mw) (k i : Nat) (v : Int32) : mw := (fun k' i' => if k' = k ∧ i' = i then v else M.1 k' i', M.2)
def mM_upl (M : mw) (k i : Nat) (v : Int64) : mw := (M.1, fun k' i' => if k' = k ∧ i' = i then v else M.2 k' i')
def mM_cell (ar : Nat → ClassId) (M : mw) (k : Nat) : va_E := match mM_kd k with
  | 3 => .inl (ar 1, mM_ln k, .inr (.inl (M.2 k)))
  | 4 => .inl (ar 2, mM_ln k, .inl (M.1 k))
  | _ => .inl (ar 0, mM_ln k, .inl (M.1 k))
def mM_ws (ci : Nat) (ar : Nat → ClassId) (b : Nat) (M : mw) : va_W := (b, .inr (ci, (List.range 86).map (fun k => bs_cv (mM_ad b) (mM_val M k)))) :: mM_as.map (fun k => (b + mM_of k, mM_cell ar M k))
def mM_ty (ar : Nat → ClassId) : List (ClassId × FieldType) := [(ar 0, .int), (ar 1, .long), (ar 2, .char)]
def mM_A (b : Nat) (q : Nat) : Prop := b ≤ q ∧ q ≤ b + 55
theorem mM_as_of : mM_as.map mM_of = (List.range 55).map (· + 1) := by decide +kernel
theorem mM_at_as : ∀ k, k < 86 → 2 ≤ mM_kd k → mM_as[mM_of k - 1]? = some k ∧ 1 ≤ mM_of k := by decide +kernel
theorem mM_as_lt : ∀ k ∈ mM_as, k < 86 ∧ 2 ≤ mM_kd k ∧ mM_kd k ≤ 4 := by decide +kernel
theorem mM_kd_lt (k : Nat) (h : mM_kd k ≤ 8) : k < 86 := by
  rcases Nat.lt_or_ge k 86 with h1 | h1
  · exact h1
  · have : mM_kd k = 9 := by
      unfold mM_kd
      rw [List.getD_eq_getElem?_getD, List.getElem?_eq_none (by exact h1)]
      rfl
    omega
theorem mM_as_nodup : mM_as.Nodup := by decide +kernel
theorem mM_ws_addr {ci : Nat} {ar : Nat → ClassId} {b : Nat} {M : mw} {i : Nat} {q : Nat × va_E} (h : (mM_ws ci ar b M)[i]? = some q) : q.1 = b + i ∧ i ≤ 55 := by
  cases i with
  | zero => simp [mM_ws] at h; rw [← h]; exact ⟨rfl, Nat.zero_le _⟩
  | succ i =>
    have h1 : (mM_as.map (fun k => (b + mM_of k, mM_cell ar M k)))[i]? = some q := h
    rw [List.getElem?_map] at h1
    cases hk : mM_as[i]? with
    | none => rw [hk] at h1; cases h1
    | some k =>
      rw [hk] at h1
      have h2 : (mM_as.map mM_of)[i]? = some (mM_of k) := by rw [List.getElem?_map, hk]; rfl
      rw [mM_as_of, List.getElem?_map] at h2
      have hi : i < 55 := by
        rcases Nat.lt_or_ge i 55 with z | z
        · exact z
        · rw [List.getElem?_eq_none (by simpa using z)] at h2; cases h2
      rw [List.getElem?_range hi] at h2
      have h3 : i + 1 = mM_of k := by simpa using h2
      have h4 := Option.some.inj h1
      rw [← h4]
      exact ⟨by show b + mM_of k = _; omega, by omega⟩
theorem mM_wsD (ci : Nat) (ar : Nat → ClassId) (b : Nat) (M : mw) : va_D (mM_A b) (mM_ws ci ar b M) := by
  refine ⟨fun i j p q hp hq e => ?_, fun i q hq => ?_⟩
  · have h1 := mM_ws_addr hp
    have h2 := mM_ws_addr hq
    omega
  · have h1 := mM_ws_addr hq
    exact ⟨by omega, by omega⟩
theorem mM_arr_at {ci : Nat} {ar : Nat → ClassId} {b : Nat} {M : mw} {k : Nat} (h2 : 2 ≤ mM_kd k) (h4 : mM_kd k ≤ 4) : (mM_ws ci ar b M)[mM_of k]? = some (mM_ad b (k + 1), mM_cell ar M k) := by
  obtain ⟨h, h1⟩ := mM_at_as k (mM_kd_lt k (by omega)) h2
  obtain ⟨n, hn⟩ : ∃ n, mM_of k = n + 1 := ⟨mM_of k - 1, by omega⟩
  rw [hn] at h ⊢
  show (mM_as.map (fun k => (b + mM_of k, mM_cell ar M k)))[n]? = _
  rw [List.getElem?_map, show mM_as[n]? = some k from h]
  rfl
theorem mM_map_set {α : Type} (l : List Nat) (hl : l.Nodup) (f g : Nat → α) (k n : Nat) (hn : l[n]? = some k) (hg : ∀ j ∈ l, j ≠ k → g j = f j) : (l.map f).set n (g k) = l.map g := by
  apply List.ext_getElem?
  intro i
  rw [List.getElem?_set, List.length_map]
  by_cases e : n = i
  · subst e
    have : n < l.length := (List.getElem?_eq_some_iff.mp hn).1
    rw [if_pos rfl, if_pos this, List.getElem?_map, hn]
    rfl
  · rw [if_neg e, List.getElem?_map, List.getElem?_map]
    cases hi : l[i]? with
    | none => rfl
    | some j =>
      have hj : j ≠ k := fun q => by
        subst q
        exact e ((List.getElem?_inj (List.getElem?_eq_some_iff.mp hn).1 hl).mp (hn.trans hi.symm))
      rw [Option.map_some, Option.map_some, hg j (List.mem_of_getElem? hi) hj]
theorem mM_set_arr {ci : Nat} {ar : Nat → ClassId} {b : Nat} {M M' : mw} {k : Nat} (h2 : 2 ≤ mM_kd k) (h4 : mM_kd k ≤ 4) (hI : ∀ j, j ≠ k → M'.1 j = M.1 j ∧ M'.2 j = M.2 j) : (mM_ws ci ar b M).set (mM_of k) (mM_ad b (k + 1), mM_cell ar M' k) = mM_ws ci ar b M' := by
  obtain ⟨h, h1⟩ := mM_at_as k (mM_kd_lt k (by omega)) h2
  obtain ⟨n, hn⟩ : ∃ n, mM_of k = n + 1 := ⟨mM_of k - 1, by omega⟩
  have e1 : (List.range 86).map (fun k => bs_cv (mM_ad b) (mM_val M k)) = (List.range 86).map (fun k => bs_cv (mM_ad b) (mM_val M' k)) := by
    refine List.map_congr_left fun j _ => ?_
    by_cases e : j = k
    · subst e
      unfold mM_val
      split <;> first | omega | rfl
    · unfold mM_val
      rw [(hI j e).1, (hI j e).2]
  unfold mM_ws
  rw [hn, List.set_cons_succ, e1]
  congr 1
  rw [show mM_ad b (k + 1) = b + mM_of k from rfl]
  exact mM_map_set mM_as mM_as_nodup _ (fun k => (b + mM_of k, mM_cell ar M' k)) k n (by rw [← h, hn]; rfl) (fun j _ hj => by
    show (b + mM_of j, mM_cell ar M' j) = (b + mM_of j, mM_cell ar M j)
    unfold mM_cell
    rw [(hI j hj).1, (hI j hj).2])
theorem mM_set_fld {ci : Nat} {ar : Nat → ClassId} {b : Nat} {M M' : mw} {k : Nat} (hk : k < 86) (h2 : mM_kd k < 2) (hI : ∀ j, j ≠ k → M'.1 j = M.1 j ∧ M'.2 j = M.2 j) : (mM_ws ci ar b M).set 0 (b, .inr (ci, ((List.range 86).map (fun k => bs_cv (mM_ad b) (mM_val M k))).set k (bs_cv (mM_ad b) (mM_val M' k)))) = mM_ws ci ar b M' := by
  unfold mM_ws
  rw [List.set_cons_zero]
  rw [mM_map_set (List.range 86) List.nodup_range (fun k => bs_cv (mM_ad b) (mM_val M k)) (fun k => bs_cv (mM_ad b) (mM_val M' k)) k k (List.getElem?_range hk) (fun j _ hj => by
    show bs_cv _ (mM_val M' j) = bs_cv _ (mM_val M j)
    unfold mM_val
    rw [(hI j hj).1, (hI j hj).2])]
  congr 1
  refine List.map_congr_left fun j hj => ?_
  have hjk : j ≠ k := fun q => by
    have := mM_as_lt j hj
    subst q
    omega
  unfold mM_cell
  rw [(hI j hjk).1, (hI j hjk).2]
theorem mM_up_ne (M : mw) (k i : Nat) (v : Int32) : ∀ j, j ≠ k → (mM_up M k i v).1 j = M.1 j ∧ (mM_up M k i v).2 j = M.2 j := by
  intro j hj
  refine ⟨?_, rfl⟩
  funext i'
  show (if j = k ∧ i' = i then v else M.1 j i') = _
  rw [if_neg (fun q => hj q.1)]
theorem mM_upl_ne (M : mw) (k i : Nat) (v : Int64) : ∀ j, j ≠ k → (mM_upl M k i v).1 j = M.1 j ∧ (mM_upl M k i v).2 j = M.2 j := by
  intro j hj
  refine ⟨rfl, ?_⟩
  funext i'
  show (if j = k ∧ i' = i then v else M.2 j i') = _
  rw [if_neg (fun q => hj q.1)]
theorem mM_up_k (M : mw) (k i : Nat) (v : Int32) : (mM_up M k i v).1 k = upd (M.1 k) i v := by
  funext i'
  show (if k = k ∧ i' = i then v else M.1 k i') = upd (M.1 k) i v i'
  unfold upd
  by_cases e : i' = i
  · simp [e]
  · simp [e]
theorem mM_upl_k (M : mw) (k i : Nat) (v : Int64) : (mM_upl M k i v).2 k = vp_updL (M.2 k) i v := by
  funext i'
  show (if k = k ∧ i' = i then v else M.2 k i') = vp_updL (M.2 k) i v i'
  unfold vp_updL
  by_cases e : i' = i
  · simp [e]
  · simp [e]
/-! calls: (index in the pool, arguments without this, static, what it does) -/
def bs_pop : Nat → List Value → List Value → Option (List Value × List Value)
  | 0, st, acc => some (acc, st)
  | _ + 1, [], _ => none
  | n + 1, v :: st, acc => bs_pop n st (v :: acc)
theorem bs_pop_spec : ∀ (n : Nat) (st acc as r : List Value), bs_pop n st acc = some (as, r) → ∃ xs : List Value, as = xs ++ acc ∧ st = xs.reverse ++ r ∧ xs.length = n := by
  intro n
  induction n with
  | zero => intro st acc as r h; cases h; exact ⟨[], rfl, rfl, rfl⟩
  | succ n ih =>
    intro st acc as r h
    cases st with
    | nil => cases h
    | cons v st =>
      obtain ⟨xs, h1, h2, h3⟩ := ih _ _ _ _ h
      exact ⟨xs ++ [v], by rw [h1, List.append_assoc]; rfl, by rw [h2, List.reverse_append]; rfl, by rw [List.length_append, h3]; rfl⟩
def bs_cats (r : List Value) : Nat := (r.map fun v => v.category).sum
def mM_look : List (Nat × Nat × Bool × mM_V) → Nat → Option (Nat × Bool × mM_V)
  | [], _ => none
  | q :: r, i => match Nat.beq q.1 i with
    | true => some q.2
    | false => mM_look r i
theorem mM_look_mem {cs : List (Nat × Nat × Bool × mM_V)} {i : Nat} {x : Nat × Bool × mM_V} (h : mM_look cs i = some x) : (i, x) ∈ cs := by
  induction cs with
  | nil => cases h
  | cons q r ih =>
    unfold mM_look at h
    cases hq : Nat.beq q.1 i with
    | true =>
      rw [hq] at h
      cases h
      have := Nat.eq_of_beq_eq_true hq
      subst this
      exact List.mem_cons_self
    | false =>
      rw [hq] at h
      exact List.mem_cons_of_mem _ (ih h)
def mM_mm (cs : List (Nat × Nat × Bool × mM_V)) (au : List Nat) (i : Instr) (st : List Value) (M : mw) (K : List Value → mw → Prop) : Prop := match i with
  | .getfield _ => match st with
    | .ref 0 :: r => K (mM_val M (au.headD 0) :: r) M
    | _ => False
  | .putfield _ => match mM_kd (au.headD 0) with
    | 0 => match st with
      | .int x :: .ref 0 :: r => K r (mM_up M (au.headD 0) 0 x)
      | _ => False
    | 1 => match st with
      | .long x :: .ref 0 :: r => K r (mM_upl M (au.headD 0) 0 x)
      | _ => False
    | _ => False
  | .iaload => match st with
    | .int j :: .ref (k + 1) :: r => match mM_kd k with
      | 2 => vp_in j (mM_ln k) ∧ K (.int (M.1 k j.toNatClampNeg) :: r) M
      | _ => False
    | _ => False
  | .laload => match st with
    | .int j :: .ref (k + 1) :: r => match mM_kd k with
      | 3 => vp_in j (mM_ln k) ∧ K (.long (M.2 k j.toNatClampNeg) :: r) M
      | _ => False
    | _ => False
  | .caload => match st with
    | .int j :: .ref (k + 1) :: r => mM_kd k = 4 ∧ vp_in j (mM_ln k) ∧ K (.int (M.1 k j.toNatClampNeg) :: r) M
    | _ => False
  | .iastore => match st with
    | .int x :: .int j :: .ref (k + 1) :: r => match mM_kd k with
      | 2 => vp_in j (mM_ln k) ∧ K r (mM_up M k j.toNatClampNeg x)
      | _ => False
    | _ => False
  | .lastore => match st with
    | .long x :: .int j :: .ref (k + 1) :: r => match mM_kd k with
      | 3 => vp_in j (mM_ln k) ∧ K r (mM_upl M k j.toNatClampNeg x)
      | _ => False
    | _ => False
  | .arraylength => match st with
    | .ref (k + 1) :: r => mM_kd k = 4 ∧ K (.int (Int32.ofNat (mM_ln k)) :: r) M
    | _ => False
  | .ldc_w _ => K (.int (mM_ic.getD (au.headD 0) (0, 0)).2 :: st) M
  | .ldc2_w _ => K (.long (mM_lc.getD (au.headD 0) (0, 0)).2 :: st) M
  | .invokevirtual ix => match mM_look cs ix with
    | some (n, false, V) => match bs_pop n st [] with
      | some (as, .ref 0 :: r) => match Nat.ble (bs_cats r) 8 with
        | true => V (.ref 0 :: as) M (fun v M' => K (v.toList ++ r) M')
        | false => False
      | _ => False
    | _ => False
  | .invokestatic ix => match mM_look cs ix with
    | some (n, true, V) => match bs_pop n st [] with
      | some (as, r) => match Nat.ble (bs_cats r) 8 with
        | true => V as M (fun v M' => K (v.toList ++ r) M')
        | false => False
      | _ => False
    | _ => False
  | i => bs_pur i st (fun st' => K st' M)
/-- what a table's row must have beside its decoding -/
def mM_okE (q : bs_En) : Bool := match q.2.1 with
  | .getfield ix => mM_fl.contains (ix, q.2.2.2.headD 0) && Nat.blt (q.2.2.2.headD 0) 86
  | .putfield ix => mM_fl.contains (ix, q.2.2.2.headD 0) && Nat.blt (q.2.2.2.headD 0) 86 && !(TX6 (q.2.2.2.headD 0)).2.2.2
  | .ldc_w ix => Nat.blt (q.2.2.2.headD 0) mM_ic.length && Nat.beq (mM_ic.getD (q.2.2.2.headD 0) (0, 0)).1 ix
  | .ldc2_w ix => Nat.blt (q.2.2.2.headD 0) mM_lc.length && Nat.beq (mM_lc.getD (q.2.2.2.headD 0) (0, 0)).1 ix
  | _ => true
