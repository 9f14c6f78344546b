/-! contracts of the M layer's methods -/
set_option maxRecDepth 100000
def bs_en1 : List Value → bs_Lo
  | [] => []
  | v :: r => match bs_c2 (some (some v)) with
    | true => some v :: none :: bs_en1 r
    | false => some v :: bs_en1 r
def bs_ent (n : Nat) (av : List Value) : bs_Lo := bs_en1 av ++ List.replicate (n - (bs_en1 av).length) none
theorem bs_c2_cat (v : Value) : bs_c2 (some (some v)) = decide (v.category = 2) := by cases v <;> rfl
theorem bs_en1_cons (v : Value) (r : List Value) : bs_en1 (v :: r) = match bs_c2 (some (some v)) with
    | true => some v :: none :: bs_en1 r
    | false => some v :: bs_en1 r := rfl
theorem bs_en1_len (ad : Nat → Nat) (av : List Value) : (lg_sl (av.map (bs_cv ad))).length = (bs_en1 av).length := by
  induction av with
  | nil => rfl
  | cons v r ih =>
    unfold lg_sl at ih ⊢
    rw [List.map_cons, List.flatMap_cons, List.length_append, ih]
    rw [bs_en1_cons, bs_c2_cat, bs_cv_cat]
    by_cases h : v.category = 2
    · rw [if_pos h, decide_eq_true h]; simp; omega
    · rw [if_neg h, decide_eq_false h]; simp; omega
theorem bs_en1_at (ad : Nat → Nat) : ∀ (av : List Value) (o i : Nat) (v : Value), (bs_en1 av)[i]? = some (some v) → (o + i, bs_cv ad v) ∈ lv_args o (av.map (bs_cv ad)) := by
  intro av
  induction av with
  | nil => intro o i v h; simp [bs_en1] at h
  | cons w r ih =>
    intro o i v h
    rw [List.map_cons]
    unfold lv_args
    rw [bs_en1_cons, bs_c2_cat] at h
    rw [bs_cv_cat]
    by_cases hc : w.category = 2
    · rw [decide_eq_true hc] at h
      rw [if_pos hc]
      match i, h with
      | 0, h =>
        simp at h
        subst h
        exact List.mem_cons_self
      | 1, h => simp at h
      | i + 2, h =>
        have h' : (bs_en1 r)[i]? = some (some v) := by simpa using h
        have := ih (o + 2) i v h'
        rw [show o + (i + 2) = o + 2 + i by omega]
        exact List.mem_cons_of_mem _ this
    · rw [decide_eq_false hc] at h
      rw [if_neg hc]
      match i, h with
      | 0, h =>
        simp at h
        subst h
        exact List.mem_cons_self
      | i + 1, h =>
        have h' : (bs_en1 r)[i]? = some (some v) := by simpa using h
        have := ih (o + 1) i v h'
        rw [show o + (i + 1) = o + 1 + i by omega]
        exact List.mem_cons_of_mem _ this
theorem bs_entry {ad : Nat → Nat} {av : List Value} {n : Nat} (h : (bs_en1 av).length ≤ n) : bs_Lh ad ((lg_sl (av.map (bs_cv ad)) ++ List.replicate (n - (lg_sl (av.map (bs_cv ad))).length) Slot.unset).toArray) n (bs_ent n av) := by
  obtain ⟨h1, h2, h3⟩ := lv_entry (av.map (bs_cv ad)) (n := n) (by rw [bs_en1_len]; exact h)
  refine ⟨h1, h2, fun i v hi => ?_⟩
  unfold bs_ent at hi
  by_cases hl : i < (bs_en1 av).length
  · rw [List.getElem?_append_left hl] at hi
    have := bs_en1_at ad av 0 i v hi
    rw [Nat.zero_add] at this
    exact h3 _ this
  · rw [List.getElem?_append_right (by omega), List.getElem?_replicate] at hi
    split at hi <;> simp at hi
section MMET
variable {l : Launch} {D : va_G} {cl : List vw_C} {ci : Nat} {ar : Nat → ClassId} {b : Nat}
def mM_Met (l : Launch) (D : va_G) (cl : List vw_C) (ci : Nat) (ar : Nat → ClassId) (b : Nat) (y : MethodName) (cc : ByteArray) (maxL : Nat) (rt : Option FieldType) (fr lo : Nat) (V : mM_V) : Prop :=
  ∀ (av : List Value) (M : mw) (Qr : Option Value → mw → Prop), Met l y (ws_ y cc maxL rt) ({ frames := fr, cells := 0, slots := 0, locals := lo })
    (va_Pc (av.map (bs_cv (mM_ad b))) (fun U => V av M Qr ∧ va_P D cl (mM_ws ci ar b M) U.heap ∧ va_K D cl (mM_ty ar) U))
    (fun _ st oc t => (∃ (r : Option Value) (M' : mw), oc = .returned (r.map (bs_cv (mM_ad b))) ∧ Qr r M' ∧ va_P D cl (mM_ws ci ar b M') t.heap) ∧ va_F (mM_A b) st t) 0 0 (mM_A b)
def mM_Call (fr0 lo0 : Nat) (l : Launch) (D : va_G) (cl : List vw_C) (ci : Nat) (ar : Nat → ClassId) (b : Nat) (q : Nat × Nat × Bool × mM_V) : Prop :=
  ∃ (y : MethodName) (cc : ByteArray) (maxL : Nat) (rt : Option FieldType) (fr lo : Nat), mM_Met l D cl ci ar b y cc maxL rt fr lo q.2.2.2 ∧ (fr + 1 ≤ fr0 ∧ 8 + (maxL + 11) + lo ≤ lo0) ∧
    (y.cls = RX6 ∧ y.cls ≠ "java/lang/invoke/MethodHandle" ∧ y.cls ≠ "java/lang/invoke/VarHandle" ∧ (parseMethodDescriptor y.desc).map (fun d => d.parameters.length) = some q.2.1) ∧
    Cond.methodLink RX6 q.1 y ∈ lw_all ∧ Cond.code y cc maxL rt ∈ lw_all ∧ (q.2.2.1 = true → Cond.static y ∈ lw_all) ∧ (q.2.2.1 = false → Cond.instanceMethod y ∈ lw_all ∧ Cond.selects RX6 y y ∈ lw_all) ∧ (∀ av M (Qr Qr' : Option Value → mw → Prop), (∀ v M, Qr v M → Qr' v M) → q.2.2.2 av M Qr → q.2.2.2 av M Qr')
theorem mM_mono {cs : List (Nat × Nat × Bool × mM_V)} (hcs : ∀ q ∈ cs, ∀ av M (Qr Qr' : Option Value → mw → Prop), (∀ v M, Qr v M → Qr' v M) → q.2.2.2 av M Qr → q.2.2.2 av M Qr') : bs_Mono (mM_mm cs) := by
  intro au i st w K K' h g
  unfold mM_mm at *
  split at g
  case h_13 => exact bs_pur_mono (fun _ g => h _ _ g) g
  case h_11 =>
    split at g
    · rename_i n V hl
      split at g
      · split at g
        · exact hcs _ (mM_look_mem hl) _ _ _ _ (fun _ _ g => h _ _ g) g
        · exact g
      · exact g
    · exact g
  case h_12 =>
    split at g
    · rename_i n V hl
      split at g
      · split at g
        · exact hcs _ (mM_look_mem hl) _ _ _ _ (fun _ _ g => h _ _ g) g
        · exact g
      · exact g
    · exact g
  all_goals first
    | exact h _ _ g
    | (split at g
       · exact h _ _ g
       · exact g)
    | (split at g
       · exact ⟨g.1, h _ _ g.2⟩
       · exact g)
    | (split at g
       · exact ⟨g.1, g.2.1, h _ _ g.2.2⟩
       · exact g)
    | (split at g
       · split at g
         · exact ⟨g.1, h _ _ g.2⟩
         · exact g
       · exact g)
    | (split at g
       · split at g
         · exact h _ _ g
         · exact g
       · split at g
         · exact h _ _ g
         · exact g
       · exact g)
end MMET
