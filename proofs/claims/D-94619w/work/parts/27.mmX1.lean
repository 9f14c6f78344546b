/-! THE X LAYER with new cells -/
set_option maxRecDepth 100000
def xSetB (w : xw) (b : Nat × Nat) : xw := (w.1, w.2.1, w.2.2.1, w.2.2.2.1, w.2.2.2.2.1, b)
/-- one new cell of shape sh, all zero, for so many slots -/
def xNew1 (w : xw) (sh : Nat × Nat) (cost : Nat) : xw := (w.1 + 1, (fun i => if i = w.1 then sh else w.2.1 i), (fun i k => if i = w.1 then 0 else w.2.2.1 i k), (fun i k => if i = w.1 then 0 else w.2.2.2.1 i k), (fun i k => if i = w.1 then 0 else w.2.2.2.2.1 i k), (w.2.2.2.2.2.1 - 1, w.2.2.2.2.2.2 - cost))
/-- an array of n arrays of m places -/
def xNewM (w : xw) (ko ki n m : Nat) : xw := (w.1 + 1 + n, (fun i => if i = w.1 then (ko, n) else if w.1 < i ∧ i ≤ w.1 + n then (ki, m) else w.2.1 i), (fun i k => if w.1 ≤ i ∧ i ≤ w.1 + n then 0 else w.2.2.1 i k), (fun i k => if w.1 ≤ i ∧ i ≤ w.1 + n then 0 else w.2.2.2.1 i k), (fun i k => if i = w.1 then w.1 + 1 + k else if w.1 < i ∧ i ≤ w.1 + n then 0 else w.2.2.2.2.1 i k), (w.2.2.2.2.2.1 - (1 + n), w.2.2.2.2.2.2 - (n + n * m)))
def xAk (t : ArrayType) : Nat := match t with
  | .int => 51
  | .long => 52
  | .char => 53
  | .byte => 54
  | _ => 0
/-- a call of a method that may make cells: it gets room for C cells of S slots -/
def xCall1 (okk : Nat → Bool) (q : Nat × Nat × List (Nat × xV)) (st : List Value) (w : xw) (K : List Value → xw → Prop) : Prop := match okk q.2.1 with
  | true => match bs_pop q.1 st [] with
    | some (as, .ref a :: r) => match Nat.ble (bs_cats r) 8 with
      | true => ∃ C S : Nat, (C ≤ (xB w).1 ∧ S ≤ (xB w).2) ∧ xDsj (xSetB w (C, S)) a as (fun v w' => K (v.toList ++ r) (xSetB w' ((xB w).1 - C, (xB w).2 - S))) q.2.2
      | false => False
    | _ => False
  | false => False
def xMm1a (ic sx : List (Nat × Value)) (lc : List (Nat × Int64)) (cs cs1 : xCs) (au : List Nat) (i : Instr) (st : List Value) (w : xw) (K J : List Value → xw → Prop) : Prop := match i with
  | .new _ => match au with
    | [cn] => (1 ≤ (xB w).1 ∧ xNf cn ≤ (xB w).2) ∧ K (.ref (xN w) :: st) (xNew1 w (cn + 1, 0) (xNf cn))
    | _ => False
  | .newarray t => match st with
    | .int n :: r => (¬ n < 0 ∧ 1 ≤ (xB w).1 ∧ n.toNatClampNeg ≤ (xB w).2 ∧ n.toNatClampNeg ≤ 60000000) ∧ K (.ref (xN w) :: r) (xNew1 w (xAk t, n.toNatClampNeg) n.toNatClampNeg)
    | _ => False
  | .anewarray _ => match au with
    | [kd] => match st with
      | .int n :: r => (¬ n < 0 ∧ 1 ≤ (xB w).1 ∧ n.toNatClampNeg ≤ (xB w).2 ∧ n.toNatClampNeg ≤ 60000000) ∧ K (.ref (xN w) :: r) (xNew1 w (kd, n.toNatClampNeg) n.toNatClampNeg)
      | _ => False
    | _ => False
  | .multianewarray _ _ => match au with
    | [ko, ki] => match st with
      | .int m :: .int n :: r => (¬ n < 0 ∧ ¬ m < 0 ∧ 1 + n.toNatClampNeg ≤ (xB w).1 ∧ n.toNatClampNeg + n.toNatClampNeg * m.toNatClampNeg ≤ (xB w).2 ∧ n.toNatClampNeg ≤ 60000 ∧ m.toNatClampNeg ≤ 60000) ∧ K (.ref (xN w) :: r) (xNewM w ko ki n.toNatClampNeg m.toNatClampNeg)
      | _ => False
    | _ => False
  | .invokevirtual ix => match xLook cs1 ix with
    | some q => xCall1 (fun k => Nat.beq k 1) q st w K
    | none => xMm0 ic sx lc cs au (.invokevirtual ix) st w K J
  | .invokeinterface ix n => match xLook cs1 ix with
    | some q => xCall1 (fun k => Nat.beq k 2) q st w K
    | none => xMm0 ic sx lc cs au (.invokeinterface ix n) st w K J
  | .invokespecial ix => match xLook cs1 ix with
    | some q => xCall1 (fun k => Nat.ble 3 k) q st w K
    | none => xMm0 ic sx lc cs au (.invokespecial ix) st w K J
  | .invokestatic ix => match xLook cs1 ix with
    | some (n, 0, [t]) => match bs_pop n st [] with
      | some (as, r) => match Nat.ble (bs_cats r) 8 with
        | true => ∃ C S : Nat, (C ≤ (xB w).1 ∧ S ≤ (xB w).2) ∧ t.2 as (xSetB w (C, S)) (fun v w' => K (v.toList ++ r) (xSetB w' ((xB w).1 - C, (xB w).2 - S)))
        | false => False
      | _ => False
    | some _ => False
    | none => xMm0 ic sx lc cs au (.invokestatic ix) st w K J
  | i => xMm0 ic sx lc cs au i st w K J
theorem xCall1_mono {okk : Nat → Bool} {q : Nat × Nat × List (Nat × xV)} {st : List Value} {w : xw} {K K' : List Value → xw → Prop} (hq : ∀ t ∈ q.2.2, xMn t.2) (h : ∀ st w, K st w → K' st w) (g : xCall1 okk q st w K) : xCall1 okk q st w K' := by
  unfold xCall1 at *
  split at g
  · split at g
    · split at g
      · obtain ⟨C, S, h1, h2⟩ := g
        exact ⟨C, S, h1, xDsj_mono (fun _ _ g => h _ _ g) _ hq h2⟩
      · exact g
    · exact g
  · exact g
theorem xMm1a_mono {ic sx : List (Nat × Value)} {lc : List (Nat × Int64)} {cs cs1 : xCs} (hcs : ∀ q ∈ cs, ∀ t ∈ q.2.2.2, xMn t.2) (hcs1 : ∀ q ∈ cs1, ∀ t ∈ q.2.2.2, xMn t.2) : bt_Mono (xMm1a ic sx lc cs cs1) := by
  intro au i st w K K' J J' h hj g
  unfold xMm1a at *
  split at g
  case h_8 =>
    split at g
    · rename_i n t hl
      split at g
      · split at g
        · obtain ⟨C, S, h1, h2⟩ := g
          exact ⟨C, S, h1, hcs1 _ (xLook_mem hl) t List.mem_cons_self _ _ _ _ (fun _ _ g => h _ _ g) h2⟩
        · exact g
      · exact g
    · exact g
    · exact xMm0_mono hcs _ _ _ _ _ _ _ _ h hj g
  all_goals first
    | exact xMm0_mono hcs _ _ _ _ _ _ _ _ h hj g
    | (split at g
       · exact ⟨g.1, h _ _ g.2⟩
       · exact g)
    | (split at g
       · split at g
         · exact ⟨g.1, h _ _ g.2⟩
         · exact g
       · exact g)
    | (split at g
       · rename_i hl; exact xCall1_mono (hcs1 _ (xLook_mem hl)) h g
       · exact xMm0_mono hcs _ _ _ _ _ _ _ _ h hj g)
/-! natives, mirrors, and elements of Object[]: 9000 copies bytes, 9001 copies references, 9002 asks an Object[] for its class, 9003 that class, 9004 stores into an Object[], 9005 Object's constructor -/
def xCpI (w : xw) (d dp s sp n : Nat) : xw := (w.1, w.2.1, (fun i k => if i = d then va_cpy (w.2.2.1 s) (w.2.2.1 d) sp dp n k else w.2.2.1 i k), w.2.2.2.1, w.2.2.2.2.1, w.2.2.2.2.2)
def xCpR (w : xw) (d dp s sp n : Nat) : xw := (w.1, w.2.1, w.2.2.1, w.2.2.2.1, (fun i k => if i = d then va_cpy (w.2.2.2.2.1 s) (w.2.2.2.2.1 d) sp dp n k else w.2.2.2.2.1 i k), w.2.2.2.2.2)
def xTag (au : List Nat) : Nat := match Nat.ble 9000 (au.headD 0) with
  | true => au.headD 0 - 8999
  | false => 0
/-- an object of a class of the list -/
def xIsO (w : xw) (v : Nat) : Prop := 1 ≤ (xS w v).1 ∧ (xS w v).1 ≤ 19
def xSpm (t : Nat) (i : Instr) (st : List Value) (w : xw) (K : List Value → xw → Prop) : Prop := match t with
  | 1 => match i with
    | .invokestatic _ => match st with
      | .int n :: .int dp :: .ref d :: .int sp :: .ref a :: r => ((xS w a).1 = 54 ∧ (xS w d).1 = 54 ∧ 256 ≤ d ∧ bs_cats r ≤ 8) ∧ (¬ sp < 0 ∧ ¬ dp < 0 ∧ ¬ n < 0 ∧ sp.toNatClampNeg + n.toNatClampNeg ≤ (xS w a).2 ∧ dp.toNatClampNeg + n.toNatClampNeg ≤ (xS w d).2) ∧ (∀ j, j < n.toNatClampNeg → fits .byte (.int (xI w a (sp.toNatClampNeg + j))) = true) ∧ K r (xCpI w d dp.toNatClampNeg a sp.toNatClampNeg n.toNatClampNeg)
      | _ => False
    | _ => False
  | 2 => match i with
    | .invokestatic _ => match st with
      | .int n :: .int dp :: .ref d :: .int sp :: .ref a :: r => ((xS w a).1 = 55 ∧ (xS w d).1 = 55 ∧ 256 ≤ d ∧ bs_cats r ≤ 8) ∧ (¬ sp < 0 ∧ ¬ dp < 0 ∧ ¬ n < 0 ∧ sp.toNatClampNeg + n.toNatClampNeg ≤ (xS w a).2 ∧ dp.toNatClampNeg + n.toNatClampNeg ≤ (xS w d).2) ∧ (∀ j, j < n.toNatClampNeg → xR w a (sp.toNatClampNeg + j) = 0 ∨ xIsO w (xR w a (sp.toNatClampNeg + j))) ∧ K r (xCpR w d dp.toNatClampNeg a sp.toNatClampNeg n.toNatClampNeg)
      | _ => False
    | _ => False
  | 3 => match i with
    | .invokevirtual _ => match st with
      | .ref a :: r => ((xS w a).1 = 55 ∧ bs_cats r ≤ 8) ∧ K (.ref 9 :: r) w
      | _ => False
    | _ => False
  | 4 => match i with
    | .ldc _ => K (.ref 9 :: st) w
    | _ => False
  | 5 => match i with
    | .aastore => match st with
      | .ref v :: .int j :: .ref a :: r => ((xS w a).1 = 55 ∧ 256 ≤ a ∧ xIsO w v ∧ vp_in j (xS w a).2) ∧ K r (xUpR w a j.toNatClampNeg v)
      | _ => False
    | _ => False
  | 6 => match i with
    | .invokespecial _ => match st with
      | .ref _ :: r => bs_cats r ≤ 8 ∧ K r w
      | _ => False
    | _ => False
  | _ => False
theorem xSpm_mono {t : Nat} {i : Instr} {st : List Value} {w : xw} {K K' : List Value → xw → Prop} (h : ∀ st w, K st w → K' st w) (g : xSpm t i st w K) : xSpm t i st w K' := by
  unfold xSpm at *
  split at g
  · split at g
    · split at g
      · exact ⟨g.1, g.2.1, g.2.2.1, h _ _ g.2.2.2⟩
      · exact g
    · exact g
  · split at g
    · split at g
      · exact ⟨g.1, g.2.1, g.2.2.1, h _ _ g.2.2.2⟩
      · exact g
    · exact g
  · split at g
    · split at g
      · exact ⟨g.1, h _ _ g.2⟩
      · exact g
    · exact g
  · split at g
    · exact h _ _ g
    · exact g
  · split at g
    · split at g
      · exact ⟨g.1, h _ _ g.2⟩
      · exact g
    · exact g
  · split at g
    · split at g
      · exact ⟨g.1, h _ _ g.2⟩
      · exact g
    · exact g
  · exact g
def xMm1 (ic sx : List (Nat × Value)) (lc : List (Nat × Int64)) (cs cs1 : xCs) (au : List Nat) (i : Instr) (st : List Value) (w : xw) (K J : List Value → xw → Prop) : Prop := match xTag au with
  | 0 => xMm1a ic sx lc cs cs1 au i st w K J
  | t + 1 => xSpm (t + 1) i st w K
theorem xMm1_mono {ic sx : List (Nat × Value)} {lc : List (Nat × Int64)} {cs cs1 : xCs} (hcs : ∀ q ∈ cs, ∀ t ∈ q.2.2.2, xMn t.2) (hcs1 : ∀ q ∈ cs1, ∀ t ∈ q.2.2.2, xMn t.2) : bt_Mono (xMm1 ic sx lc cs cs1) := by
  intro au i st w K K' J J' h hj g
  unfold xMm1 at *
  split at g
  · exact xMm1a_mono hcs hcs1 _ _ _ _ _ _ _ _ h hj g
  · exact xSpm_mono h g
/-- what a method that may make cells does, by its table -/
def xDo1 (ic sx : List (Nat × Value)) (lc : List (Nat × Int64)) (cs cs1 : xCs) (code : List bs_En) (rt : Option FieldType) (maxL : Nat) : xV := fun av w Qr => match Nat.ble (bs_en1 av).length maxL with
  | true => bt_TC (xMm1 ic sx lc cs cs1) code rt Qr 0 (bs_ent maxL av) [] w
  | false => False
theorem xDo1_mn {ic sx : List (Nat × Value)} {lc : List (Nat × Int64)} {cs cs1 : xCs} {code : List bs_En} {rt : Option FieldType} {maxL : Nat} (hcs : ∀ q ∈ cs, ∀ t ∈ q.2.2.2, xMn t.2) (hcs1 : ∀ q ∈ cs1, ∀ t ∈ q.2.2.2, xMn t.2) : xMn (xDo1 ic sx lc cs cs1 code rt maxL) := by
  intro av w Qr Qr' h g
  unfold xDo1 at *
  split at g
  · exact bt_TC_mono (xMm1_mono hcs hcs1) h g
  · exact g
/-! the heap with the new cells -/
section XNEW
variable {D : va_G} {ar : Nat → ClassId} {od : Nat → Nat} {z : Nat} {A : Nat → Prop} {w : xw} {H H' : Heap}
theorem xCell_lt (h : xHp D ar od z A w H) {i : Nat} (hi : xN w ≤ i) : xCell (xAd od z) ar w i = none := by
  cases hc : xCell (xAd od z) ar w i with
  | none => rfl
  | some e => have := (h.2.2 i e hc).2.2.1; omega
theorem xHp_B (h : xHp D ar od z A w H) (b : Nat × Nat) : xHp D ar od z A (xSetB w b) H := h
theorem xAd_new (h : xHp D ar od z A w H) : xAd od z (xN w) = H.size := by
  unfold xAd
  have := h.2.1
  rw [if_neg (by omega), h.1]
theorem xHp_new1 {sh : Nat × Nat} {cost : Nat} (h : xHp D ar od z A w H) (hA : A H.size) (hs : H'.size = H.size + 1) (ho : ∀ q, q < H.size → H'[q]? = H[q]?)
    (hc : ∀ e, xCell0 (xAd od z) ar sh (fun _ => 0) (fun _ => 0) (fun _ => 0) = some e → va_at D xCl (H.size, e) H') : xHp D ar od z A (xNew1 w sh cost) H' := by
  have hn := xAd_new h
  obtain ⟨g1, g2, g3⟩ := h
  refine ⟨by show H'.size = z + (xN w + 1 - 256); omega, by show 256 ≤ xN w + 1; omega, fun i e hi => ?_⟩
  by_cases q : i = xN w
  · subst q
    have e1 : xCell (xAd od z) ar (xNew1 w sh cost) (xN w) = xCell0 (xAd od z) ar sh (fun _ => 0) (fun _ => 0) (fun _ => 0) := by
      unfold xCell
      simp [xNew1, xN, xS, xI, xL, xR]
    rw [e1] at hi
    rw [hn]
    exact ⟨hc e hi, fun _ => hA, Nat.lt_succ_self _, by omega⟩
  · have e1 : xCell (xAd od z) ar (xNew1 w sh cost) i = xCell (xAd od z) ar w i := by
      have q' : ¬ i = w.1 := q
      unfold xCell
      simp [xNew1, xS, xI, xL, xR, q']
    rw [e1] at hi
    obtain ⟨b1, b2, b3, b4⟩ := g3 i e hi
    exact ⟨b1.kept (ho _ b1.lt), b2, Nat.lt_succ_of_lt b3, b4⟩
theorem xHp_newM {ko ki n m : Nat} (h : xHp D ar od z A w H) (hA : ∀ q, H.size ≤ q → A q) (hs : H'.size = H.size + 1 + n) (ho : ∀ q, q < H.size → H'[q]? = H[q]?)
    (hc : ∀ e, xCell0 (xAd od z) ar (ko, n) (fun _ => 0) (fun _ => 0) (fun k => xN w + 1 + k) = some e → va_at D xCl (H.size, e) H') (hc2 : ∀ j, j < n → ∀ e, xCell0 (xAd od z) ar (ki, m) (fun _ => 0) (fun _ => 0) (fun _ => 0) = some e → va_at D xCl (H.size + 1 + j, e) H') : xHp D ar od z A (xNewM w ko ki n m) H' := by
  have hn := xAd_new h
  obtain ⟨g1, g2, g3⟩ := h
  refine ⟨by show H'.size = z + (xN w + 1 + n - 256); omega, by show 256 ≤ xN w + 1 + n; omega, fun i e hi => ?_⟩
  by_cases q : i = xN w
  · subst q
    have e1 : xCell (xAd od z) ar (xNewM w ko ki n m) (xN w) = xCell0 (xAd od z) ar (ko, n) (fun _ => 0) (fun _ => 0) (fun k => xN w + 1 + k) := by
      unfold xCell
      simp [xNewM, xN, xS, xI, xL, xR]
    rw [e1] at hi
    rw [hn]
    exact ⟨hc e hi, fun _ => hA _ (Nat.le_refl _), by show xN w < xN w + 1 + n; omega, by omega⟩
  · have q' : ¬ i = w.1 := q
    by_cases q2 : w.1 < i ∧ i ≤ w.1 + n
    · have e1 : xCell (xAd od z) ar (xNewM w ko ki n m) i = xCell0 (xAd od z) ar (ki, m) (fun _ => 0) (fun _ => 0) (fun _ => 0) := by
        have q3 : w.1 ≤ i := Nat.le_of_lt q2.1
        unfold xCell
        simp [xNewM, xS, xI, xL, xR, q', q2, q3]
      rw [e1] at hi
      obtain ⟨j, rfl⟩ : ∃ j, i = xN w + 1 + j := ⟨i - (xN w + 1), by have := q2.1; show i = w.1 + 1 + (i - (w.1 + 1)); omega⟩
      have hj : j < n := by have := q2.2; have : xN w + 1 + j ≤ xN w + n := this; omega
      have ea : xAd od z (xN w + 1 + j) = H.size + 1 + j := by
        unfold xAd
        rw [if_neg (by omega), g1]
        omega
      rw [ea]
      exact ⟨hc2 j hj e hi, fun _ => hA _ (by omega), by show xN w + 1 + j < xN w + 1 + n; omega, by omega⟩
    · have e1 : xCell (xAd od z) ar (xNewM w ko ki n m) i = xCell (xAd od z) ar w i := by
        have q3 : ¬ (w.1 ≤ i ∧ i ≤ w.1 + n) := fun z9 => q2 ⟨by omega, z9.2⟩
        unfold xCell
        simp only [xNewM, xS, xI, xL, xR, if_neg q', if_neg q2, if_neg q3]
      rw [e1] at hi
      obtain ⟨b1, b2, b3, b4⟩ := g3 i e hi
      exact ⟨b1.kept (ho _ b1.lt), b2, by show i < xN w + 1 + n; omega, b4⟩
end XNEW
