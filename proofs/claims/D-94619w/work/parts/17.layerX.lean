/-! THE X LAYER's world: cells by number (0: null; below 256: cells of the start; from 256 on: our own, in the order of their making). xN next number, xS shape (kind, length), xI ints, xL longs, xR references, xB cells and slots that may still be made. Kinds: class c: c + 1; arrays 51 int, 52 long, 53 char, 54 byte, 55 Object, 56 State, 57 String, 58 int[], 59 long[]. -/
set_option maxRecDepth 100000
abbrev xw : Type := Nat × (Nat → Nat × Nat) × (Nat → Nat → Int32) × (Nat → Nat → Int64) × (Nat → Nat → Nat) × (Nat × Nat)
abbrev xN (w : xw) : Nat := w.1
abbrev xS (w : xw) : Nat → Nat × Nat := w.2.1
abbrev xI (w : xw) : Nat → Nat → Int32 := w.2.2.1
abbrev xL (w : xw) : Nat → Nat → Int64 := w.2.2.2.1
abbrev xR (w : xw) : Nat → Nat → Nat := w.2.2.2.2.1
abbrev xB (w : xw) : Nat × Nat := w.2.2.2.2.2
def xUpI (w : xw) (i k : Nat) (v : Int32) : xw := (w.1, w.2.1, (fun i' k' => if i' = i ∧ k' = k then v else w.2.2.1 i' k'), w.2.2.2.1, w.2.2.2.2.1, w.2.2.2.2.2)
def xUpL (w : xw) (i k : Nat) (v : Int64) : xw := (w.1, w.2.1, w.2.2.1, (fun i' k' => if i' = i ∧ k' = k then v else w.2.2.2.1 i' k'), w.2.2.2.2.1, w.2.2.2.2.2)
def xUpR (w : xw) (i k : Nat) (v : Nat) : xw := (w.1, w.2.1, w.2.2.1, w.2.2.2.1, (fun i' k' => if i' = i ∧ k' = k then v else w.2.2.2.2.1 i' k'), w.2.2.2.2.2)
def xAd (od : Nat → Nat) (z : Nat) (i : Nat) : Nat := if i < 256 then od i else z + (i - 256)
def xKd (t : FieldType) : Nat := match t with
  | .int => 0
  | .long => 1
  | .object _ => 2
  | .array _ => 2
  | _ => 3
def xRf (ad : Nat → Nat) (r : Nat) : Option Nat := match r with
  | 0 => none
  | r + 1 => some (ad (r + 1))
def xVal (ad : Nat → Nat) (I : Nat → Int32) (L : Nat → Int64) (R : Nat → Nat) (k d : Nat) : Value := match d with
  | 1 => .long (L k)
  | 2 => va_rf (xRf ad (R k))
  | _ => .int (I k)
def xCell0 (ad : Nat → Nat) (ar : Nat → ClassId) (sh : Nat × Nat) (I : Nat → Int32) (L : Nat → Int64) (R : Nat → Nat) : Option va_E := match sh.1 with
  | 0 => none
  | 51 => some (.inl (ar 0, sh.2, .inl I))
  | 52 => some (.inl (ar 1, sh.2, .inr (.inl L)))
  | 53 => some (.inl (ar 2, sh.2, .inl I))
  | 54 => some (.inl (ar 3, sh.2, .inl I))
  | 55 => some (.inl (ar 4, sh.2, .inr (.inr (.inr (.inr (fun j => xRf ad (R j)))))))
  | 56 => some (.inl (ar 5, sh.2, .inr (.inr (.inr (.inr (fun j => xRf ad (R j)))))))
  | 57 => some (.inl (ar 6, sh.2, .inr (.inr (.inr (.inr (fun j => xRf ad (R j)))))))
  | 58 => some (.inl (ar 7, sh.2, .inr (.inr (.inr (.inr (fun j => xRf ad (R j)))))))
  | 59 => some (.inl (ar 8, sh.2, .inr (.inr (.inr (.inr (fun j => xRf ad (R j)))))))
  | c + 1 => some (.inr (c, (List.range (xNf c)).map (fun j => xVal ad I L R j (xKd (xTy c j)))))
abbrev xCell (ad : Nat → Nat) (ar : Nat → ClassId) (w : xw) (i : Nat) : Option va_E := xCell0 ad ar (xS w i) (xI w i) (xL w i) (xR w i)
def xTys (ar : Nat → ClassId) : List (ClassId × FieldType) := [(ar 0, .int), (ar 1, .long), (ar 2, .char), (ar 3, .byte), (ar 4, .object "java/lang/Object"), (ar 5, .object "BorderStones$State"), (ar 6, .object "java/lang/String"), (ar 7, .array .int), (ar 8, .array .long)]
theorem xCell_obj {ad : Nat → Nat} {ar : Nat → ClassId} {w : xw} {i c : Nat} (hc : c < 50) (h : (xS w i).1 = c + 1) : xCell ad ar w i = some (.inr (c, (List.range (xNf c)).map (fun j => xVal ad (xI w i) (xL w i) (xR w i) j (xKd (xTy c j))))) := by
  unfold xCell xCell0
  rw [h]
  split <;> first | omega | skip
  rename_i h1
  cases h1
  rfl
/-- the heap holds the world; ids of the start below 256 lie below z -/
def xHp (D : va_G) (ar : Nat → ClassId) (od : Nat → Nat) (z : Nat) (A : Nat → Prop) (w : xw) (H : Heap) : Prop :=
  H.size = z + (xN w - 256) ∧ 256 ≤ xN w ∧ ∀ (i : Nat) (e : va_E), xCell (xAd od z) ar w i = some e → va_at D xCl (xAd od z i, e) H ∧ (256 ≤ i → A (xAd od z i)) ∧ i < xN w ∧ 1 ≤ i
theorem xHp_set {D : va_G} {ar : Nat → ClassId} {od : Nat → Nat} {z : Nat} {A : Nat → Prop} {w w' : xw} {H H' : Heap} {a : Nat} {e : va_E} (hod : ∀ i, i < 256 → od i < z) (h : xHp D ar od z A w H) (ha : 256 ≤ a) (h1 : xN w' = xN w) (h2 : xS w' = xS w) (h3 : ∀ i, i ≠ a → xI w' i = xI w i ∧ xL w' i = xL w i ∧ xR w' i = xR w i)
    (hsz : H'.size = H.size) (hot : ∀ q, q ≠ xAd od z a → H'[q]? = H[q]?) (he : xCell (xAd od z) ar w a = some e) (hn : ∀ e', xCell (xAd od z) ar w' a = some e' → va_at D xCl (xAd od z a, e') H') : xHp D ar od z A w' H' := by
  obtain ⟨g1, g2, g3⟩ := h
  refine ⟨by rw [hsz, h1]; exact g1, by rw [h1]; exact g2, fun i e' hi => ?_⟩
  by_cases q : i = a
  · subst q
    obtain ⟨-, b2, b3, b4⟩ := g3 i e he
    exact ⟨hn e' hi, b2, by rw [h1]; exact b3, b4⟩
  · obtain ⟨c1, c2, c3⟩ := h3 i q
    unfold xCell at hi
    rw [h2, c1, c2, c3] at hi
    obtain ⟨b1, b2, b3, b4⟩ := g3 i e' hi
    refine ⟨b1.kept (hot _ ?_), b2, by rw [h1]; exact b3, b4⟩
    show xAd od z i ≠ xAd od z a
    unfold xAd
    rw [if_neg (show ¬ a < 256 by omega)]
    split
    · rename_i hlt
      have := hod i hlt
      omega
    · omega
theorem xUpI_ne (w : xw) (a k : Nat) (v : Int32) : ∀ i, i ≠ a → xI (xUpI w a k v) i = xI w i ∧ xL (xUpI w a k v) i = xL w i ∧ xR (xUpI w a k v) i = xR w i := by
  intro i hi
  refine ⟨?_, rfl, rfl⟩
  funext k'
  show (if i = a ∧ k' = k then v else xI w i k') = _
  rw [if_neg (fun q => hi q.1)]
theorem xUpL_ne (w : xw) (a k : Nat) (v : Int64) : ∀ i, i ≠ a → xI (xUpL w a k v) i = xI w i ∧ xL (xUpL w a k v) i = xL w i ∧ xR (xUpL w a k v) i = xR w i := by
  intro i hi
  refine ⟨rfl, ?_, rfl⟩
  funext k'
  show (if i = a ∧ k' = k then v else xL w i k') = _
  rw [if_neg (fun q => hi q.1)]
theorem xUpR_ne (w : xw) (a k : Nat) (v : Nat) : ∀ i, i ≠ a → xI (xUpR w a k v) i = xI w i ∧ xL (xUpR w a k v) i = xL w i ∧ xR (xUpR w a k v) i = xR w i := by
  intro i hi
  refine ⟨rfl, rfl, ?_⟩
  funext k'
  show (if i = a ∧ k' = k then v else xR w i k') = _
  rw [if_neg (fun q => hi q.1)]
theorem xUpI_at (w : xw) (a k : Nat) (v : Int32) : xI (xUpI w a k v) a = upd (xI w a) k v := by
  funext k'
  show (if a = a ∧ k' = k then v else xI w a k') = upd (xI w a) k v k'
  unfold upd
  by_cases e : k' = k <;> simp [e]
theorem xUpL_at (w : xw) (a k : Nat) (v : Int64) : xL (xUpL w a k v) a = vp_updL (xL w a) k v := by
  funext k'
  show (if a = a ∧ k' = k then v else xL w a k') = vp_updL (xL w a) k v k'
  unfold vp_updL
  by_cases e : k' = k <;> simp [e]
theorem xUpR_at (w : xw) (a k : Nat) (v : Nat) (k' : Nat) : xR (xUpR w a k v) a k' = if k' = k then v else xR w a k' := by
  show (if a = a ∧ k' = k then v else xR w a k') = _
  by_cases e : k' = k <;> simp [e]
/-- the fields of an object, one of them set -/
theorem xVal_upI {ad : Nat → Nat} {w : xw} {a k c : Nat} {v : Int32} (hk : k < xNf c) (hd : xKd (xTy c k) = 0 ∨ xKd (xTy c k) = 3) : ∀ j, j < xNf c → updV (vp_V ((List.range (xNf c)).map (fun j => xVal ad (xI w a) (xL w a) (xR w a) j (xKd (xTy c j))))) k (.int v) j = vp_V ((List.range (xNf c)).map (fun j => xVal ad (xI (xUpI w a k v) a) (xL (xUpI w a k v) a) (xR (xUpI w a k v) a) j (xKd (xTy c j)))) j := by
  intro j hj
  have e1 : ∀ f : Nat → Value, vp_V ((List.range (xNf c)).map f) j = f j := fun f => by
    unfold vp_V
    rw [List.getD_eq_getElem?_getD, List.getElem?_map, List.getElem?_range hj]
    rfl
  rw [e1]
  unfold updV
  by_cases q : j = k
  · subst q
    rw [if_pos rfl, xUpI_at]
    unfold xVal
    rcases hd with hd | hd <;> rw [hd] <;> simp [upd]
  · rw [if_neg q, e1, xUpI_at]
    unfold xVal
    split
    · rfl
    · rfl
    · simp [upd, q]
theorem xVal_upL {ad : Nat → Nat} {w : xw} {a k c : Nat} {v : Int64} (hk : k < xNf c) (hd : xKd (xTy c k) = 1) : ∀ j, j < xNf c → updV (vp_V ((List.range (xNf c)).map (fun j => xVal ad (xI w a) (xL w a) (xR w a) j (xKd (xTy c j))))) k (.long v) j = vp_V ((List.range (xNf c)).map (fun j => xVal ad (xI (xUpL w a k v) a) (xL (xUpL w a k v) a) (xR (xUpL w a k v) a) j (xKd (xTy c j)))) j := by
  intro j hj
  have e1 : ∀ f : Nat → Value, vp_V ((List.range (xNf c)).map f) j = f j := fun f => by
    unfold vp_V
    rw [List.getD_eq_getElem?_getD, List.getElem?_map, List.getElem?_range hj]
    rfl
  rw [e1]
  unfold updV
  by_cases q : j = k
  · subst q
    rw [if_pos rfl, xUpL_at]
    unfold xVal
    rw [hd]
    simp [vp_updL]
  · rw [if_neg q, e1, xUpL_at]
    unfold xVal
    split
    · simp [vp_updL, q]
    · rfl
    · rfl
theorem xVal_upR {ad : Nat → Nat} {w : xw} {a k c : Nat} {v : Nat} (hk : k < xNf c) (hd : xKd (xTy c k) = 2) : ∀ j, j < xNf c → updV (vp_V ((List.range (xNf c)).map (fun j => xVal ad (xI w a) (xL w a) (xR w a) j (xKd (xTy c j))))) k (va_rf (xRf ad v)) j = vp_V ((List.range (xNf c)).map (fun j => xVal ad (xI (xUpR w a k v) a) (xL (xUpR w a k v) a) (xR (xUpR w a k v) a) j (xKd (xTy c j)))) j := by
  intro j hj
  have e1 : ∀ f : Nat → Value, vp_V ((List.range (xNf c)).map f) j = f j := fun f => by
    unfold vp_V
    rw [List.getD_eq_getElem?_getD, List.getElem?_map, List.getElem?_range hj]
    rfl
  rw [e1]
  unfold updV
  by_cases q : j = k
  · subst q
    rw [if_pos rfl]
    unfold xVal
    rw [hd]
    show va_rf (xRf ad v) = va_rf (xRf ad (xR (xUpR w a j v) a j))
    rw [xUpR_at, if_pos rfl]
  · rw [if_neg q, e1]
    unfold xVal
    split
    · rfl
    · show va_rf (xRf ad (xR w a j)) = va_rf (xRf ad (xR (xUpR w a k v) a j))
      rw [xUpR_at, if_neg q]
    · rfl
