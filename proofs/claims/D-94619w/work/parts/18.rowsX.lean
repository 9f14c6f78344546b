/-! the X layer's fields and arrays in the kit's W -/
set_option maxRecDepth 100000
/-- pool entry ix of the class own names field k of class c -/
def xLk (own : String) (args : Array Value) (s : State) (ix c k : Nat) : Prop := ∃ q : vw_C, xCl[c]? = some q ∧ k < q.2.2 ∧ ∃ ref : String, ((Cond.fieldLink own ix ref (q.2.1 k).2.1 (q.2.1 k).2.2.1).before args s = true ∨ ∃ host : String, (Cond.fieldLinkNest own ix ref (q.2.1 k).2.1 (q.2.1 k).2.2.1 host).before args s = true) ∧ ∀ x, s.fieldFound? (q.2.1 k).1 (q.2.1 k).2.1 (q.2.1 k).2.2.1 = some x → s.fieldFound? ref (q.2.1 k).2.1 (q.2.1 k).2.2.1 = some x
/-- and may write it here -/
def xLp (own : String) (meth : Method) (args : Array Value) (s : State) (ix c k : Nat) : Prop := ∃ q : vw_C, xCl[c]? = some q ∧ k < q.2.2 ∧ ∃ ref : String, ((((Cond.fieldLink own ix ref (q.2.1 k).2.1 (q.2.1 k).2.2.1).before args s = true ∨ ∃ host : String, (Cond.fieldLinkNest own ix ref (q.2.1 k).2.1 (q.2.1 k).2.2.1 host).before args s = true) ∧ (q.2.1 k).2.2.2 = false) ∨ ((Cond.fieldLink own ix ref (q.2.1 k).2.1 (q.2.1 k).2.2.1).before args s = true ∧ (q.2.1 k).2.2.2 = true ∧ meth.name = "<init>" ∧ (q.2.1 k).1 = own)) ∧ ∀ x, s.fieldFound? (q.2.1 k).1 (q.2.1 k).2.1 (q.2.1 k).2.2.1 = some x → s.fieldFound? ref (q.2.1 k).2.1 (q.2.1 k).2.2.1 = some x
section XROW
variable {p : Program} {l : Launch} {e : Env} {R : Room} {s : State} {m : MethodId} {args : Array Value} {below : List Frame} {meth : Method} {c : Code} {H : Heap} {locs : List Loc} {cells slots : Nat} {Q : State → Prop} {cc : ByteArray} {pc : Nat} {ls : Array Slot} {rest : List Value} {D : va_G} {ar : Nat → ClassId} {od : Nat → Nat} {z : Nat} {A : Nat → Prop} {w : xw} {H0 : Heap} {own : String}
theorem xGet (hx : p.tables.exec = Jvm.exec) (hb : c.code = cc) (hts : ∀ w ∈ lw_all, w.before args s = true) (hown : s.vm.findClass own = some m.cls) (hK : va_K D xCl (xTys ar) s) (hH : xHp D ar od z A w H) {a cn k ix : Nat} (hc : cn < 50) (ha : (xS w a).1 = cn + 1) (hl : xLk own args s ix cn k) (hdg : decode cc pc = .ok (.getfield ix, 3))
    (kk : W p l e R s m args below meth c H locs cells slots Q (F0 m (pc + 3) ls (xVal (xAd od z) (xI w a) (xL w a) (xR w a) k (xKd (xTy cn k)) :: rest))) : W p l e R s m args below meth c H locs cells slots Q (F0 m pc ls (.ref (xAd od z a) :: rest)) := by
  obtain ⟨q, hq, hk, ref, hlk, hsame⟩ := hl
  obtain ⟨g1, g2, g3, g4⟩ := xCl_ok cn q hq
  have hcell := xCell_obj (ad := xAd od z) (ar := ar) (w := w) (i := a) hc ha
  have hP : va_P D xCl [(xAd od z a, .inr (cn, (List.range (xNf cn)).map (fun j => xVal (xAd od z) (xI w a) (xL w a) (xR w a) j (xKd (xTy cn j)))))] H := by
    intro i x hi
    have hz : i < 1 := (List.getElem?_eq_some_iff.mp hi).1
    rw [show i = 0 by omega] at hi
    cases hi
    exact (hH.2.2 a _ hcell).1
  have hv : ((List.range (xNf cn)).map (fun j => xVal (xAd od z) (xI w a) (xL w a) (xR w a) j (xKd (xTy cn j))))[k]? = some (xVal (xAd od z) (xI w a) (xL w a) (xR w a) k (xKd (xTy cn k))) := by
    rw [List.getElem?_map, List.getElem?_range (by rw [g4]; exact hk)]
    rfl
  obtain ⟨C, T, N⟩ := q
  rcases hlk with hlk | ⟨host, hlk⟩
  · exact va_get (C := C) (T := T) (N := N) hx hb hts g1 hown hK hP 0 rfl hq k hk hlk hsame hv hdg kk
  · exact va_getN (C := C) (T := T) (N := N) hx hb hts g1 hown hK hP 0 rfl hq k hk hlk hsame hv hdg kk
theorem xPut (hx : p.tables.exec = Jvm.exec) (hb : c.code = cc) (hts : ∀ w ∈ lw_all, w.before args s = true) (hown : s.vm.findClass own = some m.cls) (hK : va_K D xCl (xTys ar) s) (hH : xHp D ar od z A w H) (hS0 : va_S A H0 H locs) {a cn k ix : Nat} (hc : cn < 50) (ha : (xS w a).1 = cn + 1) (ha2 : 256 ≤ a) (hl : xLp own meth args s ix cn k) {v : Value} (hn : narrow (xTy cn k) v = v) (hfit : fits (xTy cn k) v = true) (hdg : decode cc pc = .ok (.putfield ix, 3))
    (kk : ∀ (H' : Heap) (locs' : List Loc), H'.size = H.size → (∀ q, q ≠ xAd od z a → H'[q]? = H[q]?) → t_OB (xAd od z a) (D.1 cn) (xNf cn) (D.2 cn) H' (updV (vp_V ((List.range (xNf cn)).map (fun j => xVal (xAd od z) (xI w a) (xL w a) (xR w a) j (xKd (xTy cn j))))) k v) → va_S A H0 H' locs' → W p l e R s m args below meth c H' locs' cells slots Q (F0 m (pc + 3) ls rest)) : W p l e R s m args below meth c H locs cells slots Q (F0 m pc ls (v :: .ref (xAd od z a) :: rest)) := by
  obtain ⟨q, hq, hk, ref, hlk, hsame⟩ := hl
  obtain ⟨g1, g2, g3, g4⟩ := xCl_ok cn q hq
  have hcell := xCell_obj (ad := xAd od z) (ar := ar) (w := w) (i := a) hc ha
  obtain ⟨hat, hAa, -, -⟩ := hH.2.2 a _ hcell
  have hAa := hAa ha2
  obtain ⟨r, h1, cell, q1, q2, q3, q4⟩ := hat
  obtain ⟨C, T, N⟩ := q
  have hr : r = (C, T, N) := Option.some.inj (h1.symm.trans hq)
  subst hr
  dsimp only at *
  have hap := va_apart (own := own) (cl := xCl) (tys := xTys ar) hts g1 (xTy cn) g3 g2 hK hq
  obtain ⟨hS, hfc, kC, hkC, hkind⟩ := hK.1 cn _ hq
  obtain ⟨cf, kf, fi, f, hi, hsl⟩ := hS k hk
  have hst := (u_facts hfc hkC (u_lays hts g1 hk) hi).1
  have hlay := hts _ (g1 _ (u_in_lay hk))
  unfold u_lay at hlay
  have fin : ∀ (H' : Heap), H'[xAd od z a]? = some (cell.setSlot f.slot v) → H'.size = H.size → (∀ q, q ≠ xAd od z a → H'[q]? = H[q]?) → W p l e R s m args below meth c H' (locs ++ [⟨xAd od z a, f.slot⟩]) cells slots Q (F0 m (pc + 3) ls rest) := by
    intro H' e1 e2 e3
    rw [hsl] at e1 ⊢
    refine kk H' _ e2 e3 ?_ (hS0.put e2 e3 hAa)
    exact ⟨_, e1, q2, q3, fun j hj => t_set q4 hap hk v j (g4 ▸ hj)⟩
  rcases hlk with ⟨hlk, hfin⟩ | ⟨hlk, hfin, hin2, hdecl⟩
  · rw [if_neg (by rw [hfin]; decide)] at hlay
    have h6 := u_store hfc hkC hkind hlay hi (g3 k hk) hn hfit
    rcases hlk with hlk | ⟨host, hlk⟩
    · exact W.putK hx hb (f := f) ⟨hown, hlk, ⟨_, _, _, hsame _ hi⟩, hst⟩ (by rw [q2]; exact h6) q1 q3 (by rw [hsl]; exact k2_hasslot (q4 k hk)) rfl rfl hdg fin
    · exact va_WputK hx hb (f := f) hown hlk (hsame _ hi) hst (by rw [q2]; exact h6) q1 q3 (by rw [hsl]; exact k2_hasslot (q4 k hk)) rfl rfl hdg fin
  · rw [if_pos hfin] at hlay
    have hcf : m.cls = cf := by
      obtain ⟨_, _, c', _, _, _, -, -, hf', -, -, -, hown2, -⟩ := Cond.laysFinal_spec hlay
      have e1 : c' = cf := by have := hi.symm.trans hf'; simp at this; exact this.1.symm
      rw [hdecl] at hown2
      rw [← e1]; exact Option.some.inj (hown.symm.trans hown2)
    have h6 := u_fits hfc hkC hkind (Or.inr hlay) hi (g3 k hk) hn hfit
    exact W.putFinK hx hb hown hlk (hsame _ hi) hst hcf hin2 (by rw [q2]; exact h6) q1 q3 (by rw [hsl]; exact k2_hasslot (q4 k hk)) rfl rfl hdg fin
/-- the world behind a put -/
theorem xPut_at {a cn : Nat} {H' : Heap} {w' : xw} (hod : ∀ i, i < 256 → od i < z) (hH : xHp D ar od z A w H) (hc : cn < 50) (ha : (xS w a).1 = cn + 1) (ha2 : 256 ≤ a) (hcl : ∃ q, xCl[cn]? = some q) (h1 : xN w' = xN w) (h2 : xS w' = xS w) (h3 : ∀ i, i ≠ a → xI w' i = xI w i ∧ xL w' i = xL w i ∧ xR w' i = xR w i) (hsz : H'.size = H.size) (hot : ∀ q, q ≠ xAd od z a → H'[q]? = H[q]?)
    (ho : t_OB (xAd od z a) (D.1 cn) (xNf cn) (D.2 cn) H' (vp_V ((List.range (xNf cn)).map (fun j => xVal (xAd od z) (xI w' a) (xL w' a) (xR w' a) j (xKd (xTy cn j)))))) : xHp D ar od z A w' H' := by
  refine xHp_set hod hH ha2 h1 h2 h3 hsz hot (xCell_obj hc ha) (fun e' he' => ?_)
  rw [xCell_obj (ad := xAd od z) (ar := ar) (w := w') (i := a) hc (by rw [h2]; exact ha)] at he'
  cases he'
  obtain ⟨q, hq⟩ := hcl
  exact ⟨q, hq, by rw [← (xCl_ok cn q hq).2.2.2]; exact ho⟩
/-! arrays -/
theorem xArr_P {a : Nat} {e9 : va_E} (hH : xHp D ar od z A w H) (he : xCell (xAd od z) ar w a = some e9) : va_P D xCl [(xAd od z a, e9)] H := by
  intro i x hi
  have hz : i < 1 := (List.getElem?_eq_some_iff.mp hi).1
  rw [show i = 0 by omega] at hi
  cases hi
  exact (hH.2.2 a _ he).1
theorem xKnd {n a : Nat} (h : (xS w a).1 = n) : xCell (xAd od z) ar w a = xCell0 (xAd od z) ar (n, (xS w a).2) (xI w a) (xL w a) (xR w a) := by
  unfold xCell
  rw [show xS w a = (n, (xS w a).2) from by rw [← h]]
theorem xIald (hx : p.tables.exec = Jvm.exec) (hb : c.code = cc) (hK : va_K D xCl (xTys ar) s) (hH : xHp D ar od z A w H) {a : Nat} {j : Int32} (ha : (xS w a).1 = 51) (hin : vp_in j (xS w a).2) (hdg : decode cc pc = .ok (.iaload, 1))
    (kk : W p l e R s m args below meth c H locs cells slots Q (F0 m (pc + 1) ls (.int (xI w a j.toNatClampNeg) :: rest))) : W p l e R s m args below meth c H locs cells slots Q (F0 m pc ls (.int j :: .ref (xAd od z a) :: rest)) :=
  va_iald hx hb hK (xArr_P hH (xKnd ha)) 0 0 rfl rfl hin hdg kk
theorem xLald (hx : p.tables.exec = Jvm.exec) (hb : c.code = cc) (hK : va_K D xCl (xTys ar) s) (hH : xHp D ar od z A w H) {a : Nat} {j : Int32} (ha : (xS w a).1 = 52) (hin : vp_in j (xS w a).2) (hdg : decode cc pc = .ok (.laload, 1))
    (kk : W p l e R s m args below meth c H locs cells slots Q (F0 m (pc + 1) ls (.long (xL w a j.toNatClampNeg) :: rest))) : W p l e R s m args below meth c H locs cells slots Q (F0 m pc ls (.int j :: .ref (xAd od z a) :: rest)) :=
  va_lald hx hb hK (xArr_P hH (xKnd ha)) 0 1 rfl rfl hin hdg kk
theorem xCald (hx : p.tables.exec = Jvm.exec) (hb : c.code = cc) (hK : va_K D xCl (xTys ar) s) (hH : xHp D ar od z A w H) {a : Nat} {j : Int32} (ha : (xS w a).1 = 53) (hin : vp_in j (xS w a).2) (hdg : decode cc pc = .ok (.caload, 1))
    (kk : W p l e R s m args below meth c H locs cells slots Q (F0 m (pc + 1) ls (.int (xI w a j.toNatClampNeg) :: rest))) : W p l e R s m args below meth c H locs cells slots Q (F0 m pc ls (.int j :: .ref (xAd od z a) :: rest)) :=
  va_cald hx hb hK (xArr_P hH (xKnd ha)) 0 2 rfl rfl hin hdg kk
theorem xBald (hx : p.tables.exec = Jvm.exec) (hb : c.code = cc) (hK : va_K D xCl (xTys ar) s) (hH : xHp D ar od z A w H) {a : Nat} {j : Int32} (ha : (xS w a).1 = 54) (hin : vp_in j (xS w a).2) (hdg : decode cc pc = .ok (.baload, 1))
    (kk : W p l e R s m args below meth c H locs cells slots Q (F0 m (pc + 1) ls (.int (xI w a j.toNatClampNeg) :: rest))) : W p l e R s m args below meth c H locs cells slots Q (F0 m pc ls (.int j :: .ref (xAd od z a) :: rest)) :=
  va_bald hx hb hK (xArr_P hH (xKnd ha)) 0 3 rfl rfl hin hdg kk
theorem xAald (hx : p.tables.exec = Jvm.exec) (hb : c.code = cc) (hK : va_K D xCl (xTys ar) s) (hH : xHp D ar od z A w H) {a : Nat} {j : Int32} (ha : 55 ≤ (xS w a).1) (ha2 : (xS w a).1 ≤ 59) (hin : vp_in j (xS w a).2) (hdg : decode cc pc = .ok (.aaload, 1))
    (kk : W p l e R s m args below meth c H locs cells slots Q (F0 m (pc + 1) ls (va_rf (xRf (xAd od z) (xR w a j.toNatClampNeg)) :: rest))) : W p l e R s m args below meth c H locs cells slots Q (F0 m pc ls (.int j :: .ref (xAd od z a) :: rest)) := by
  have hlt : j.toNatClampNeg < (xS w a).2 := Nat.not_le.mp fun q => hin (Or.inr q)
  have main : ∀ (cA : ClassId) (t0 : Nat) (ty : FieldType), ty.isReference = true → (xTys ar)[t0]? = some (cA, ty) → xCell (xAd od z) ar w a = some (.inl (cA, (xS w a).2, .inr (.inr (.inr (.inr (fun j => xRf (xAd od z) (xR w a j))))))) → W p l e R s m args below meth c H locs cells slots Q (F0 m pc ls (.int j :: .ref (xAd od z a) :: rest)) := by
    intro cA t0 ty hr ht he
    have hcell := (hH.2.2 a _ he).1
    exact W.aald (v := va_rf (xRf (xAd od z) (xR w a j.toNatClampNeg))) (ty := ty) hx hb hcell ((hK.2 t0 _ ht).1 (xS w a).2 (fun j => va_rf (xRf (xAd od z) (xR w a j)))) hr (fun q => by cases q) (by show ¬ (j < 0 ∨ (arrV _ _ _).slots.size ≤ _); rw [arrV_size]; exact hin) (by show (arrV _ _ _).slots[_]? = _; rw [arrV_read _ _ hlt]) rfl rfl hdg kk
  have h5 : (xS w a).1 = 55 ∨ (xS w a).1 = 56 ∨ (xS w a).1 = 57 ∨ (xS w a).1 = 58 ∨ (xS w a).1 = 59 := by omega
  rcases h5 with h | h | h | h | h
  · exact main (ar 4) 4 _ rfl rfl (xKnd h)
  · exact main (ar 5) 5 _ rfl rfl (xKnd h)
  · exact main (ar 6) 6 _ rfl rfl (xKnd h)
  · exact main (ar 7) 7 _ rfl rfl (xKnd h)
  · exact main (ar 8) 8 _ rfl rfl (xKnd h)
theorem xAlen (hx : p.tables.exec = Jvm.exec) (hb : c.code = cc) (hK : va_K D xCl (xTys ar) s) (hH : xHp D ar od z A w H) {a : Nat} (ha : 51 ≤ (xS w a).1) (ha2 : (xS w a).1 ≤ 59) (hdg : decode cc pc = .ok (.arraylength, 1))
    (kk : W p l e R s m args below meth c H locs cells slots Q (F0 m (pc + 1) ls (.int (Int32.ofNat (xS w a).2) :: rest))) : W p l e R s m args below meth c H locs cells slots Q (F0 m pc ls (.ref (xAd od z a) :: rest)) := by
  have h5 : (xS w a).1 = 51 ∨ (xS w a).1 = 52 ∨ (xS w a).1 = 53 ∨ (xS w a).1 = 54 ∨ (xS w a).1 = 55 ∨ (xS w a).1 = 56 ∨ (xS w a).1 = 57 ∨ (xS w a).1 = 58 ∨ (xS w a).1 = 59 := by omega
  rcases h5 with h | h | h | h | h | h | h | h | h
  · exact va_alen hx hb hK (xArr_P hH (xKnd h)) 0 0 rfl rfl rfl hdg kk
  · exact va_alen hx hb hK (xArr_P hH (xKnd h)) 0 1 rfl rfl rfl hdg kk
  · exact va_alen hx hb hK (xArr_P hH (xKnd h)) 0 2 rfl rfl rfl hdg kk
  · exact va_alen hx hb hK (xArr_P hH (xKnd h)) 0 3 rfl rfl rfl hdg kk
  · exact va_alen hx hb hK (xArr_P hH (xKnd h)) 0 4 rfl rfl rfl hdg kk
  · exact va_alen hx hb hK (xArr_P hH (xKnd h)) 0 5 rfl rfl rfl hdg kk
  · exact va_alen hx hb hK (xArr_P hH (xKnd h)) 0 6 rfl rfl rfl hdg kk
  · exact va_alen hx hb hK (xArr_P hH (xKnd h)) 0 7 rfl rfl rfl hdg kk
  · exact va_alen hx hb hK (xArr_P hH (xKnd h)) 0 8 rfl rfl rfl hdg kk
theorem xStI {a n : Nat} {H' : Heap} {j : Nat} {x : Int32} {cA : ClassId} (hod : ∀ i, i < 256 → od i < z) (hH : xHp D ar od z A w H) (ha2 : 256 ≤ a) (ha : (xS w a).1 = n) (hcellw : ∀ (I : Nat → Int32) (L : Nat → Int64) (R9 : Nat → Nat), xCell0 (xAd od z) ar (n, (xS w a).2) I L R9 = some (.inl (cA, (xS w a).2, .inl I)))
    (e1 : H'[xAd od z a]? = some ((arrV cA (xS w a).2 (fun j => .int (xI w a j))).setSlot j (.int x))) (hsz : H'.size = H.size) (hot : ∀ q, q ≠ xAd od z a → H'[q]? = H[q]?) : xHp D ar od z A (xUpI w a j x) H' := by
  have hc : xCell (xAd od z) ar w a = some (.inl (cA, (xS w a).2, .inl (xI w a))) := (xKnd ha).trans (hcellw _ _ _)
  refine xHp_set hod hH ha2 rfl rfl (xUpI_ne w a j x) hsz hot hc (fun e' he' => ?_)
  have hc' : xCell (xAd od z) ar (xUpI w a j x) a = some (.inl (cA, (xS w a).2, .inl (xI (xUpI w a j x) a))) := (xKnd (w := xUpI w a j x) ha).trans (hcellw _ _ _)
  rw [hc'] at he'
  cases he'
  show H'[_]? = some (vp_cell _ _)
  rw [e1, vp_cell_i, arrV_store]
  congr 2
  funext q
  rw [xUpI_at]
  by_cases hq : q = j
  · subst hq; simp [updV, upd]
  · simp [updV, upd, hq]
theorem xIast (hx : p.tables.exec = Jvm.exec) (hb : c.code = cc) (hK : va_K D xCl (xTys ar) s) (hod : ∀ i, i < 256 → od i < z) (hH : xHp D ar od z A w H) (hS0 : va_S A H0 H locs) {a : Nat} {j x : Int32} (ha : (xS w a).1 = 51) (ha2 : 256 ≤ a) (hin : vp_in j (xS w a).2) (hdg : decode cc pc = .ok (.iastore, 1))
    (kk : ∀ (H' : Heap) (locs' : List Loc), xHp D ar od z A (xUpI w a j.toNatClampNeg x) H' → va_S A H0 H' locs' → H'.size = H.size → (∀ q, q ≠ xAd od z a → H'[q]? = H[q]?) → W p l e R s m args below meth c H' locs' cells slots Q (F0 m (pc + 1) ls rest)) : W p l e R s m args below meth c H locs cells slots Q (F0 m pc ls (.int x :: .int j :: .ref (xAd od z a) :: rest)) := by
  have hcell := hH.2.2 a _ (xKnd ha)
  exact W.iast hx hb hcell.1 ((hK.2 0 _ rfl).1 (xS w a).2 (fun j => .int (xI w a j))) (fun q => by cases q) (by show ¬ (j < 0 ∨ (arrV _ _ _).slots.size ≤ _); rw [arrV_size]; exact hin) rfl rfl hdg fun H1 e9 z9 oq => kk H1 _ (xStI (cA := ar 0) hod hH ha2 ha (fun _ _ _ => rfl) e9 z9 oq) (hS0.put z9 oq (hcell.2.1 ha2)) z9 oq
theorem xBast (hx : p.tables.exec = Jvm.exec) (hb : c.code = cc) (hK : va_K D xCl (xTys ar) s) (hod : ∀ i, i < 256 → od i < z) (hH : xHp D ar od z A w H) (hS0 : va_S A H0 H locs) {a : Nat} {j x : Int32} (ha : (xS w a).1 = 54) (ha2 : 256 ≤ a) (hin : vp_in j (xS w a).2) (hdg : decode cc pc = .ok (.bastore, 1))
    (kk : ∀ (H' : Heap) (locs' : List Loc), xHp D ar od z A (xUpI w a j.toNatClampNeg x.toInt8.toInt32) H' → va_S A H0 H' locs' → H'.size = H.size → (∀ q, q ≠ xAd od z a → H'[q]? = H[q]?) → W p l e R s m args below meth c H' locs' cells slots Q (F0 m (pc + 1) ls rest)) : W p l e R s m args below meth c H locs cells slots Q (F0 m pc ls (.int x :: .int j :: .ref (xAd od z a) :: rest)) := by
  have hcell := hH.2.2 a _ (xKnd ha)
  exact W.bast hx hb hcell.1 ((hK.2 3 _ rfl).1 (xS w a).2 (fun j => .int (xI w a j))) (fun q => by cases q) (by show ¬ (j < 0 ∨ (arrV _ _ _).slots.size ≤ _); rw [arrV_size]; exact hin) rfl rfl hdg fun H1 e9 z9 oq => kk H1 _ (xStI (cA := ar 3) hod hH ha2 ha (fun _ _ _ => rfl) e9 z9 oq) (hS0.put z9 oq (hcell.2.1 ha2)) z9 oq
theorem xCast (hx : p.tables.exec = Jvm.exec) (hb : c.code = cc) (hK : va_K D xCl (xTys ar) s) (hod : ∀ i, i < 256 → od i < z) (hH : xHp D ar od z A w H) (hS0 : va_S A H0 H locs) {a : Nat} {j x : Int32} (ha : (xS w a).1 = 53) (ha2 : 256 ≤ a) (hin : vp_in j (xS w a).2) (hdg : decode cc pc = .ok (.castore, 1))
    (kk : ∀ (H' : Heap) (locs' : List Loc), xHp D ar od z A (xUpI w a j.toNatClampNeg (vp_nar .char x)) H' → va_S A H0 H' locs' → H'.size = H.size → (∀ q, q ≠ xAd od z a → H'[q]? = H[q]?) → W p l e R s m args below meth c H' locs' cells slots Q (F0 m (pc + 1) ls rest)) : W p l e R s m args below meth c H locs cells slots Q (F0 m pc ls (.int x :: .int j :: .ref (xAd od z a) :: rest)) := by
  have hcell := hH.2.2 a _ (xKnd ha)
  exact W.cast hx hb hcell.1 ((hK.2 2 _ rfl).1 (xS w a).2 (fun j => .int (xI w a j))) (fun q => by cases q) (by show ¬ (j < 0 ∨ (arrV _ _ _).slots.size ≤ _); rw [arrV_size]; exact hin) rfl rfl hdg fun H1 e9 z9 oq => kk H1 _ (xStI (cA := ar 2) hod hH ha2 ha (fun _ _ _ => rfl) e9 z9 oq) (hS0.put z9 oq (hcell.2.1 ha2)) z9 oq
theorem xLast (hx : p.tables.exec = Jvm.exec) (hb : c.code = cc) (hK : va_K D xCl (xTys ar) s) (hod : ∀ i, i < 256 → od i < z) (hH : xHp D ar od z A w H) (hS0 : va_S A H0 H locs) {a : Nat} {j : Int32} {x : Int64} (ha : (xS w a).1 = 52) (ha2 : 256 ≤ a) (hin : vp_in j (xS w a).2) (hdg : decode cc pc = .ok (.lastore, 1))
    (kk : ∀ (H' : Heap) (locs' : List Loc), xHp D ar od z A (xUpL w a j.toNatClampNeg x) H' → va_S A H0 H' locs' → H'.size = H.size → (∀ q, q ≠ xAd od z a → H'[q]? = H[q]?) → W p l e R s m args below meth c H' locs' cells slots Q (F0 m (pc + 1) ls rest)) : W p l e R s m args below meth c H locs cells slots Q (F0 m pc ls (.long x :: .int j :: .ref (xAd od z a) :: rest)) := by
  have hcell := hH.2.2 a _ (xKnd ha)
  refine W.last hx hb hcell.1 ((hK.2 1 _ rfl).1 (xS w a).2 (fun j => .long (xL w a j))) (fun q => by cases q) (by show ¬ (j < 0 ∨ (arrV _ _ _).slots.size ≤ _); rw [arrV_size]; exact hin) rfl rfl hdg fun H1 e9 z9 oq => kk H1 _ ?_ (hS0.put z9 oq (hcell.2.1 ha2)) z9 oq
  refine xHp_set hod hH ha2 rfl rfl (xUpL_ne w a _ x) z9 oq (xKnd ha) (fun e' he' => ?_)
  rw [xKnd (w := xUpL w a j.toNatClampNeg x) ha] at he'
  cases he'
  show H1[_]? = some (vp_cell _ _)
  rw [e9, vp_cell_l, vp_cell_l, arrV_store]
  congr 2
  funext q
  rw [xUpL_at]
  by_cases hq : q = j.toNatClampNeg
  · subst hq; simp [updV, vp_updL]
  · simp [updV, vp_updL, hq]
/-- an element into a State[] -/
theorem xAast (hx : p.tables.exec = Jvm.exec) (hb : c.code = cc) (hK : va_K D xCl (xTys ar) s) (hod : ∀ i, i < 256 → od i < z) (hH : xHp D ar od z A w H) (hS0 : va_S A H0 H locs) {a v : Nat} {j : Int32} (ha : (xS w a).1 = 56) (ha2 : 256 ≤ a) (hv : (xS w v).1 = 6) (hin : vp_in j (xS w a).2) (hdg : decode cc pc = .ok (.aastore, 1))
    (kk : ∀ (H' : Heap) (locs' : List Loc), xHp D ar od z A (xUpR w a j.toNatClampNeg v) H' → va_S A H0 H' locs' → H'.size = H.size → (∀ q, q ≠ xAd od z a → H'[q]? = H[q]?) → W p l e R s m args below meth c H' locs' cells slots Q (F0 m (pc + 1) ls rest)) : W p l e R s m args below meth c H locs cells slots Q (F0 m pc ls (.ref (xAd od z v) :: .int j :: .ref (xAd od z a) :: rest)) := by
  have hcell := hH.2.2 a _ (xKnd ha)
  have hlt : j.toNatClampNeg < (xS w a).2 := Nat.not_le.mp fun q => hin (Or.inr q)
  have h0 : ¬ j < 0 := fun q => hin (Or.inl q)
  obtain ⟨⟨r', hr', cellV, g1, g2, g3, -⟩, -, -, hv1⟩ := hH.2.2 v _ (xCell_obj (c := 5) (by decide) hv)
  have hq : xCl[5]? = some (RX5, TX5, 14) := rfl
  have hcls := (hK.1 5 _ hq).2
  obtain ⟨kA, comp, k1, k2, k3, -⟩ := (hK.2 5 _ rfl).2
  have hcomp : comp = D.1 5 := Option.some.inj (k3.symm.trans hcls.1)
  subst hcomp
  obtain ⟨kC, hkC, -⟩ := hcls.2
  refine W.aast hx hb hcell.1 (fun q h => by cases h) (fun h => by cases h) k1 k2 rfl hkC ⟨h0, by show _ < (arrV _ _ _).slots.size; rw [arrV_size]; exact hlt⟩ g1 (fun q h => by rw [g3] at h; cases h) (by rw [g2]; exact hkC) (by rw [g2]; exact va_assign hcls) rfl rfl hdg fun H1 e9 z9 oq => kk H1 _ ?_ (hS0.put z9 oq (hcell.2.1 ha2)) z9 oq
  refine xHp_set hod hH ha2 rfl rfl (xUpR_ne w a _ v) z9 oq (xKnd ha) (fun e' he' => ?_)
  rw [xKnd (w := xUpR w a j.toNatClampNeg v) ha] at he'
  cases he'
  show H1[_]? = some (vp_cell _ _)
  rw [e9, vp_cell_q, vp_cell_q, arrV_store]
  congr 2
  funext q
  rw [xUpR_at]
  by_cases hq : q = j.toNatClampNeg
  · subst hq
    obtain ⟨v', rfl⟩ : ∃ v', v = v' + 1 := ⟨v - 1, by omega⟩
    simp [updV, va_rf, xRf]
  · simp [updV, hq]
end XROW
