/-! a method of the X layer that makes nothing: its contract out of bt_TC -/
set_option maxRecDepth 100000
section XOK
variable {p : Program} {l : Launch} {e : Env} {R : Room} {s : State} {m : MethodId} {args : Array Value} {below : List Frame} {meth : Method} {c : Code} {nL : Nat} {Q : State → Prop} {D : va_G} {ar : Nat → ClassId} {od : Nat → Nat} {z : Nat} {A : Nat → Prop} {Ex : Heap → Prop} {cc : ByteArray} {own : String} {Bq : Nat × Nat × Nat → Nat → Nat → Prop} {ic sx : List (Nat × Value)} {lc : List (Nat × Int64)} {cs : xCs} {fl fp : List (Nat × Nat × Nat)} {ct : List (Nat × Nat)}
/-- a constant of the pool; a static that is read -/
def xIc (own : String) (q : Nat × Value) : Prop := match q.2 with
  | .int x => Cond.constant own q.1 x ∈ lw_all
  | .ref r => ∃ tx, (own, q.1, tx, r) ∈ xSl
  | _ => False
def xSx (own : String) (q : Nat × Value) : Prop := ∃ (C n d : String), ((C, n, d, q.2) ∈ xZl ∨ (C, n, d, q.2) ∈ xYl) ∧ (Cond.fieldLink own q.1 C n d ∈ lw_all ∨ ∃ host, Cond.fieldLinkNest own q.1 C n d host ∈ xNs)
/-- what a class's tables give: field links, casts, constants -/
def xTb (own : String) (fl fp : List (Nat × Nat × Nat)) (ct : List (Nat × Nat)) (ic sx : List (Nat × Value)) (lc : List (Nat × Int64)) (ini : Bool) : Prop :=
  (∀ q ∈ fl, ∃ (x : vw_C) (ref : String), xCl[q.2.1]? = some x ∧ q.2.2 < x.2.2 ∧ (Cond.fieldLink own q.1 ref (x.2.1 q.2.2).2.1 (x.2.1 q.2.2).2.2.1 ∈ lw_all ∨ ∃ host, Cond.fieldLinkNest own q.1 ref (x.2.1 q.2.2).2.1 (x.2.1 q.2.2).2.2.1 host ∈ xNs) ∧ ((x.2.1 q.2.2).1 = ref ∨ Cond.sameField ref (x.2.1 q.2.2).1 (x.2.1 q.2.2).2.1 (x.2.1 q.2.2).2.2.1 ∈ lw_all)) ∧
  (∀ q ∈ fp, q ∈ fl ∧ ∃ x : vw_C, xCl[q.2.1]? = some x ∧ ((x.2.1 q.2.2).2.2.2 = false ∨ ((x.2.1 q.2.2).2.2.2 = true ∧ ini = true ∧ (x.2.1 q.2.2).1 = own ∧ ∃ ref : String, Cond.fieldLink own q.1 ref (x.2.1 q.2.2).2.1 (x.2.1 q.2.2).2.2.1 ∈ lw_all ∧ (x.2.1 q.2.2).1 = ref))) ∧
  (∀ q ∈ ct, xCt own q.1 q.2) ∧ (∀ q ∈ ic, xIc own q) ∧ (∀ q ∈ sx, xSx own q) ∧ ∀ q ∈ lc, Cond.constantLong own q.1 q.2 ∈ lw_all
theorem xTb.lk {ini : Bool} (h : xTb own fl fp ct ic sx lc ini) (hts : ∀ w ∈ lw_all, w.before args s = true) (henv : xEnz D ar od z A s s.heap) {ix cn k : Nat} (hq : (ix, cn, k) ∈ fl) : xLk own args s ix cn k := by
  obtain ⟨x, ref, h1, h2, h3, h4⟩ := h.1 _ hq
  refine ⟨x, h1, h2, ref, ?_, ?_⟩
  · rcases h3 with h3 | ⟨host, h3⟩
    · exact Or.inl (hts _ h3)
    · exact Or.inr ⟨host, va_Nw.use rfl (henv.1.2.1 _ h3)⟩
  · intro y hy
    rcases h4 with h4 | h4
    · dsimp only at h4; rw [h4] at hy; exact hy
    · exact u_same (hts _ h4) y hy
theorem xTb.lp {ini : Bool} (h : xTb own fl fp ct ic sx lc ini) (hini : ini = true → meth.name = "<init>") (hts : ∀ w ∈ lw_all, w.before args s = true) (henv : xEnz D ar od z A s s.heap) {ix cn k : Nat} (hq : (ix, cn, k) ∈ fp) : xLp own meth args s ix cn k := by
  obtain ⟨g1, x, g2, g3⟩ := h.2.1 _ hq
  obtain ⟨x', h1, h2, ref, h3, h4⟩ := h.lk hts henv g1
  have : x' = x := Option.some.inj (h1.symm.trans g2)
  subst this
  rcases g3 with g3 | ⟨g3, g4, g5, ref2, g6, g7⟩
  · exact ⟨x', h1, h2, ref, Or.inl ⟨h3, g3⟩, h4⟩
  · refine ⟨x', h1, h2, ref2, Or.inr ⟨hts _ g6, g3, hini g4, g5⟩, fun y hy => ?_⟩
    dsimp only at g7
    rw [g7] at hy
    exact hy
theorem xAd_inj {a b : Nat} (hod : ∀ i, i < 256 → od i < z) (h1 : a = b ∨ 256 ≤ a ∨ 256 ≤ b) (hh : xAd od z a = xAd od z b) : a = b := by
  rcases h1 with h1 | h1 | h1
  · exact h1
  · unfold xAd at hh
    rw [if_neg (show ¬ a < 256 by omega)] at hh
    split at hh
    · rename_i hb9
      have := hod b hb9
      omega
    · omega
  · unfold xAd at hh
    rw [if_neg (show ¬ b < 256 by omega)] at hh
    split at hh
    · rename_i hb9
      have := hod a hb9
      omega
    · omega
theorem xEx_put {H H' : Heap} {a : Nat} (hEx : xEx z Ex) (hE : Ex H) (ha : 256 ≤ a) (hot : ∀ q, q ≠ xAd od z a → H'[q]? = H[q]?) : Ex H' :=
  hEx H H' hE fun q hq => hot q (fun h => by have := xAd_z (od := od) (z := z) ha; omega)
set_option maxHeartbeats 4000000 in
theorem xMm0_ok (hx : p.tables.exec = Jvm.exec) (hb : c.code = cc) (hml : c.maxLocals = nL) (hown : s.vm.findClass own = some m.cls) (hts : ∀ w ∈ lw_all, w.before args s = true) (henv : xEnz D ar od z A s s.heap) (hod : ∀ i, i < 256 → od i < z) (hEx : xEx z Ex) (hBq : ∀ b k n, Bq b k n → k ≤ R.cells ∧ n ≤ R.slots) {ini : Bool} (htb : xTb own fl fp ct ic sx lc ini) (hini : ini = true → meth.name = "<init>") (hcs : ∀ q ∈ cs, ∀ t ∈ q.2.2.2, xCall0 R.frames R.locals l D ar od z A Ex own q.1 q.2.1 q.2.2.1 t ∧ xKp t.2) {q : bs_En} (hq : xOkE fl fp ct ic sx lc q = true) (hd : decode cc q.1 = .ok (q.2.1, q.2.2.1)) (hlen : bs_lenOk q.2.1 q.2.2.1 = true) (hau : bt_au q.1 q.2.1 q.2.2.2 = true) {ll : bs_Lo} {st : List Value} {w : xw} {K J : List Value → xw → Prop} (h : xMm0 ic sx lc cs q.2.2.2 q.2.1 st w K J)
    (hk : ∀ st' w', K st' w' → bs_Sim p l e R s m args below meth c A s.heap (xAd od z) (xHw D ar od z A Ex Bq) nL Q (q.1 + q.2.2.1) ll st' w') (hj : ∀ st' w', J st' w' → bs_Sim p l e R s m args below meth c A s.heap (xAd od z) (xHw D ar od z A Ex Bq) nL Q (q.2.2.2.headD 0) ll st' w') : bs_Sim p l e R s m args below meth c A s.heap (xAd od z) (xHw D ar od z A Ex Bq) nL Q q.1 ll st w := by
  obtain ⟨pc, i, len, au⟩ := q
  dsimp only at *
  unfold xMm0 at h
  split at h
  case h_1 ix =>
    obtain rfl : len = 3 := by simpa [bs_lenOk] using hlen
    simp only [xOkE, Bool.and_eq_true] at hq
    obtain ⟨⟨q1, q2⟩, q3⟩ := hq
    have q2 : au.headD 0 < 50 := by simpa using q2
    have q3 := Nat.eq_of_beq_eq_true q3
    have hlk := htb.lk hts henv (List.contains_iff_mem.mp q1)
    split at h
    · rename_i a r
      obtain ⟨h1, h2⟩ := h
      intro H locs ls k0 n0 hH hS hl
      refine xGet hx hb hts hown henv.1.1 hH.1 q2 h1 hlk hd ?_
      rw [q3]
      split at h2
      · rename_i hkd
        rw [hkd]
        exact hk _ _ h2 H locs ls k0 n0 hH hS hl
      · rename_i hkd
        rw [hkd]
        obtain ⟨h3, h4⟩ := h2
        have := hk _ _ h4 H locs ls k0 n0 hH hS hl
        unfold xVal
        obtain ⟨v, hv⟩ : ∃ v, xR w a (au.getD 1 0) = v + 1 := ⟨xR w a (au.getD 1 0) - 1, by omega⟩
        simp only [hv, xRf, va_rf]
        rw [hv] at this
        exact this
      · rename_i hn1 hn2
        have : xVal (xAd od z) (xI w a) (xL w a) (xR w a) (au.getD 1 0) (au.getD 2 0) = .int (xI w a (au.getD 1 0)) := by
          unfold xVal
          split
          · rename_i hh; exact absurd hh hn1
          · rename_i hh; exact absurd hh hn2
          · rfl
        rw [this]
        exact hk _ _ h2 H locs ls k0 n0 hH hS hl
    · cases h
  case h_2 ix =>
    obtain rfl : len = 3 := by simpa [bs_lenOk] using hlen
    simp only [xOkE, Bool.and_eq_true] at hq
    obtain ⟨⟨q1, q2⟩, q3⟩ := hq
    have q2 : au.headD 0 < 50 := by simpa using q2
    have q3 := Nat.eq_of_beq_eq_true q3
    have hlp := htb.lp hini hts henv (List.contains_iff_mem.mp q1)
    obtain ⟨xq, hxq, hkq, -⟩ := id hlp
    have hkN : au.getD 1 0 < xNf (au.headD 0) := by rw [(xCl_ok _ _ hxq).2.2.2]; exact hkq
    split at h
    · rename_i hkd
      rw [hkd] at q3
      split at h
      · rename_i x a r
        obtain ⟨h1, h2, h3⟩ := h
        intro H locs ls k0 n0 hH hS hl
        refine xPut (v := .int x) hx hb hts hown henv.1.1 hH.1 hS q2 h1 h2 hlp (by rw [xKd0 q3]; rfl) (by rw [xKd0 q3]; rfl) hd (fun H' locs' z1 o1 ho hS' => hk _ _ h3 H' locs' ls k0 n0 ⟨?_, xEx_put hEx hH.2.1 h2 o1, hH.2.2⟩ hS' hl)
        exact xPut_at hod hH.1 q2 h1 h2 ⟨xq, hxq⟩ rfl rfl (xUpI_ne w a _ x) z1 o1 (ho.to (xVal_upI hkN (Or.inl q3)))
      · cases h
    · rename_i hkd
      rw [hkd] at q3
      split at h
      · rename_i x a r
        obtain ⟨h1, h2, h3⟩ := h
        intro H locs ls k0 n0 hH hS hl
        refine xPut (v := .long x) hx hb hts hown henv.1.1 hH.1 hS q2 h1 h2 hlp (by rw [xKd1 q3]; rfl) (by rw [xKd1 q3]; rfl) hd (fun H' locs' z1 o1 ho hS' => hk _ _ h3 H' locs' ls k0 n0 ⟨?_, xEx_put hEx hH.2.1 h2 o1, hH.2.2⟩ hS' hl)
        exact xPut_at hod hH.1 q2 h1 h2 ⟨xq, hxq⟩ rfl rfl (xUpL_ne w a _ x) z1 o1 (ho.to (xVal_upL hkN q3))
      · cases h
    · rename_i hkd
      rw [hkd] at q3
      split at h
      · rename_i x a r
        obtain ⟨h1, h2, h0, h3⟩ := h
        obtain ⟨v, rfl⟩ : ∃ v, x = v + 1 := Nat.exists_eq_succ_of_ne_zero (show (x : Nat) ≠ 0 from h0)
        intro H locs ls k0 n0 hH hS hl
        refine xPut (v := .ref (xAd od z (v + 1))) hx hb hts hown henv.1.1 hH.1 hS q2 h1 h2 hlp (xKd2 q3 _).1.1 (xKd2 q3 _).1.2 hd (fun H' locs' z1 o1 ho hS' => hk _ _ h3 H' locs' ls k0 n0 ⟨?_, xEx_put hEx hH.2.1 h2 o1, hH.2.2⟩ hS' hl)
        exact xPut_at hod hH.1 q2 h1 h2 ⟨xq, hxq⟩ rfl rfl (xUpR_ne w a _ (v + 1)) z1 o1 (ho.to (xVal_upR (ad := xAd od z) (v := v + 1) hkN q3))
      · rename_i a r
        obtain ⟨h1, h2, h3⟩ := h
        intro H locs ls k0 n0 hH hS hl
        refine xPut (v := .null) hx hb hts hown henv.1.1 hH.1 hS q2 h1 h2 hlp (xKd2 q3 0).2.1 (xKd2 q3 0).2.2 hd (fun H' locs' z1 o1 ho hS' => hk _ _ h3 H' locs' ls k0 n0 ⟨?_, xEx_put hEx hH.2.1 h2 o1, hH.2.2⟩ hS' hl)
        exact xPut_at hod hH.1 q2 h1 h2 ⟨xq, hxq⟩ rfl rfl (xUpR_ne w a _ 0) z1 o1 (ho.to (xVal_upR (ad := xAd od z) (v := 0) hkN q3))
      · cases h
    · rename_i hn0 hn1 hn2
      split at h
      · rename_i x a r
        obtain ⟨h1, h2, ⟨h4, h5⟩, h3⟩ := h
        have hk3 : xKd (xTy (au.headD 0) (au.getD 1 0)) = 3 := by
          have : ∀ ty : FieldType, xKd ty = 0 ∨ xKd ty = 1 ∨ xKd ty = 2 ∨ xKd ty = 3 := fun ty => by cases ty <;> simp [xKd]
          rcases this (xTy (au.headD 0) (au.getD 1 0)) with h9 | h9 | h9 | h9
          · exact absurd (q3.symm.trans h9) hn0
          · exact absurd (q3.symm.trans h9) hn1
          · exact absurd (q3.symm.trans h9) hn2
          · exact h9
        intro H locs ls k0 n0 hH hS hl
        refine xPut (v := .int x) hx hb hts hown henv.1.1 hH.1 hS q2 h1 h2 hlp h4 h5 hd (fun H' locs' z1 o1 ho hS' => hk _ _ h3 H' locs' ls k0 n0 ⟨?_, xEx_put hEx hH.2.1 h2 o1, hH.2.2⟩ hS' hl)
        exact xPut_at hod hH.1 q2 h1 h2 ⟨xq, hxq⟩ rfl rfl (xUpI_ne w a _ x) z1 o1 (ho.to (xVal_upI hkN (Or.inr hk3)))
      · cases h
  case h_3 =>
    obtain rfl : len = 1 := by simpa [bs_lenOk] using hlen
    split at h
    · intro H locs ls k0 n0 hH hS hl
      exact xIald hx hb henv.1.1 hH.1 h.1 h.2.1 hd (hk _ _ h.2.2 H locs ls k0 n0 hH hS hl)
    · cases h
  case h_4 =>
    obtain rfl : len = 1 := by simpa [bs_lenOk] using hlen
    split at h
    · intro H locs ls k0 n0 hH hS hl
      exact xLald hx hb henv.1.1 hH.1 h.1 h.2.1 hd (hk _ _ h.2.2 H locs ls k0 n0 hH hS hl)
    · cases h
  case h_5 =>
    obtain rfl : len = 1 := by simpa [bs_lenOk] using hlen
    split at h
    · intro H locs ls k0 n0 hH hS hl
      exact xCald hx hb henv.1.1 hH.1 h.1 h.2.1 hd (hk _ _ h.2.2 H locs ls k0 n0 hH hS hl)
    · cases h
  case h_6 =>
    obtain rfl : len = 1 := by simpa [bs_lenOk] using hlen
    split at h
    · intro H locs ls k0 n0 hH hS hl
      exact xBald hx hb henv.1.1 hH.1 h.1 h.2.1 hd (hk _ _ h.2.2 H locs ls k0 n0 hH hS hl)
    · cases h
  case h_7 =>
    obtain rfl : len = 1 := by simpa [bs_lenOk] using hlen
    split at h
    · rename_i j a r
      obtain ⟨⟨h1, h2⟩, h3, h4, h5⟩ := h
      intro H locs ls k0 n0 hH hS hl
      refine xAald hx hb henv.1.1 hH.1 h1 h2 h3 hd ?_
      have := hk _ _ h5 H locs ls k0 n0 hH hS hl
      obtain ⟨v, hv⟩ : ∃ v, xR w a j.toNatClampNeg = v + 1 := ⟨xR w a j.toNatClampNeg - 1, by omega⟩
      simp only [hv, xRf, va_rf]
      rw [hv] at this
      exact this
    · cases h
  case h_8 =>
    obtain rfl : len = 1 := by simpa [bs_lenOk] using hlen
    split at h
    · obtain ⟨h1, h2, h3, h4⟩ := h
      intro H locs ls k0 n0 hH hS hl
      exact xIast hx hb henv.1.1 hod hH.1 hS h1 h2 h3 hd (fun H' locs' hP' hS' z1 o1 => hk _ _ h4 H' locs' ls k0 n0 ⟨hP', xEx_put hEx hH.2.1 h2 o1, hH.2.2⟩ hS' hl)
    · cases h
  case h_9 =>
    obtain rfl : len = 1 := by simpa [bs_lenOk] using hlen
    split at h
    · obtain ⟨h1, h2, h3, h4⟩ := h
      intro H locs ls k0 n0 hH hS hl
      exact xLast hx hb henv.1.1 hod hH.1 hS h1 h2 h3 hd (fun H' locs' hP' hS' z1 o1 => hk _ _ h4 H' locs' ls k0 n0 ⟨hP', xEx_put hEx hH.2.1 h2 o1, hH.2.2⟩ hS' hl)
    · cases h
  case h_10 =>
    obtain rfl : len = 1 := by simpa [bs_lenOk] using hlen
    split at h
    · obtain ⟨h1, h2, h3, h4⟩ := h
      intro H locs ls k0 n0 hH hS hl
      exact xCast hx hb henv.1.1 hod hH.1 hS h1 h2 h3 hd (fun H' locs' hP' hS' z1 o1 => hk _ _ h4 H' locs' ls k0 n0 ⟨hP', xEx_put hEx hH.2.1 h2 o1, hH.2.2⟩ hS' hl)
    · cases h
  case h_11 =>
    obtain rfl : len = 1 := by simpa [bs_lenOk] using hlen
    split at h
    · obtain ⟨h1, h2, h3, h4⟩ := h
      intro H locs ls k0 n0 hH hS hl
      exact xBast hx hb henv.1.1 hod hH.1 hS h1 h2 h3 hd (fun H' locs' hP' hS' z1 o1 => hk _ _ h4 H' locs' ls k0 n0 ⟨hP', xEx_put hEx hH.2.1 h2 o1, hH.2.2⟩ hS' hl)
    · cases h
  case h_12 =>
    obtain rfl : len = 1 := by simpa [bs_lenOk] using hlen
    split at h
    · obtain ⟨h1, h2, hv, h3, h4⟩ := h
      intro H locs ls k0 n0 hH hS hl
      exact xAast hx hb henv.1.1 hod hH.1 hS h1 h2 hv h3 hd (fun H' locs' hP' hS' z1 o1 => hk _ _ h4 H' locs' ls k0 n0 ⟨hP', xEx_put hEx hH.2.1 h2 o1, hH.2.2⟩ hS' hl)
    · cases h
  case h_13 =>
    obtain rfl : len = 1 := by simpa [bs_lenOk] using hlen
    split at h
    · intro H locs ls k0 n0 hH hS hl
      exact xAlen hx hb henv.1.1 hH.1 h.1.1 h.1.2 hd (hk _ _ h.2 H locs ls k0 n0 hH hS hl)
    · cases h
  case h_14 ix =>
    obtain rfl : len = 2 := by simpa [bs_lenOk] using hlen
    simp only [xOkE, Bool.and_eq_true] at hq
    obtain ⟨q1, q2⟩ := hq
    have q1 : au.headD 0 < ic.length := by simpa using q1
    have q2 := Nat.eq_of_beq_eq_true q2
    intro H locs ls k0 n0 hH hS hl
    have hc := htb.2.2.2.1 (ic.getD (au.headD 0) (0, .null)) (by rw [List.getD_eq_getElem?_getD, List.getElem?_eq_getElem q1]; exact List.getElem_mem q1)
    generalize ic.getD (au.headD 0) (0, .null) = iv at hc h q2
    obtain ⟨ix3, v3⟩ := iv
    dsimp only at q2 hc h
    subst q2
    unfold xIc at hc
    dsimp only at hc
    split at hc
    · exact lv_ldc hx hb hown (hts _ hc) hd (hk _ _ h H locs ls k0 n0 hH hS hl)
    · obtain ⟨tx, hc⟩ := hc
      exact va_ldcS hx hb hown (henv.2.2.1 _ hc) hd (hk _ _ h H locs ls k0 n0 hH hS hl)
    · cases hc
  case h_15 ix =>
    obtain rfl : len = 3 := by simpa [bs_lenOk] using hlen
    simp only [xOkE, Bool.and_eq_true] at hq
    obtain ⟨q1, q2⟩ := hq
    have q1 : au.headD 0 < ic.length := by simpa using q1
    have q2 := Nat.eq_of_beq_eq_true q2
    intro H locs ls k0 n0 hH hS hl
    have hc := htb.2.2.2.1 (ic.getD (au.headD 0) (0, .null)) (by rw [List.getD_eq_getElem?_getD, List.getElem?_eq_getElem q1]; exact List.getElem_mem q1)
    generalize ic.getD (au.headD 0) (0, .null) = iv at hc h q2
    obtain ⟨ix3, v3⟩ := iv
    dsimp only at q2 hc h
    subst q2
    unfold xIc at hc
    dsimp only at hc
    split at hc
    · exact lv_ldcw hx hb hown (hts _ hc) hd (hk _ _ h H locs ls k0 n0 hH hS hl)
    · obtain ⟨tx, hc⟩ := hc
      exact xLdcW hx hb hown (henv.2.2.1 _ hc) hd (hk _ _ h H locs ls k0 n0 hH hS hl)
    · cases hc
  case h_16 ix =>
    obtain rfl : len = 3 := by simpa [bs_lenOk] using hlen
    simp only [xOkE, Bool.and_eq_true] at hq
    obtain ⟨q1, q2⟩ := hq
    have q1 : au.headD 0 < lc.length := by simpa using q1
    have q2 := Nat.eq_of_beq_eq_true q2
    intro H locs ls k0 n0 hH hS hl
    have hc := hts _ (htb.2.2.2.2.2 (lc.getD (au.headD 0) (0, 0)) (by rw [List.getD_eq_getElem?_getD, List.getElem?_eq_getElem q1]; exact List.getElem_mem q1))
    rw [q2] at hc
    exact lv_ldc2 hx hb hown hc hd (hk _ _ h H locs ls k0 n0 hH hS hl)
  case h_17 ix =>
    obtain rfl : len = 3 := by simpa [bs_lenOk] using hlen
    split at h
    · rename_i a r
      obtain ⟨h1, h2⟩ := h
      simp only [xOkE] at hq
      have hm := List.contains_iff_mem.mp (List.all_eq_true.mp hq _ (xMem_inv _ h1))
      rcases htb.2.2.1 _ hm with z9 | ⟨z1, z2⟩
      rotate_left
      · dsimp only at z1 z2
        intro H locs ls k0 n0 hH hS hl
        have hnm := (henv.1.1.2 3 _ rfl).2
        exact va_castA hx hb hown (hts _ z2) (xArr_P hH.1 (xKnd z1)) 0 rfl hnm hd (hk _ _ h2 H locs ls k0 n0 hH hS hl)
      obtain ⟨qc, c', nm, e1, e2, e3, e4, e5⟩ := z9
      dsimp only at e1 e4
      intro H locs ls k0 n0 hH hS hl
      have hrecv := xRecv henv.1.1 hH.1 e2 e3 e1
      rcases e5 with e5 | e5
      · subst e5
        exact va_castS hx hb hown (hts _ e4) (henv.1.1.1 c' qc e3).2 hrecv hd (hk _ _ h2 H locs ls k0 n0 hH hS hl)
      · exact va_castY hx hb hown (hts _ e4) (henv.1.2.1 _ e5) hrecv hd (hk _ _ h2 H locs ls k0 n0 hH hS hl)
    · cases h
  case h_18 ix =>
    obtain rfl : len = 3 := by simpa [bs_lenOk] using hlen
    simp only [xOkE, Bool.and_eq_true] at hq
    obtain ⟨⟨q1, q2⟩, q3⟩ := hq
    have q1 : au.headD 0 < sx.length := by simpa using q1
    have q2 := Nat.eq_of_beq_eq_true q2
    intro H locs ls k0 n0 hH hS hl
    have hc := htb.2.2.2.2.1 (sx.getD (au.headD 0) (0, .null)) (by rw [List.getD_eq_getElem?_getD, List.getElem?_eq_getElem q1]; exact List.getElem_mem q1)
    generalize sx.getD (au.headD 0) (0, .null) = iv at hc h q2 q3
    obtain ⟨ix3, v3⟩ := iv
    dsimp only at q2 h q3
    subst q2
    obtain ⟨C, n, d, hz, hlk⟩ := hc
    have go : ∀ v, va_Z C n d (bs_cv (xAd od z) v) A s s.heap → K (v :: st) w → W p l e R s m args below meth c H locs k0 n0 Q (F0 m pc ls (st.map (bs_cv (xAd od z)))) := fun v hv h => by
      rcases hlk with hlk | ⟨host, hlk⟩
      · exact va_gets hx hb hv hS hown (hts _ hlk) (fun _ h9 => h9) hd (hk _ _ h H locs ls k0 n0 hH hS hl)
      · exact va_getsN hx hb hv hS hown (va_Nw.use rfl (henv.1.2.1 _ hlk)) (fun _ h9 => h9) hd (hk _ _ h H locs ls k0 n0 hH hS hl)
    have h3 : K (v3 :: st) w := by
      split at h
      · exact h.1
      · exact h
    rcases hz with hz | hz
    · exact go v3 (henv.2.1 _ hz) h3
    · obtain ⟨u, hu, hu2⟩ := henv.2.2.2.1 _ hz
      rcases hu with hu | hu
      · rw [hu] at hu2
        exact go v3 hu2 h3
      · rw [hu] at hu2
        refine go .null hu2 ?_
        have hn : xNul v3 = true := by
          have hz' : (C, n, d, v3) ∈ xYl := hz
          unfold xYl at hz'
          simp only [List.mem_cons, Prod.mk.injEq, List.not_mem_nil, or_false] at hz'
          rcases hz' with hz' | hz' | hz' <;> rw [hz'.2.2.2] <;> rfl
        rw [hn] at q3
        have q3 : au.getD 1 0 = 1 := by simpa using q3
        rw [q3] at h
        exact h.2
  case h_19 ix =>
    obtain rfl : len = 3 := by simpa [bs_lenOk] using hlen
    split at h
    · rename_i a r
      obtain ⟨h1, h2⟩ := h
      simp only [xOkE] at hq
      have hm0 := List.all_eq_true.mp hq _ (xMem_inv _ h1)
      rw [Bool.and_eq_true] at hm0
      have hm := List.contains_iff_mem.mp hm0.1
      rcases htb.2.2.1 _ hm with z9 | ⟨z1, z2⟩
      rotate_left
      · dsimp only at z1
        have z3 := hm0.2
        rw [z1] at z3
        exact absurd z3 (by decide)
      obtain ⟨qc, c', nm, e1, e2, e3, e4, e5⟩ := z9
      dsimp only at e1 e4
      intro H locs ls k0 n0 hH hS hl
      have hrecv := xRecv henv.1.1 hH.1 e2 e3 e1
      rcases e5 with e5 | e5
      · subst e5
        exact va_instS hx hb hown (hts _ e4) (henv.1.1.1 c' qc e3).2 hrecv hd (hk _ _ h2 H locs ls k0 n0 hH hS hl)
      · exact va_instY hx hb hown (hts _ e4) (henv.1.2.1 _ e5) hrecv hd (hk _ _ h2 H locs ls k0 n0 hH hS hl)
    · cases h
  case h_20 cd off =>
    obtain rfl : len = 3 := by simpa [bs_lenOk] using hlen
    have ht : (pc : Int) + off = ((au.headD 0 : Nat) : Int) := by simpa [bt_au] using hau
    split at h
    · rename_i b a r
      obtain ⟨h1, h2⟩ := h
      intro H locs ls k0 n0 hH hS hl
      have inj : (some (xAd od z a) : Option Nat) = some (xAd od z b) ↔ a = b := ⟨fun hh => xAd_inj hod h1 (Option.some.inj hh), fun hh => by rw [hh]⟩
      split at h2
      · exact lv_acmp_eq (rx := some (xAd od z a)) (ry := some (xAd od z b)) hx hb hd ht (fun q9 => hj _ _ (h2.1 (inj.mp q9)) H locs ls k0 n0 hH hS hl) (fun q9 => hk _ _ (h2.2 (fun z9 => q9 (inj.mpr z9))) H locs ls k0 n0 hH hS hl)
      · exact lv_acmp_ne (rx := some (xAd od z a)) (ry := some (xAd od z b)) hx hb hd ht (fun q9 => hj _ _ (h2.1 (fun z9 => q9 (inj.mpr z9))) H locs ls k0 n0 hH hS hl) (fun q9 => hk _ _ (h2.2 (inj.mp q9)) H locs ls k0 n0 hH hS hl)
    · cases h
  case h_21 ix =>
    obtain rfl : len = 3 := by simpa [bs_lenOk] using hlen
    unfold xCallV at h
    split at h
    · rename_i n kd ts hlk
      split at h
      · rename_i hkd
        obtain rfl := Nat.eq_of_beq_eq_true hkd
        split at h
        · rename_i as a r hpop
          split at h
          · rename_i hcat
            have hcat := Nat.le_of_ble_eq_true hcat
            obtain ⟨xs, e1, e2, e3⟩ := bs_pop_spec _ _ _ _ _ hpop
            rw [List.append_nil] at e1
            subst e1
            obtain ⟨t, ht, ha, hV⟩ := xDsj_inv _ h
            obtain ⟨hc, hkp⟩ := hcs _ (xLook_mem hlk) t ht
            rw [e2]
            exact xCall_virt hx hb hml hown hts henv hBq hc hkp hd e3 hcat ha hV hk
          · cases h
        · cases h
      · cases h
    · cases h
  case h_22 ix cnt =>
    obtain rfl : len = 5 := by simpa [bs_lenOk] using hlen
    unfold xCallV at h
    split at h
    · rename_i n kd ts hlk
      split at h
      · rename_i hkd
        obtain rfl := Nat.eq_of_beq_eq_true hkd
        split at h
        · rename_i as a r hpop
          split at h
          · rename_i hcat
            have hcat := Nat.le_of_ble_eq_true hcat
            obtain ⟨xs, e1, e2, e3⟩ := bs_pop_spec _ _ _ _ _ hpop
            rw [List.append_nil] at e1
            subst e1
            obtain ⟨t, ht, ha, hV⟩ := xDsj_inv _ h
            obtain ⟨hc, hkp⟩ := hcs _ (xLook_mem hlk) t ht
            rw [e2]
            exact xCall_face hx hb hml hown hts henv hBq hc hkp hd e3 hcat ha hV hk
          · cases h
        · cases h
      · cases h
    · cases h
  case h_23 ix =>
    obtain rfl : len = 3 := by simpa [bs_lenOk] using hlen
    unfold xCallV at h
    split at h
    · rename_i n kd ts hlk
      split at h
      · rename_i hkd
        have hkd := Nat.le_of_ble_eq_true hkd
        split at h
        · rename_i as a r hpop
          split at h
          · rename_i hcat
            have hcat := Nat.le_of_ble_eq_true hcat
            obtain ⟨xs, e1, e2, e3⟩ := bs_pop_spec _ _ _ _ _ hpop
            rw [List.append_nil] at e1
            subst e1
            obtain ⟨t, ht, ha, hV⟩ := xDsj_inv _ h
            obtain ⟨hc, hkp⟩ := hcs _ (xLook_mem hlk) t ht
            rw [e2]
            exact xCall_special hx hb hml hown hts henv hBq hkd hc hkp hd e3 hcat ha hV hk
          · cases h
        · cases h
      · cases h
    · cases h
  case h_24 ix =>
    obtain rfl : len = 3 := by simpa [bs_lenOk] using hlen
    split at h
    · rename_i n t hlk
      split at h
      · rename_i as r hpop
        split at h
        · rename_i hcat
          have hcat := Nat.le_of_ble_eq_true hcat
          obtain ⟨xs, e1, e2, e3⟩ := bs_pop_spec _ _ _ _ _ hpop
          rw [List.append_nil] at e1
          subst e1
          obtain ⟨hc, hkp⟩ := hcs _ (xLook_mem hlk) t List.mem_cons_self
          rw [e2]
          exact xCall_static hx hb hml hown hts henv hBq hc hkp hd e3 hcat h hk
        · cases h
      · cases h
    · cases h
  case h_25 => exact bs_pur_ok hx hb hd hlen h (fun st' k => hk st' w k)
theorem xOfWF {y : MethodName} {ws ws' : List Cond} {rm : Room} {Pc : Array Value → State → Prop} {Qc : Array Value → State → Outcome → State → Prop} {mc ms : Nat} {free : Addr → Prop} {cc : ByteArray} {maxL : Nat} {ret : Option FieldType}
    (hy : plainFor y = true) (hw : ws = Cond.code y cc maxL ret :: ws')
    (body : ∀ p e s m args below meth c s₁, BodyLoose p l y (headSpec ws rm) cc maxL ret e s m args below meth c s₁ → c.maxLocals = maxL → Pc args s →
      W p l e (headSpec ws rm).room s m args below meth c s.heap [] 0 0 (MQ below Qc args s mc ms free) (entryFrame m args maxL)) : Met l y ws rm Pc Qc mc ms free := by
  refine MetFree.of_bodySF (code := cc) (maxLocals := maxL) (ret := ret) hy ?_ ?_
  · intro args s m h hn
    obtain ⟨meth, c, h1, h2, h3, h4, h5, h6, -, -⟩ := Cond.code_spec hn (atoms_spec (ws := ws) h _ (by rw [hw]; exact List.mem_cons_self))
    exact ⟨meth, c, h1, h2, h3, h4, h5, h6⟩
  · intro p e s m args below meth c s₁ B hml hP _
    have hh0 : s₁.heap = s.heap := by rw [B.state]; rfl
    obtain ⟨t, a1, o, b1, b2, b3⟩ := body p e s m args below meth c s₁ B hml hP s₁ hh0 (Stand.of_body B)
    exact ⟨t, o, a1, b1, b2, ⟨b3.1, b3.2⟩⟩
set_option maxHeartbeats 1000000 in
theorem xOk0 {y : MethodName} {maxL fr lo : Nat} {rt : Option FieldType} {code : List bs_En} (hy : plainFor y = true) (hod : ∀ i, i < 256 → od i < z) (hEx : xEx z Ex) (hcode : code.all (bt_okE cc maxL) = true) (hcode2 : code.all (xOkE fl fp ct ic sx lc) = true) {ini : Bool} (htb : xTb y.cls fl fp ct ic sx lc ini) (hnm : ini = true → y.name = "<init>") (hcs : ∀ q ∈ cs, ∀ t ∈ q.2.2.2, xCall0 fr lo l D ar od z A Ex y.cls q.1 q.2.1 q.2.2.1 t ∧ xKp t.2) : xMet0 l D ar od z A Ex y cc maxL rt fr lo (xDo0 ic sx lc cs code rt maxL) := by
  intro av w Qr
  refine xOfWF (cc := cc) (maxL := maxL) (ret := rt) hy rfl ?_
  intro p e s m args below meth c s₁ B hml hv
  obtain ⟨rfl, hV, hP, hE, henv⟩ := hv
  have hx := B.exec
  have hb := B.bytes
  have hr := B.returns
  have hlocks := B.notSynchronized
  have hts := atoms_spec (ws := ws_ y cc maxL rt) B.pre
  have hts : ∀ w ∈ lw_all, w.before _ s = true := fun w h => hts w (List.mem_cons_of_mem _ h)
  have hown : s.vm.findClass y.cls = some m.cls := findClass_of_methodNamed B.named
  unfold xDo0 at hV
  split at hV
  · rename_i hle
    have hle := Nat.le_of_ble_eq_true hle
    rw [lg_entry_eq]
    refine bt_TC_ok (A := A) (H0 := s.heap) (ad := xAd od z) (Hw := xHw D ar od z A Ex (fun _ k n => k = 0 ∧ n = 0)) (nL := maxL) hx hb hcode (fun q ll st w K J hq h1 h2 h9 h3 h4 h5 => xMm0_ok hx hb hml hown hts henv hod hEx (fun b k n hB => ⟨by rw [hB.1]; exact Nat.zero_le _, by rw [hB.2]; exact Nat.zero_le _⟩) htb (fun h => (name_of_methodNamed B.named B.method).1.trans (hnm h)) hcs (List.all_eq_true.mp hcode2 q hq) h1 h2 h9 h3 h4 h5) ?_ hV s.heap [] _ 0 0 ⟨hP, hE, rfl, rfl⟩ va_S.rf (bs_entry hle)
    intro q ll st w hq h1 h2 h3 H locs ls k0 n0 hH hS hl
    obtain ⟨pc, i, len, au⟩ := q
    dsimp only at *
    obtain ⟨hP', hE', rfl, rfl⟩ := hH
    unfold bt_rt at h3
    split at h3
    · obtain rfl : len = 1 := by simpa [bs_lenOk] using h2
      split at h3
      · rename_i x
        obtain ⟨hn, hq'⟩ := h3
        unfold bs_nar at hn
        split at hn
        · exact W.iret (v := x) hx hb hr (fun t ht hW => ⟨⟨some (.int x), w, rfl, hq', by rw [ht]; exact hP', by rw [ht]; exact hE'⟩, hS.F ht⟩) hS.2.2 h1
        · exact W.zret (v := x) hx hb hr hn (fun t ht hW => ⟨⟨some (.int x), w, rfl, hq', by rw [ht]; exact hP', by rw [ht]; exact hE'⟩, hS.F ht⟩) hS.2.2 h1
        · cases hn
      · cases h3
    · obtain rfl : len = 1 := by simpa [bs_lenOk] using h2
      split at h3
      · rename_i x
        obtain ⟨rfl, hq'⟩ := h3
        exact W.lret (v := x) hx hb hr (fun t ht hW => ⟨⟨some (.long x), w, rfl, hq', by rw [ht]; exact hP', by rw [ht]; exact hE'⟩, hS.F ht⟩) hS.2.2 h1
      · cases h3
    · obtain rfl : len = 1 := by simpa [bs_lenOk] using h2
      split at h3
      · rename_i x
        obtain ⟨⟨ty, rfl, hty⟩, hq'⟩ := h3
        exact W.aret (v := .ref (xAd od z x)) hx hb hr (by cases ty <;> first | exact Or.inl ⟨_, rfl⟩ | exact Or.inr ⟨_, rfl⟩ | (simp [FieldType.isReference] at hty)) (Or.inr ⟨_, rfl⟩) (fun t ht hW => ⟨⟨some (.ref x), w, rfl, hq', by rw [ht]; exact hP', by rw [ht]; exact hE'⟩, hS.F ht⟩) hS.2.2 h1
      · cases h3
    · obtain rfl : len = 1 := by simpa [bs_lenOk] using h2
      split at h3
      · obtain ⟨rfl, hq'⟩ := h3
        exact W.vret hx hb hr (fun t ht hW => ⟨⟨none, w, rfl, hq', by rw [ht]; exact hP', by rw [ht]; exact hE'⟩, hS.F ht⟩) hS.2.2 h1
      · cases h3
    · cases h3
  · cases hV
end XOK
