/-! the X layer's instructions without new cells hold in the kit's W -/
set_option maxRecDepth 100000
def xNul (v : Value) : Bool := match v with
  | .ref 7 => true
  | .ref 8 => true
  | .ref 251 => true
  | _ => false
def xOkE (fl fp : List (Nat × Nat × Nat)) (ct : List (Nat × Nat)) (ic sx : List (Nat × Value)) (lc : List (Nat × Int64)) (q : bs_En) : Bool := match q.2.1 with
  | .getfield ix => fl.contains (ix, q.2.2.2.headD 0, q.2.2.2.getD 1 0) && Nat.blt (q.2.2.2.headD 0) 50 && Nat.beq (xKd (xTy (q.2.2.2.headD 0) (q.2.2.2.getD 1 0))) (q.2.2.2.getD 2 0)
  | .putfield ix => fp.contains (ix, q.2.2.2.headD 0, q.2.2.2.getD 1 0) && Nat.blt (q.2.2.2.headD 0) 50 && Nat.beq (xKd (xTy (q.2.2.2.headD 0) (q.2.2.2.getD 1 0))) (q.2.2.2.getD 2 0)
  | .checkcast ix => q.2.2.2.all (fun c => ct.contains (ix, c))
  | .ldc ix => Nat.blt (q.2.2.2.headD 0) ic.length && Nat.beq (ic.getD (q.2.2.2.headD 0) (0, .null)).1 ix
  | .ldc_w ix => Nat.blt (q.2.2.2.headD 0) ic.length && Nat.beq (ic.getD (q.2.2.2.headD 0) (0, .null)).1 ix
  | .getstatic ix => Nat.blt (q.2.2.2.headD 0) sx.length && Nat.beq (sx.getD (q.2.2.2.headD 0) (0, .null)).1 ix && (Nat.beq (q.2.2.2.getD 1 0) 1 || !xNul (sx.getD (q.2.2.2.headD 0) (0, .null)).2)
  | .instanceof ix => q.2.2.2.all (fun c => ct.contains (ix, c) && Nat.blt c 51)
  | .ldc2_w ix => Nat.blt (q.2.2.2.headD 0) lc.length && Nat.beq (lc.getD (q.2.2.2.headD 0) (0, 0)).1 ix
  | _ => true
/-- class c - 1 may be cast by pool entry ix of own -/
def xCt (own : String) (ix c : Nat) : Prop := (∃ (q : vw_C) (c' : Nat) (nm : String), c = c' + 1 ∧ c' < 50 ∧ xCl[c']? = some q ∧ Cond.classLink own ix nm ∈ lw_all ∧ (q.1 = nm ∨ Cond.castable q.1 nm ∈ xNs)) ∨ (c = 54 ∧ Cond.classLink own ix "[B" ∈ lw_all)
theorem xKd2 {ty : FieldType} (h : xKd ty = 2) (v : Nat) : (narrow ty (.ref v) = .ref v ∧ fits ty (.ref v) = true) ∧ narrow ty .null = .null ∧ fits ty .null = true := by
  cases ty <;> first | exact ⟨⟨rfl, rfl⟩, rfl, rfl⟩ | (simp [xKd] at h)
theorem xKd0 {ty : FieldType} (h : xKd ty = 0) : ty = .int := by cases ty <;> first | rfl | (simp [xKd] at h)
theorem xKd1 {ty : FieldType} (h : xKd ty = 1) : ty = .long := by cases ty <;> first | rfl | (simp [xKd] at h)
section XSND
variable {p : Program} {l : Launch} {e : Env} {R : Room} {s : State} {m : MethodId} {args : Array Value} {below : List Frame} {meth : Method} {c : Code} {nL : Nat} {Q : State → Prop} {D : va_G} {ar : Nat → ClassId} {od : Nat → Nat} {z : Nat} {A : Nat → Prop} {Ex : Heap → Prop} {cc : ByteArray} {own : String} {Bq : Nat × Nat × Nat → Nat → Nat → Prop}
def xHw (D : va_G) (ar : Nat → ClassId) (od : Nat → Nat) (z : Nat) (A : Nat → Prop) (Ex : Heap → Prop) (Bq : Nat × Nat × Nat → Nat → Nat → Prop) (w : xw) (H : Heap) (k n : Nat) : Prop := xHp D ar od z A w H ∧ Ex H ∧ Bq (xN w, xB w) k n
theorem xAd_z {a : Nat} (ha : 256 ≤ a) : z ≤ xAd od z a := by
  unfold xAd
  rw [if_neg (by omega)]
  omega
theorem xRun_go {H : Heap} {locs : List Loc} {pc len k n : Nat} {ls : Array Slot} {st0 rest : List Value} {ll : bs_Lo} {K : Option Value → xw → Prop} {b : Nat × Nat × Nat}
    (hr : ∀ T : State, T.heap = H → Stand p l e R s m args below meth c T locs k n → ∃ (v : Option Value) (st₀ t T' : State) (L : List Loc), st₀.heap = H ∧ Stand p l e R s m args below meth c T' (locs ++ L) (k + 0) (n + 0) ∧ (∀ q ∈ L, A q.base) ∧ T'.heap = t.heap ∧ T'.vm = t.vm ∧ ((∃ (r : Option Value) (w' : xw), Outcome.returned v = .returned (r.map (bs_cv (xAd od z))) ∧ K r w' ∧ xHp D ar od z A w' t.heap ∧ Ex t.heap) ∧ va_F A st₀ t) ∧ Goes p e below T (F0 m pc ls st0) T' { F0 m pc ls st0 with pc := pc + len, stack := v.toList ++ rest.map (bs_cv (xAd od z)) })
    (hS : va_S A s.heap H locs) (hl : bs_Lh (xAd od z) ls nL ll) (hB : Bq b k n) (hK : ∀ r w', K r w' → (xN w', xB w') = b)
    (hk : ∀ r w', K r w' → bs_Sim p l e R s m args below meth c A s.heap (xAd od z) (xHw D ar od z A Ex Bq) nL Q (pc + len) ll (r.toList ++ rest) w') : W p l e R s m args below meth c H locs k n Q (F0 m pc ls st0) := by
  intro T hT X
  obtain ⟨v, st₀, t, T', L, h0, X', hL, e1, e2, ⟨⟨r, w', hv, hp, hb, hex⟩, hz, hkk⟩, st⟩ := hr T hT X
  cases hv
  rw [h0] at hz hkk
  obtain ⟨t2, a1, b1⟩ := hk r w' hp T'.heap (locs ++ L) ls k n ⟨by rw [e1]; exact hb, by rw [e1]; exact hex, by rw [hK r w' hp]; exact hB⟩
    ⟨Nat.le_trans hS.1 (by rw [e1]; exact hz), fun q h1 h2 => by rw [e1, hkk q (Nat.lt_of_lt_of_le h1 hS.1) h2]; exact hS.2.1 q h1 h2, fun q hq => by
      rcases List.mem_append.mp hq with h | h
      · exact hS.2.2 q h
      · exact hL q h⟩ hl T' rfl X'
  refine ⟨t2, st t2 ?_, b1⟩
  have e3 : (r.toList ++ rest).map (bs_cv (xAd od z)) = (r.map (bs_cv (xAd od z))).toList ++ rest.map (bs_cv (xAd od z)) := by
    cases r <;> simp
  rw [e3] at a1
  exact a1
theorem xLdcW {cc : ByteArray} {pc : Nat} {ls : Array Slot} {rest : List Value} {H : Heap} {locs : List Loc} {cells slots : Nat} (hexec : p.tables.exec = Jvm.exec) (hb : c.code = cc) {own tx : String} {index q : Nat} (hown : s.vm.findClass own = some m.cls) (hZ : vk_R own index tx q s) (hdg : decode cc pc = .ok (.ldc_w index, 3))
    (k : W p l e R s m args below meth c H locs cells slots Q (F0 m (pc + 3) ls (.ref q :: rest))) : W p l e R s m args below meth c H locs cells slots Q (F0 m pc ls rest) := by
  intro T hT X
  obtain ⟨t, a1, b1⟩ := k T hT X
  exact ⟨t, X.ldcStringW hexec hown (text := tx) (a := q) hZ.1 hZ.2 (g := F0 m pc ls rest) rfl (by rw [hb]; exact hdg) t a1, b1⟩
theorem xCats {r : List Value} (h : bs_cats r ≤ 8) : ((r.map (bs_cv (xAd od z))).map fun v => v.category).sum ≤ 8 := by
  rw [List.map_map]
  have : ((fun v : Value => v.category) ∘ bs_cv (xAd od z)) = fun v : Value => v.category := funext fun v => bs_cv_cat _ v
  rw [this]
  exact h
theorem xRecv {w : xw} {H : Heap} {a cn : Nat} {q : vw_C} (hK : va_K D xCl (xTys ar) s) (hH : xHp D ar od z A w H) (hc : cn < 50) (hq : xCl[cn]? = some q) (ha : (xS w a).1 = cn + 1) : ∃ cell : Cell, H[xAd od z a]? = some cell ∧ cell.vm.isStatics = false ∧ s.vm.findClass q.1 = some cell.cls :=
  va_recv hK (xArr_P hH (xCell_obj hc ha)) (ci := cn) (q0 := 0) hq rfl
/-- a contract's start at a call -/
theorem xPre {V : xV} {av : List Value} {w : xw} {Qr : Option Value → xw → Prop} {H : Heap} {locs : List Loc} (hS : va_S A s.heap H locs) (henv : xEnz D ar od z A s s.heap) (hV : V av w Qr) (hH : xHp D ar od z A w H) (hE : Ex H) : PreS s H (va_Pc (av.map (bs_cv (xAd od z))) (fun U => V av w Qr ∧ xHp D ar od z A w U.heap ∧ Ex U.heap ∧ xEnz D ar od z A U U.heap)) (av.map (bs_cv (xAd od z))) :=
  ⟨fun a U g mk q => ⟨q.1, q.2.1, q.2.2.1, q.2.2.2.1, q.2.2.2.2.calling⟩, fun U hU hW => ⟨rfl, hV, by rw [hU]; exact hH, by rw [hU]; exact hE, henv.moved hW (fun a h1 h2 => by rw [hU]; exact hS.2.1 a h1 h2)⟩⟩
set_option maxHeartbeats 2000000 in
theorem xCall_static (hx : p.tables.exec = Jvm.exec) (hb : c.code = cc) (hml : c.maxLocals = nL) (hown : s.vm.findClass own = some m.cls) (hts : ∀ w ∈ lw_all, w.before args s = true) (henv : xEnz D ar od z A s s.heap) (hBq : ∀ b k n, Bq b k n → k ≤ R.cells ∧ n ≤ R.slots) {ix n : Nat} {t : Nat × xV} (hc : xCall0 R.frames R.locals l D ar od z A Ex own ix n 0 t) (hkp : xKp t.2) {pc : Nat} (hd : decode cc pc = .ok (.invokestatic ix, 3)) {ll : bs_Lo} {as r : List Value} {w : xw} {K : List Value → xw → Prop} (hn : as.length = n) (hcat : bs_cats r ≤ 8) (hV : t.2 as w (fun v w' => K (v.toList ++ r) w'))
    (hk : ∀ st' w', K st' w' → bs_Sim p l e R s m args below meth c A s.heap (xAd od z) (xHw D ar od z A Ex Bq) nL Q (pc + 3) ll st' w') : bs_Sim p l e R s m args below meth c A s.heap (xAd od z) (xHw D ar od z A Ex Bq) nL Q pc ll (as.reverse ++ r) w := by
  obtain ⟨y, yc, maxL, rt, fr, lo, hM, hR, hl2, hini, ⟨hlk, hst, hy⟩⟩ := hc
  intro H locs ls k0 n0 hH hS hl
  obtain ⟨hP, hE, hB⟩ := hH
  obtain ⟨hB1, hB2⟩ := hBq _ _ _ hB
  rw [List.map_append, List.map_reverse]
  have hV2 := hkp _ _ _ hV
  have hpre := xPre hS henv hV2 hP hE
  refine xRun_go (K := fun v w' => K (v.toList ++ r) w' ∧ xSm w w') (b := (xN w, xB w)) (rest := r) ?_ hS hl hB (fun v w' h => by rw [h.2.1, h.2.2.2]) (fun v w' h => hk _ _ h.1)
  rcases hlk with hlk | ⟨host, hlk⟩
  · exact va_runS (As := as.map (bs_cv (xAd od z))) (rest := r.map (bs_cv (xAd od z))) (Ts := lw_all) ⟨hx, hb, hml, hown, hts⟩ (hM as w _) (va_cwS n hts (lw_S hlk hst hini hl2) rfl rfl rfl hy hR) hpre rfl (by rw [List.length_map]; exact hn) hl.1 rfl (lv_room (xCats hcat)) hd ⟨hB1, hB2⟩
  · exact va_runSN (As := as.map (bs_cv (xAd od z))) (rest := r.map (bs_cv (xAd od z))) (Ts := lw_all) ⟨hx, hb, hml, hown, hts⟩ (hM as w _) ⟨va_cnB n hts (lw_meth hl2) rfl rfl rfl (henv.1.2.1 _ hlk) (hts _ hini) hy hR, hts _ hst, trivial⟩ hpre rfl (by rw [List.length_map]; exact hn) hl.1 rfl (lv_room (xCats hcat)) hd ⟨hB1, hB2⟩
set_option maxHeartbeats 2000000 in
theorem xCall_virt (hx : p.tables.exec = Jvm.exec) (hb : c.code = cc) (hml : c.maxLocals = nL) (hown : s.vm.findClass own = some m.cls) (hts : ∀ w ∈ lw_all, w.before args s = true) (henv : xEnz D ar od z A s s.heap) (hBq : ∀ b k n, Bq b k n → k ≤ R.cells ∧ n ≤ R.slots) {ix n : Nat} {t : Nat × xV} (hc : xCall0 R.frames R.locals l D ar od z A Ex own ix n 1 t) (hkp : xKp t.2) {pc : Nat} (hd : decode cc pc = .ok (.invokevirtual ix, 3)) {ll : bs_Lo} {as r : List Value} {a : Nat} {w : xw} {K : List Value → xw → Prop} (hn : as.length = n) (hcat : bs_cats r ≤ 8) (ha : (xS w a).1 = t.1 + 1) (hV : t.2 (.ref a :: as) w (fun v w' => K (v.toList ++ r) w'))
    (hk : ∀ st' w', K st' w' → bs_Sim p l e R s m args below meth c A s.heap (xAd od z) (xHw D ar od z A Ex Bq) nL Q (pc + 3) ll st' w') : bs_Sim p l e R s m args below meth c A s.heap (xAd od z) (xHw D ar od z A Ex Bq) nL Q pc ll (as.reverse ++ .ref a :: r) w := by
  obtain ⟨y, yc, maxL, rt, fr, lo, hM, hR, hl2, hini, ⟨q, hq, hc50, hinst, hlk⟩⟩ := hc
  intro H locs ls k0 n0 hH hS hl
  obtain ⟨hP, hE, hB⟩ := hH
  obtain ⟨hB1, hB2⟩ := hBq _ _ _ hB
  rw [List.map_append, List.map_reverse]
  have hV2 := hkp _ _ _ hV
  have hpre := xPre hS henv hV2 hP hE
  have hrecv := xRecv henv.1.1 hP hc50 hq ha
  refine xRun_go (K := fun v w' => K (v.toList ++ r) w' ∧ xSm w w') (b := (xN w, xB w)) (rest := r) ?_ hS hl hB (fun v w' h => by rw [h.2.1, h.2.2.2]) (fun v w' h => hk _ _ h.1)
  rcases hlk with ⟨hyc, hlk, hsel, hiniq, hy⟩ | ⟨x, owner, hlk, hsame, hsel, hdecl, hy⟩ | ⟨hy0, hq0, hlk, hsame, hsel, hy⟩
  · rcases hlk with hlk | ⟨host, hlk⟩
    · exact va_runV (C := q.1) (b := xAd od z a) (As := as.map (bs_cv (xAd od z))) (rest := r.map (bs_cv (xAd od z))) (Ts := lw_all) ⟨hx, hb, hml, hown, hts⟩ (hM (.ref a :: as) w _) (cwV n hts (lw_V hlk hinst hsel hiniq hl2) rfl rfl rfl ⟨hyc, hy⟩ hR) ⟨hpre.1, hrecv, hpre.2⟩ rfl (by rw [List.length_map]; exact hn) hl.1 rfl (lv_room (xCats hcat)) hd ⟨hB1, hB2⟩
    · exact va_runVN (C := q.1) (b := xAd od z a) (As := as.map (bs_cv (xAd od z))) (rest := r.map (bs_cv (xAd od z))) (Ts := lw_all) ⟨hx, hb, hml, hown, hts⟩ (hM (.ref a :: as) w _) ⟨va_cnB n hts (lw_meth hl2) rfl rfl rfl (henv.1.2.1 _ hlk) (hts _ hini) hy hR, hts _ hinst, hts _ hsel⟩ ⟨hpre.1, hrecv, hpre.2⟩ rfl (by rw [List.length_map]; exact hn) hl.1 rfl (lv_room (xCats hcat)) hd ⟨hB1, hB2⟩
  · have hgood : GoodIn lw_all (va_wsU own ix q.1 owner x y (ws_ y yc maxL rt)) := by
      refine lw_app ?_ (lw_meth hl2)
      intro w hw
      simp only [List.mem_cons, List.not_mem_nil, or_false] at hw
      rcases hw with e1 | e1 | e1 | e1 | e1
      · rw [e1]; exact hlk
      · rw [e1]; exact hsame
      · rw [e1]; exact hsel
      · rw [e1]; exact hinst
      · rw [e1]; exact hini
    have hcu : va_CU R s args own q.1 owner ix x y yc maxL rt (ws_ y yc maxL rt) ({ frames := fr, cells := 0, slots := 0, locals := lo }) 0 0 n := by
      rcases hdecl with hdecl | hdecl
      · exact va_cwU n hts hgood rfl rfl rfl hdecl hy hR
      · exact va_cwA n hts hgood rfl rfl rfl (henv.1.2.1 _ hdecl) hy hR
    exact va_runU (C := q.1) (b := xAd od z a) (As := as.map (bs_cv (xAd od z))) (rest := r.map (bs_cv (xAd od z))) (Ts := lw_all) ⟨hx, hb, hml, hown, hts⟩ (hM (.ref a :: as) w _) hcu ⟨hpre.1, hrecv, hpre.2⟩ rfl (by rw [List.length_map]; exact hn) hl.1 rfl (lv_room (xCats hcat)) hd ⟨hB1, hB2⟩
  · obtain ⟨C, T, N⟩ := q
    dsimp only at *
    subst hq0
    have hts' : ∀ w ∈ (Cond.selects "java/lang/StringBuilder" y y :: lw_all), w.before args s = true := fun w hw => by
      rcases List.mem_cons.mp hw with e1 | e1
      · rw [e1]; exact xSelNc hy0 henv.2.2.2.2.2 (hts _ hinst) (hts _ hsel)
      · exact hts w e1
    have hg0 : GoodIn lw_all ([.methodLink own ix y, .sameMethod y.cls y.cls y.name y.desc, .instanceMethod y, .initialized y.cls] ++ ws_ y yc maxL rt) := by
      refine lw_app ?_ (lw_meth hl2)
      intro w hw
      simp only [List.mem_cons, List.not_mem_nil, or_false] at hw
      rcases hw with e1 | e1 | e1 | e1
      · rw [e1]; exact hlk
      · rw [e1]; exact hsame
      · rw [e1]; exact hinst
      · rw [e1]; exact hini
    have hgood : GoodIn (Cond.selects "java/lang/StringBuilder" y y :: lw_all) (va_wsU own ix "java/lang/StringBuilder" y.cls y y (ws_ y yc maxL rt)) := by
      intro w hw
      by_cases e1 : w = Cond.selects "java/lang/StringBuilder" y y
      · rw [e1]; exact ⟨List.mem_cons_self, good_of_word rfl⟩
      · have hw2 : w ∈ ([.methodLink own ix y, .sameMethod y.cls y.cls y.name y.desc, .instanceMethod y, .initialized y.cls] ++ ws_ y yc maxL rt : List Cond) := by
          unfold va_wsU at hw
          rcases List.mem_append.mp hw with h9 | h9
          · simp only [List.mem_cons, List.not_mem_nil, or_false] at h9
            rcases h9 with h9 | h9 | h9 | h9 | h9
            · rw [h9]; simp
            · rw [h9]; simp
            · exact absurd h9 e1
            · rw [h9]; simp
            · rw [h9]; simp
          · exact List.mem_append_right _ h9
        exact ⟨List.mem_cons_of_mem _ (hg0 w hw2).1, (hg0 w hw2).2⟩
    exact va_runU (C := "java/lang/StringBuilder") (b := xAd od z a) (As := as.map (bs_cv (xAd od z))) (rest := r.map (bs_cv (xAd od z))) (Ts := Cond.selects "java/lang/StringBuilder" y y :: lw_all) ⟨hx, hb, hml, hown, hts'⟩ (hM (.ref a :: as) w _) (va_cwU n hts' hgood rfl rfl rfl rfl ⟨(xPl_cls y hy0).2.1, (xPl_cls y hy0).2.2, hy⟩ hR) ⟨hpre.1, hrecv, hpre.2⟩ rfl (by rw [List.length_map]; exact hn) hl.1 rfl (lv_room (xCats hcat)) hd ⟨hB1, hB2⟩
set_option maxHeartbeats 2000000 in
theorem xCall_face (hx : p.tables.exec = Jvm.exec) (hb : c.code = cc) (hml : c.maxLocals = nL) (hown : s.vm.findClass own = some m.cls) (hts : ∀ w ∈ lw_all, w.before args s = true) (henv : xEnz D ar od z A s s.heap) (hBq : ∀ b k n, Bq b k n → k ≤ R.cells ∧ n ≤ R.slots) {ix n ct : Nat} {t : Nat × xV} (hc : xCall0 R.frames R.locals l D ar od z A Ex own ix n 2 t) (hkp : xKp t.2) {pc : Nat} (hd : decode cc pc = .ok (.invokeinterface ix ct, 5)) {ll : bs_Lo} {as r : List Value} {a : Nat} {w : xw} {K : List Value → xw → Prop} (hn : as.length = n) (hcat : bs_cats r ≤ 8) (ha : (xS w a).1 = t.1 + 1) (hV : t.2 (.ref a :: as) w (fun v w' => K (v.toList ++ r) w'))
    (hk : ∀ st' w', K st' w' → bs_Sim p l e R s m args below meth c A s.heap (xAd od z) (xHw D ar od z A Ex Bq) nL Q (pc + 5) ll st' w') : bs_Sim p l e R s m args below meth c A s.heap (xAd od z) (xHw D ar od z A Ex Bq) nL Q pc ll (as.reverse ++ .ref a :: r) w := by
  obtain ⟨y, yc, maxL, rt, fr, lo, hM, hR, hl2, hini, ⟨q, x, hq, hc50, hinst, hlk, hsel, hxf, hy⟩⟩ := hc
  intro H locs ls k0 n0 hH hS hl
  obtain ⟨hP, hE, hB⟩ := hH
  obtain ⟨hB1, hB2⟩ := hBq _ _ _ hB
  rw [List.map_append, List.map_reverse]
  have hV2 := hkp _ _ _ hV
  have hpre := xPre hS henv hV2 hP hE
  have hrecv := xRecv henv.1.1 hP hc50 hq ha
  refine xRun_go (K := fun v w' => K (v.toList ++ r) w' ∧ xSm w w') (b := (xN w, xB w)) (rest := r) ?_ hS hl hB (fun v w' h => by rw [h.2.1, h.2.2.2]) (fun v w' h => hk _ _ h.1)
  have hgood : GoodIn lw_all (va_wsF own ix q.1 x y (ws_ y yc maxL rt)) := by
    refine lw_app ?_ (lw_meth hl2)
    intro w hw
    simp only [List.mem_cons, List.not_mem_nil, or_false] at hw
    rcases hw with e1 | e1 | e1 | e1
    · rw [e1]; exact hlk
    · rw [e1]; exact hsel
    · rw [e1]; exact hinst
    · rw [e1]; exact hini
  have hxm := xFs_ok _ hxf
  exact va_runF (C := q.1) (cC := D.1 t.1) (b := xAd od z a) (As := as.map (bs_cv (xAd od z))) (rest := r.map (bs_cv (xAd od z))) (Ts := lw_all) (henv.1.1.1 t.1 q hq).2 ⟨hx, hb, hml, hown, hts⟩ (hM (.ref a :: as) w _) (va_cwF n hts hgood rfl rfl rfl (henv.1.2.2.1 _ hxf) ⟨hxm.1, hxm.2, hy⟩ hR) ⟨hpre.1, hrecv, hpre.2⟩ rfl (by rw [List.length_map]; exact hn) hl.1 rfl (lv_room (xCats hcat)) hd ⟨hB1, hB2⟩
set_option maxHeartbeats 2000000 in
theorem xCall_special (hx : p.tables.exec = Jvm.exec) (hb : c.code = cc) (hml : c.maxLocals = nL) (hown : s.vm.findClass own = some m.cls) (hts : ∀ w ∈ lw_all, w.before args s = true) (henv : xEnz D ar od z A s s.heap) (hBq : ∀ b k n, Bq b k n → k ≤ R.cells ∧ n ≤ R.slots) {ix n kd : Nat} {t : Nat × xV} (hkd : 3 ≤ kd) (hc : xCall0 R.frames R.locals l D ar od z A Ex own ix n kd t) (hkp : xKp t.2) {pc : Nat} (hd : decode cc pc = .ok (.invokespecial ix, 3)) {ll : bs_Lo} {as r : List Value} {a : Nat} {w : xw} {K : List Value → xw → Prop} (hn : as.length = n) (hcat : bs_cats r ≤ 8) (ha : (xS w a).1 = t.1 + 1) (hV : t.2 (.ref a :: as) w (fun v w' => K (v.toList ++ r) w'))
    (hk : ∀ st' w', K st' w' → bs_Sim p l e R s m args below meth c A s.heap (xAd od z) (xHw D ar od z A Ex Bq) nL Q (pc + 3) ll st' w') : bs_Sim p l e R s m args below meth c A s.heap (xAd od z) (xHw D ar od z A Ex Bq) nL Q pc ll (as.reverse ++ .ref a :: r) w := by
  obtain ⟨y, yc, maxL, rt, fr, lo, hM, hR, hl2, hini, hlk⟩ := hc
  intro H locs ls k0 n0 hH hS hl
  obtain ⟨hP, hE, hB⟩ := hH
  obtain ⟨hB1, hB2⟩ := hBq _ _ _ hB
  rw [List.map_append, List.map_reverse]
  have hV2 := hkp _ _ _ hV
  have hpre := xPre hS henv hV2 hP hE
  refine xRun_go (K := fun v w' => K (v.toList ++ r) w' ∧ xSm w w') (b := (xN w, xB w)) (rest := r) ?_ hS hl hB (fun v w' h => by rw [h.2.1, h.2.2.2]) (fun v w' h => hk _ _ h.1)
  match kd, hkd, hlk with
  | 3, _, hlk =>
    obtain ⟨q, hq, hc50, hinst, hml2, hsame, hsup, hnm, hy⟩ := hlk
    have hrecv := xRecv henv.1.1 hP hc50 hq ha
    have hgood : GoodIn lw_all (va_wsSU own ix y (ws_ y yc maxL rt)) := by
      refine lw_app ?_ (lw_meth hl2)
      intro w hw
      simp only [List.mem_cons, List.not_mem_nil, or_false] at hw
      rcases hw with e1 | e1 | e1 | e1 | e1
      · rw [e1]; exact hml2
      · rw [e1]; exact hsame
      · rw [e1]; exact hsup
      · rw [e1]; exact hinst
      · rw [e1]; exact hini
    exact va_runSU (C := q.1) (cC := D.1 t.1) (b := xAd od z a) (As := as.map (bs_cv (xAd od z))) (rest := r.map (bs_cv (xAd od z))) (Ts := lw_all) (henv.1.1.1 t.1 q hq).2 ⟨hx, hb, hml, hown, hts⟩ (hM (.ref a :: as) w _) (va_cwSU n hts hgood rfl rfl rfl ⟨hnm, hy⟩ hR) ⟨hpre.1, hrecv, hpre.2⟩ rfl (by rw [List.length_map]; exact hn) hl.1 rfl (lv_room (xCats hcat)) hd ⟨hB1, hB2⟩
  | kd + 4, _, hlk =>
    obtain ⟨hlk9, hinst, hnm, rfl, hy⟩ := hlk
    rcases hlk9 with hlk | ⟨host, hlk⟩
    · exact va_runI (b := xAd od z a) (As := as.map (bs_cv (xAd od z))) (rest := r.map (bs_cv (xAd od z))) (Ts := lw_all) ⟨hx, hb, hml, hown, hts⟩ (hM (.ref a :: as) w _) (cwI n hts (lw_meth hl2) rfl rfl rfl (hts _ hini) (hts _ hlk) (hts _ hinst) hnm hy hR) hpre rfl (by rw [List.length_map]; exact hn) hl.1 rfl (lv_room (xCats hcat)) hd ⟨hB1, hB2⟩
    · exact va_runIN (b := xAd od z a) (As := as.map (bs_cv (xAd od z))) (rest := r.map (bs_cv (xAd od z))) (Ts := lw_all) ⟨hx, hb, hml, hown, hts⟩ (hM (.ref a :: as) w _) ⟨va_cnB n hts (lw_meth hl2) rfl rfl rfl (henv.1.2.1 _ hlk) (hts _ hini) hy hR, hnm, hts _ hinst⟩ hpre rfl (by rw [List.length_map]; exact hn) hl.1 rfl (lv_room (xCats hcat)) hd ⟨hB1, hB2⟩
end XSND
