/-! contracts of methods that may make cells -/
set_option maxRecDepth 100000
/-- arrays of arrays may be made -/
def xAy (U : State) : Prop := ∀ ty ∈ [FieldType.int, FieldType.long], (Cond.arrayOver (.array ty)).before #[] U = true
theorem xAy1.moved {ty : FieldType} {u U : State} (hvm : u.vm.Alike U.vm) (h : (Cond.arrayOver (.array ty)).before #[] u = true) : (Cond.arrayOver (.array ty)).before #[] U = true := by
  have h1 : (Cond.arrayOver (.array ty)).before #[] (u.setVm U.vm) = true := by rw [Cond.arrayOver_setVmC hvm]; exact h
  exact h1
theorem xAy.moved {u U : State} (hvm : u.vm.Alike U.vm) (h : xAy u) : xAy U := fun ty ht => xAy1.moved hvm (h ty ht)
def xEny (D : va_G) (ar : Nat → ClassId) (od : Nat → Nat) (z : Nat) (A : Nat → Prop) (U : State) (H : Heap) : Prop := xEnz D ar od z A U H ∧ xAy U
section XB
variable {p : Program} {l : Launch} {e : Env} {R : Room} {s : State} {m : MethodId} {args : Array Value} {below : List Frame} {meth : Method} {c : Code} {nL : Nat} {Q : State → Prop} {D : va_G} {ar : Nat → ClassId} {od : Nat → Nat} {z : Nat} {A : Nat → Prop} {Ex : Heap → Prop} {cc : ByteArray} {own : String} {n1 : Nat} {Bq : Nat × Nat × Nat → Nat → Nat → Prop}
def xMet1 (l : Launch) (D : va_G) (ar : Nat → ClassId) (od : Nat → Nat) (z : Nat) (A : Nat → Prop) (Ex : Heap → Prop) (n1 : Nat) (y : MethodName) (cc : ByteArray) (maxL : Nat) (rt : Option FieldType) (fr lo : Nat) (V : xV) : Prop :=
  ∀ (av : List Value) (w : xw) (Qr : Option Value → xw → Prop), Met l y (ws_ y cc maxL rt) ({ frames := fr, cells := (xB w).1, slots := (xB w).2, locals := lo })
    (va_Pc (av.map (bs_cv (xAd od z))) (fun U => (V av w Qr ∧ n1 ≤ xN w) ∧ xHp D ar od z A w U.heap ∧ Ex U.heap ∧ xEny D ar od z A U U.heap))
    (fun _ st oc t => (∃ (r : Option Value) (w' : xw), oc = .returned (r.map (bs_cv (xAd od z))) ∧ (Qr r w' ∧ n1 ≤ xN w') ∧ xHp D ar od z A w' t.heap ∧ Ex t.heap) ∧ va_F A st t) (xB w).1 (xB w).2 A
def xCallB (fr0 lo0 : Nat) (l : Launch) (D : va_G) (ar : Nat → ClassId) (od : Nat → Nat) (z : Nat) (A : Nat → Prop) (Ex : Heap → Prop) (n1 : Nat) (own : String) (ix n kd : Nat) (t : Nat × xV) : Prop :=
  ∃ (y : MethodName) (cc : ByteArray) (maxL : Nat) (rt : Option FieldType) (fr lo : Nat), xMet1 l D ar od z A Ex n1 y cc maxL rt fr lo t.2 ∧ (fr + 1 ≤ fr0 ∧ 8 + (maxL + 11) + lo ≤ lo0) ∧ Cond.code y cc maxL rt ∈ lw_all ∧ Cond.initialized y.cls ∈ lw_all ∧ (match kd with
    | 0 => xLkS own ix n y
    | 1 => xLkV own ix n t.1 y
    | 2 => xLkF own ix n t.1 y
    | 3 => xLkU own ix n t.1 y
    | _ => xLkI own ix n y rt)
def xRn (p : Program) (l : Launch) (e : Env) (R : Room) (s : State) (m : MethodId) (args : Array Value) (below : List Frame) (meth : Method) (c : Code) (H : Heap) (locs : List Loc) (k n C S : Nat) (g : JFrame) (len : Nat) (rest : List Value) (Qa : State → Outcome → State → Prop) (free : Addr → Prop) : Prop :=
  ∀ T : State, T.heap = H → Stand p l e R s m args below meth c T locs k n → ∃ (v : Option Value) (st₀ t T' : State) (L : List Loc), st₀.heap = H ∧ Stand p l e R s m args below meth c T' (locs ++ L) (k + C) (n + S) ∧ (∀ q ∈ L, free q.base) ∧ T'.heap = t.heap ∧ T'.vm = t.vm ∧ Qa st₀ (.returned v) t ∧ Goes p e below T g T' { g with pc := g.pc + len, stack := v.toList ++ rest }
theorem xRnB_go {H : Heap} {locs : List Loc} {pc len k n C S : Nat} {ls : Array Slot} {st0 rest : List Value} {ll : bs_Lo} {K : Option Value → xw → Prop} {f : xw → xw}
    (hr : xRn p l e R s m args below meth c H locs k n C S (F0 m pc ls st0) len (rest.map (bs_cv (xAd od z))) (fun st oc t => (∃ (r : Option Value) (w' : xw), oc = .returned (r.map (bs_cv (xAd od z))) ∧ K r w' ∧ xHp D ar od z A w' t.heap ∧ Ex t.heap) ∧ va_F A st t) A)
    (hS : va_S A s.heap H locs) (hl : bs_Lh (xAd od z) ls nL ll) (hf : ∀ w H, xHp D ar od z A w H → xHp D ar od z A (f w) H) (hB : ∀ r w', K r w' → Bq (xN (f w'), xB (f w')) (k + C) (n + S))
    (hk : ∀ r w', K r w' → bs_Sim p l e R s m args below meth c A s.heap (xAd od z) (xHw D ar od z A Ex Bq) nL Q (pc + len) ll (r.toList ++ rest) (f w')) : W p l e R s m args below meth c H locs k n Q (F0 m pc ls st0) := by
  intro T hT X
  obtain ⟨v, st₀, t, T', L, h0, X', hL, e1, e2, ⟨⟨r, w', hv, hp, hb, hex⟩, hz, hkk⟩, st⟩ := hr T hT X
  cases hv
  rw [h0] at hz hkk
  obtain ⟨t2, a1, b1⟩ := hk r w' hp T'.heap (locs ++ L) ls (k + C) (n + S) ⟨hf _ _ (by rw [e1]; exact hb), by rw [e1]; exact hex, hB r w' hp⟩
    ⟨Nat.le_trans hS.1 (by rw [e1]; exact hz), fun q h1 h2 => by rw [e1, hkk q (Nat.lt_of_lt_of_le h1 hS.1) h2]; exact hS.2.1 q h1 h2, fun q hq => by
      rcases List.mem_append.mp hq with h | h
      · exact hS.2.2 q h
      · exact hL q h⟩ hl T' rfl X'
  refine ⟨t2, st t2 ?_, b1⟩
  have e3 : (r.toList ++ rest).map (bs_cv (xAd od z)) = (r.map (bs_cv (xAd od z))).toList ++ rest.map (bs_cv (xAd od z)) := by
    cases r <;> simp
  rw [e3] at a1
  exact a1
variable {H : Heap} {locs : List Loc} {k n0 C S pc : Nat} {ls : Array Slot} {ll : bs_Lo} {as r : List Value} {y : MethodName} {yc : ByteArray} {maxL fr lo ix n : Nat} {rt : Option FieldType} {Pc : Array Value → State → Prop} {Qc : Array Value → State → Outcome → State → Prop}
set_option maxHeartbeats 2000000 in
theorem xGo_static (hx : p.tables.exec = Jvm.exec) (hb : c.code = cc) (hml : c.maxLocals = nL) (hown : s.vm.findClass own = some m.cls) (hts : ∀ w ∈ lw_all, w.before args s = true) (henv : xEnz D ar od z A s s.heap) (hl : bs_Lh (xAd od z) ls nL ll) (hM : Met l y (ws_ y yc maxL rt) ({ frames := fr, cells := C, slots := S, locals := lo }) Pc Qc C S A) (hpre : PreS s H Pc (as.map (bs_cv (xAd od z)))) (hR : fr + 1 ≤ R.frames ∧ 8 + (maxL + 11) + lo ≤ R.locals) (hl2 : Cond.code y yc maxL rt ∈ lw_all) (hini : Cond.initialized y.cls ∈ lw_all) (hlk : xLkS own ix n y) (hd : decode cc pc = .ok (.invokestatic ix, 3)) (hn : as.length = n) (hcat : bs_cats r ≤ 8) (hf : k + C ≤ R.cells ∧ n0 + S ≤ R.slots) :
    xRn p l e R s m args below meth c H locs k n0 C S (F0 m pc ls ((as.map (bs_cv (xAd od z))).reverse ++ r.map (bs_cv (xAd od z)))) 3 (r.map (bs_cv (xAd od z))) (Qc (as.map (bs_cv (xAd od z))).toArray) A := by
  obtain ⟨hlk, hst, hy⟩ := hlk
  rcases hlk with hlk | ⟨host, hlk⟩
  · exact va_runS (As := as.map (bs_cv (xAd od z))) (rest := r.map (bs_cv (xAd od z))) (Ts := lw_all) ⟨hx, hb, hml, hown, hts⟩ hM (va_cwS n hts (lw_S hlk hst hini hl2) rfl rfl rfl hy hR) hpre rfl (by rw [List.length_map]; exact hn) hl.1 rfl (lv_room (xCats hcat)) hd hf
  · exact va_runSN (As := as.map (bs_cv (xAd od z))) (rest := r.map (bs_cv (xAd od z))) (Ts := lw_all) ⟨hx, hb, hml, hown, hts⟩ hM ⟨va_cnB n hts (lw_meth hl2) rfl rfl rfl (henv.1.2.1 _ hlk) (hts _ hini) hy hR, hts _ hst, trivial⟩ hpre rfl (by rw [List.length_map]; exact hn) hl.1 rfl (lv_room (xCats hcat)) hd hf
set_option maxHeartbeats 2000000 in
theorem xGo_virt {a cn : Nat} {w : xw} (hx : p.tables.exec = Jvm.exec) (hb : c.code = cc) (hml : c.maxLocals = nL) (hown : s.vm.findClass own = some m.cls) (hts : ∀ w ∈ lw_all, w.before args s = true) (henv : xEnz D ar od z A s s.heap) (hl : bs_Lh (xAd od z) ls nL ll) (hP : xHp D ar od z A w H) (ha : (xS w a).1 = cn + 1) (hM : Met l y (ws_ y yc maxL rt) ({ frames := fr, cells := C, slots := S, locals := lo }) Pc Qc C S A) (hpre : PreS s H Pc (((.ref a : Value) :: as).map (bs_cv (xAd od z)))) (hR : fr + 1 ≤ R.frames ∧ 8 + (maxL + 11) + lo ≤ R.locals) (hl2 : Cond.code y yc maxL rt ∈ lw_all) (hini : Cond.initialized y.cls ∈ lw_all) (hlk : xLkV own ix n cn y) (hd : decode cc pc = .ok (.invokevirtual ix, 3)) (hn : as.length = n) (hcat : bs_cats r ≤ 8) (hf : k + C ≤ R.cells ∧ n0 + S ≤ R.slots) :
    xRn p l e R s m args below meth c H locs k n0 C S (F0 m pc ls ((as.map (bs_cv (xAd od z))).reverse ++ .ref (xAd od z a) :: r.map (bs_cv (xAd od z)))) 3 (r.map (bs_cv (xAd od z))) (Qc (((.ref a : Value) :: as).map (bs_cv (xAd od z))).toArray) A := by
  obtain ⟨q, hq, hc50, hinst, hlk⟩ := hlk
  have hrecv := xRecv henv.1.1 hP hc50 hq ha
  rcases hlk with ⟨hyc, hlk, hsel, hiniq, hy⟩ | ⟨x, owner, hlk, hsame, hsel, hdecl, hy⟩ | ⟨hy0, hq0, hlk, hsame, hsel, hy⟩
  · rcases hlk with hlk | ⟨host, hlk⟩
    · exact va_runV (C := q.1) (b := xAd od z a) (As := as.map (bs_cv (xAd od z))) (rest := r.map (bs_cv (xAd od z))) (Ts := lw_all) ⟨hx, hb, hml, hown, hts⟩ hM (cwV n hts (lw_V hlk hinst hsel hiniq hl2) rfl rfl rfl ⟨hyc, hy⟩ hR) ⟨hpre.1, hrecv, hpre.2⟩ rfl (by rw [List.length_map]; exact hn) hl.1 rfl (lv_room (xCats hcat)) hd hf
    · exact va_runVN (C := q.1) (b := xAd od z a) (As := as.map (bs_cv (xAd od z))) (rest := r.map (bs_cv (xAd od z))) (Ts := lw_all) ⟨hx, hb, hml, hown, hts⟩ hM ⟨va_cnB n hts (lw_meth hl2) rfl rfl rfl (henv.1.2.1 _ hlk) (hts _ hini) hy hR, hts _ hinst, hts _ hsel⟩ ⟨hpre.1, hrecv, hpre.2⟩ rfl (by rw [List.length_map]; exact hn) hl.1 rfl (lv_room (xCats hcat)) hd hf
  · have hgood : GoodIn lw_all (va_wsU own ix q.1 owner x y (ws_ y yc maxL rt)) := by
      refine lw_app ?_ (lw_meth hl2)
      intro w hw
      simp only [List.mem_cons, List.not_mem_nil, or_false] at hw
      rcases hw with e1 | e1 | e1 | e1 | e1
      · rw [e1]; exact hlk
      · rw [e1]; exact hsame
      · rw [e1]; exact hsel
      · rw [e1]; exact hinst
      · rw [e1]; exact hini
    have hcu : va_CU R s args own q.1 owner ix x y yc maxL rt (ws_ y yc maxL rt) ({ frames := fr, cells := C, slots := S, locals := lo }) C S n := by
      rcases hdecl with hdecl | hdecl
      · exact va_cwU n hts hgood rfl rfl rfl hdecl hy hR
      · exact va_cwA n hts hgood rfl rfl rfl (henv.1.2.1 _ hdecl) hy hR
    exact va_runU (C := q.1) (b := xAd od z a) (As := as.map (bs_cv (xAd od z))) (rest := r.map (bs_cv (xAd od z))) (Ts := lw_all) ⟨hx, hb, hml, hown, hts⟩ hM hcu ⟨hpre.1, hrecv, hpre.2⟩ rfl (by rw [List.length_map]; exact hn) hl.1 rfl (lv_room (xCats hcat)) hd hf
  · obtain ⟨C, T, N⟩ := q
    dsimp only at *
    subst hq0
    have hts' : ∀ w ∈ (Cond.selects "java/lang/StringBuilder" y y :: lw_all), w.before args s = true := fun w hw => by
      rcases List.mem_cons.mp hw with e1 | e1
      · rw [e1]; exact xSelNc hy0 henv.2.2.2.2.2 (hts _ hinst) (hts _ hsel)
      · exact hts w e1
    have hg0 : GoodIn lw_all ([.methodLink own ix y, .sameMethod y.cls y.cls y.name y.desc, .instanceMethod y, .initialized y.cls] ++ ws_ y yc maxL rt) := by
      refine lw_app ?_ (lw_meth hl2)
      intro w hw
      simp only [List.mem_cons, List.not_mem_nil, or_false] at hw
      rcases hw with e1 | e1 | e1 | e1
      · rw [e1]; exact hlk
      · rw [e1]; exact hsame
      · rw [e1]; exact hinst
      · rw [e1]; exact hini
    have hgood : GoodIn (Cond.selects "java/lang/StringBuilder" y y :: lw_all) (va_wsU own ix "java/lang/StringBuilder" y.cls y y (ws_ y yc maxL rt)) := by
      intro w hw
      by_cases e1 : w = Cond.selects "java/lang/StringBuilder" y y
      · rw [e1]; exact ⟨List.mem_cons_self, good_of_word rfl⟩
      · have hw2 : w ∈ ([.methodLink own ix y, .sameMethod y.cls y.cls y.name y.desc, .instanceMethod y, .initialized y.cls] ++ ws_ y yc maxL rt : List Cond) := by
          unfold va_wsU at hw
          rcases List.mem_append.mp hw with h9 | h9
          · simp only [List.mem_cons, List.not_mem_nil, or_false] at h9
            rcases h9 with h9 | h9 | h9 | h9 | h9
            · rw [h9]; simp
            · rw [h9]; simp
            · exact absurd h9 e1
            · rw [h9]; simp
            · rw [h9]; simp
          · exact List.mem_append_right _ h9
        exact ⟨List.mem_cons_of_mem _ (hg0 w hw2).1, (hg0 w hw2).2⟩
    exact va_runU (C := "java/lang/StringBuilder") (b := xAd od z a) (As := as.map (bs_cv (xAd od z))) (rest := r.map (bs_cv (xAd od z))) (Ts := Cond.selects "java/lang/StringBuilder" y y :: lw_all) ⟨hx, hb, hml, hown, hts'⟩ hM (va_cwU n hts' hgood rfl rfl rfl rfl ⟨(xPl_cls y hy0).2.1, (xPl_cls y hy0).2.2, hy⟩ hR) ⟨hpre.1, hrecv, hpre.2⟩ rfl (by rw [List.length_map]; exact hn) hl.1 rfl (lv_room (xCats hcat)) hd hf
set_option maxHeartbeats 2000000 in
theorem xGo_face {a cn ct : Nat} {w : xw} (hx : p.tables.exec = Jvm.exec) (hb : c.code = cc) (hml : c.maxLocals = nL) (hown : s.vm.findClass own = some m.cls) (hts : ∀ w ∈ lw_all, w.before args s = true) (henv : xEnz D ar od z A s s.heap) (hl : bs_Lh (xAd od z) ls nL ll) (hP : xHp D ar od z A w H) (ha : (xS w a).1 = cn + 1) (hM : Met l y (ws_ y yc maxL rt) ({ frames := fr, cells := C, slots := S, locals := lo }) Pc Qc C S A) (hpre : PreS s H Pc (((.ref a : Value) :: as).map (bs_cv (xAd od z)))) (hR : fr + 1 ≤ R.frames ∧ 8 + (maxL + 11) + lo ≤ R.locals) (hl2 : Cond.code y yc maxL rt ∈ lw_all) (hini : Cond.initialized y.cls ∈ lw_all) (hlk : xLkF own ix n cn y) (hd : decode cc pc = .ok (.invokeinterface ix ct, 5)) (hn : as.length = n) (hcat : bs_cats r ≤ 8) (hf : k + C ≤ R.cells ∧ n0 + S ≤ R.slots) :
    xRn p l e R s m args below meth c H locs k n0 C S (F0 m pc ls ((as.map (bs_cv (xAd od z))).reverse ++ .ref (xAd od z a) :: r.map (bs_cv (xAd od z)))) 5 (r.map (bs_cv (xAd od z))) (Qc (((.ref a : Value) :: as).map (bs_cv (xAd od z))).toArray) A := by
  obtain ⟨q, x, hq, hc50, hinst, hlk, hsel, hxf, hy⟩ := hlk
  have hrecv := xRecv henv.1.1 hP hc50 hq ha
  have hgood : GoodIn lw_all (va_wsF own ix q.1 x y (ws_ y yc maxL rt)) := by
    refine lw_app ?_ (lw_meth hl2)
    intro w hw
    simp only [List.mem_cons, List.not_mem_nil, or_false] at hw
    rcases hw with e1 | e1 | e1 | e1
    · rw [e1]; exact hlk
    · rw [e1]; exact hsel
    · rw [e1]; exact hinst
    · rw [e1]; exact hini
  have hxm := xFs_ok _ hxf
  exact va_runF (C := q.1) (cC := D.1 cn) (b := xAd od z a) (As := as.map (bs_cv (xAd od z))) (rest := r.map (bs_cv (xAd od z))) (Ts := lw_all) (henv.1.1.1 cn q hq).2 ⟨hx, hb, hml, hown, hts⟩ hM (va_cwF n hts hgood rfl rfl rfl (henv.1.2.2.1 _ hxf) ⟨hxm.1, hxm.2, hy⟩ hR) ⟨hpre.1, hrecv, hpre.2⟩ rfl (by rw [List.length_map]; exact hn) hl.1 rfl (lv_room (xCats hcat)) hd hf
set_option maxHeartbeats 2000000 in
theorem xGo_special {a cn kd : Nat} {w : xw} (hx : p.tables.exec = Jvm.exec) (hb : c.code = cc) (hml : c.maxLocals = nL) (hown : s.vm.findClass own = some m.cls) (hts : ∀ w ∈ lw_all, w.before args s = true) (henv : xEnz D ar od z A s s.heap) (hl : bs_Lh (xAd od z) ls nL ll) (hP : xHp D ar od z A w H) (ha : (xS w a).1 = cn + 1) (hM : Met l y (ws_ y yc maxL rt) ({ frames := fr, cells := C, slots := S, locals := lo }) Pc Qc C S A) (hpre : PreS s H Pc (((.ref a : Value) :: as).map (bs_cv (xAd od z)))) (hR : fr + 1 ≤ R.frames ∧ 8 + (maxL + 11) + lo ≤ R.locals) (hl2 : Cond.code y yc maxL rt ∈ lw_all) (hini : Cond.initialized y.cls ∈ lw_all) (hlk : (match kd with
    | 0 => xLkS own ix n y
    | 1 => xLkV own ix n cn y
    | 2 => xLkF own ix n cn y
    | 3 => xLkU own ix n cn y
    | _ => xLkI own ix n y rt)) (hkd : 3 ≤ kd) (hd : decode cc pc = .ok (.invokespecial ix, 3)) (hn : as.length = n) (hcat : bs_cats r ≤ 8) (hf : k + C ≤ R.cells ∧ n0 + S ≤ R.slots) :
    xRn p l e R s m args below meth c H locs k n0 C S (F0 m pc ls ((as.map (bs_cv (xAd od z))).reverse ++ .ref (xAd od z a) :: r.map (bs_cv (xAd od z)))) 3 (r.map (bs_cv (xAd od z))) (Qc (((.ref a : Value) :: as).map (bs_cv (xAd od z))).toArray) A := by
  match kd, hkd, hlk with
  | 3, _, hlk =>
    obtain ⟨q, hq, hc50, hinst, hml2, hsame, hsup, hnm, hy⟩ := hlk
    have hrecv := xRecv henv.1.1 hP hc50 hq ha
    have hgood : GoodIn lw_all (va_wsSU own ix y (ws_ y yc maxL rt)) := by
      refine lw_app ?_ (lw_meth hl2)
      intro w hw
      simp only [List.mem_cons, List.not_mem_nil, or_false] at hw
      rcases hw with e1 | e1 | e1 | e1 | e1
      · rw [e1]; exact hml2
      · rw [e1]; exact hsame
      · rw [e1]; exact hsup
      · rw [e1]; exact hinst
      · rw [e1]; exact hini
    exact va_runSU (C := q.1) (cC := D.1 cn) (b := xAd od z a) (As := as.map (bs_cv (xAd od z))) (rest := r.map (bs_cv (xAd od z))) (Ts := lw_all) (henv.1.1.1 cn q hq).2 ⟨hx, hb, hml, hown, hts⟩ hM (va_cwSU n hts hgood rfl rfl rfl ⟨hnm, hy⟩ hR) ⟨hpre.1, hrecv, hpre.2⟩ rfl (by rw [List.length_map]; exact hn) hl.1 rfl (lv_room (xCats hcat)) hd hf
  | kd + 4, _, hlk =>
    obtain ⟨hlk9, hinst, hnm, rfl, hy⟩ := hlk
    rcases hlk9 with hlk | ⟨host, hlk⟩
    · exact va_runI (b := xAd od z a) (As := as.map (bs_cv (xAd od z))) (rest := r.map (bs_cv (xAd od z))) (Ts := lw_all) ⟨hx, hb, hml, hown, hts⟩ hM (cwI n hts (lw_meth hl2) rfl rfl rfl (hts _ hini) (hts _ hlk) (hts _ hinst) hnm hy hR) hpre rfl (by rw [List.length_map]; exact hn) hl.1 rfl (lv_room (xCats hcat)) hd hf
    · exact va_runIN (b := xAd od z a) (As := as.map (bs_cv (xAd od z))) (rest := r.map (bs_cv (xAd od z))) (Ts := lw_all) ⟨hx, hb, hml, hown, hts⟩ hM ⟨va_cnB n hts (lw_meth hl2) rfl rfl rfl (henv.1.2.1 _ hlk) (hts _ hini) hy hR, hnm, hts _ hinst⟩ hpre rfl (by rw [List.length_map]; exact hn) hl.1 rfl (lv_room (xCats hcat)) hd hf
end XB
