/-! THE X LAYER with exceptions: methods that return or throw the one Fault -/
set_option maxRecDepth 100000
abbrev xV2 : Type := List Value → xw → (Option Value → xw → Prop) → (Nat → xw → Prop) → Prop
abbrev xCs2 : Type := List (Nat × Nat × Nat × xV2)
def xLook2 : xCs2 → Nat → Option (Nat × Nat × xV2)
  | [], _ => none
  | q :: r, i => match Nat.beq q.1 i with
    | true => some q.2
    | false => xLook2 r i
theorem xLook2_mem {cs : xCs2} {i : Nat} {x : Nat × Nat × xV2} (h : xLook2 cs i = some x) : (i, x) ∈ cs := by
  induction cs with
  | nil => cases h
  | cons q r ih =>
    unfold xLook2 at h
    cases hq : Nat.beq q.1 i with
    | true =>
      rw [hq] at h
      cases h
      have := Nat.eq_of_beq_eq_true hq
      subst this
      exact List.mem_cons_self
    | false =>
      rw [hq] at h
      exact List.mem_cons_of_mem _ (ih h)
def xMm2 (ic sx : List (Nat × Value)) (lc : List (Nat × Int64)) (cs cs1 : xCs) (cs2 : xCs2) (Qx : Nat → xw → Prop) (au : List Nat) (i : Instr) (st : List Value) (w : xw) (K J : List Value → xw → Prop) : Prop := match i with
  | .athrow => match st with
    | .ref a :: _ => (xS w a).1 = 4 ∧ (match au with
      | [] => Qx a w
      | _ :: _ => False)
    | _ => False
  | .invokevirtual ix => match xLook2 cs2 ix with
    | some (n, cn, V) => match bs_pop n st [] with
      | some (as, .ref a :: r) => match Nat.ble (bs_cats r) 8 with
        | true => (xS w a).1 = cn + 1 ∧ ∃ C S : Nat, (C ≤ (xB w).1 ∧ S ≤ (xB w).2) ∧ V (.ref a :: as) (xSetB w (C, S)) (fun v w' => K (v.toList ++ r) (xSetB w' ((xB w).1 - C, (xB w).2 - S))) (fun q w' => match au with
          | [] => Qx q (xSetB w' ((xB w).1 - C, (xB w).2 - S))
          | _ :: _ => J [.ref q] (xSetB w' ((xB w).1 - C, (xB w).2 - S)))
        | false => False
      | _ => False
    | none => xMm1 ic sx lc cs cs1 au (.invokevirtual ix) st w K J
  | i => xMm1 ic sx lc cs cs1 au i st w K J
abbrev xMn2 (V : xV2) : Prop := ∀ av w (Qr Qr' : Option Value → xw → Prop) (Qx Qx' : Nat → xw → Prop), (∀ v w, Qr v w → Qr' v w) → (∀ v w, Qx v w → Qx' v w) → V av w Qr Qx → V av w Qr' Qx'
section
variable {ic sx : List (Nat × Value)} {lc : List (Nat × Int64)} {cs cs1 : xCs} {cs2 : xCs2}
theorem xMm2_mono2 (hcs : ∀ q ∈ cs, ∀ t ∈ q.2.2.2, xMn t.2) (hcs1 : ∀ q ∈ cs1, ∀ t ∈ q.2.2.2, xMn t.2) (hcs2 : ∀ q ∈ cs2, xMn2 q.2.2.2) {Qx Qx' : Nat → xw → Prop} (hx : ∀ v w, Qx v w → Qx' v w) (au : List Nat) (i : Instr) (st : List Value) (w : xw) (K K' J J' : List Value → xw → Prop) (h : ∀ st w, K st w → K' st w) (hj : ∀ st w, J st w → J' st w) (g : xMm2 ic sx lc cs cs1 cs2 Qx au i st w K J) : xMm2 ic sx lc cs cs1 cs2 Qx' au i st w K' J' := by
  unfold xMm2 at *
  split at g
  · split at g
    · refine ⟨g.1, ?_⟩
      have g := g.2
      split at g
      · exact hx _ _ g
      · exact g
    · exact g
  · split at g
    · rename_i n cn V hl
      split at g
      · split at g
        · obtain ⟨g1, C, S, g2, g3⟩ := g
          refine ⟨g1, C, S, g2, hcs2 _ (xLook2_mem hl) _ _ _ _ _ _ (fun _ _ g => h _ _ g) (fun q w' g => ?_) g3⟩
          split at g
          · exact hx _ _ g
          · exact hj _ _ g
        · exact g
      · exact g
    · exact xMm1_mono hcs hcs1 _ _ _ _ _ _ _ _ h hj g
  · exact xMm1_mono hcs hcs1 _ _ _ _ _ _ _ _ h hj g
theorem xMm2_mono (hcs : ∀ q ∈ cs, ∀ t ∈ q.2.2.2, xMn t.2) (hcs1 : ∀ q ∈ cs1, ∀ t ∈ q.2.2.2, xMn t.2) (hcs2 : ∀ q ∈ cs2, xMn2 q.2.2.2) {Qx : Nat → xw → Prop} : bt_Mono (xMm2 ic sx lc cs cs1 cs2 Qx) := fun au i st w K K' J J' h hj g => xMm2_mono2 hcs hcs1 hcs2 (fun _ _ z => z) au i st w K K' J J' h hj g
def xDo2 (ic sx : List (Nat × Value)) (lc : List (Nat × Int64)) (cs cs1 : xCs) (cs2 : xCs2) (code : List bs_En) (rt : Option FieldType) (maxL : Nat) : xV2 := fun av w Qr Qx => match Nat.ble (bs_en1 av).length maxL with
  | true => bt_TC (xMm2 ic sx lc cs cs1 cs2 Qx) code rt Qr 0 (bs_ent maxL av) [] w
  | false => False
theorem bt_TC_mm {ω : Type} {mm mm' : List Nat → Instr → List Value → ω → (List Value → ω → Prop) → (List Value → ω → Prop) → Prop} (hm : bt_Mono mm) (h : ∀ au i st w K J, mm au i st w K J → mm' au i st w K J) {code : List bs_En} {rt : Option FieldType} {Qr : Option Value → ω → Prop} {pc : Nat} {ll : bs_Lo} {st : List Value} {w : ω} (g : bt_TC mm code rt Qr pc ll st w) : bt_TC mm' code rt Qr pc ll st w := by
  intro P hP
  refine g P (fun pc ll st w k => hP pc ll st w ?_)
  unfold bt_ST at *
  split at k
  · unfold bt_stp at *
    split at k
    all_goals first
      | exact k
      | exact h _ _ _ _ _ _ k
  · exact k
theorem xDo2_mn {code : List bs_En} {rt : Option FieldType} {maxL : Nat} (hcs : ∀ q ∈ cs, ∀ t ∈ q.2.2.2, xMn t.2) (hcs1 : ∀ q ∈ cs1, ∀ t ∈ q.2.2.2, xMn t.2) (hcs2 : ∀ q ∈ cs2, xMn2 q.2.2.2) : xMn2 (xDo2 ic sx lc cs cs1 cs2 code rt maxL) := by
  intro av w Qr Qr' Qx Qx' h hx g
  unfold xDo2 at *
  split at g
  · exact bt_TC_mono (xMm2_mono hcs hcs1 hcs2) h (bt_TC_mm (xMm2_mono hcs hcs1 hcs2) (fun au i st w K J k => xMm2_mono2 hcs hcs1 hcs2 hx au i st w K K J J (fun _ _ z => z) (fun _ _ z => z) k) g)
  · exact g
end
section XS2
variable {p : Program} {l : Launch} {e : Env} {R : Room} {s : State} {m : MethodId} {args : Array Value} {below : List Frame} {meth : Method} {c : Code} {nL : Nat} {Q : State → Prop} {D : va_G} {ar : Nat → ClassId} {od : Nat → Nat} {z : Nat} {A : Nat → Prop} {Ex : Heap → Prop} {cc : ByteArray} {own : String} {ic sx : List (Nat × Value)} {lc : List (Nat × Int64)} {cs cs1 : xCs} {cs2 : xCs2} {fl fp : List (Nat × Nat × Nat)} {ct nw nr : List (Nat × Nat)} {nm : List (Nat × Nat × Nat)} {n1 C0 S0 : Nat}
def xQc (D : va_G) (ar : Nat → ClassId) (od : Nat → Nat) (z : Nat) (A : Nat → Prop) (Ex : Heap → Prop) (n1 : Nat) (Qr : Option Value → xw → Prop) : Array Value → State → Outcome → State → Prop := fun _ st oc t => (∃ (r : Option Value) (w' : xw), oc = .returned (r.map (bs_cv (xAd od z))) ∧ (Qr r w' ∧ n1 ≤ xN w') ∧ xHp D ar od z A w' t.heap ∧ Ex t.heap) ∧ va_F A st t
def xXc (D : va_G) (ar : Nat → ClassId) (od : Nat → Nat) (z : Nat) (A : Nat → Prop) (Ex : Heap → Prop) (n1 : Nat) (Qx : Nat → xw → Prop) : Addr → String → State → State → Prop := fun q E st t => E = RX3 ∧ ∃ (a : Nat) (w' : xw), q = xAd od z a ∧ (xS w' a).1 = 4 ∧ (Qx a w' ∧ n1 ≤ xN w') ∧ xHp D ar od z A w' t.heap ∧ Ex t.heap ∧ va_F A st t
def xMet2 (l : Launch) (D : va_G) (ar : Nat → ClassId) (od : Nat → Nat) (z : Nat) (A : Nat → Prop) (Ex : Heap → Prop) (n1 : Nat) (y : MethodName) (cc : ByteArray) (maxL : Nat) (rt : Option FieldType) (fr lo : Nat) (V : xV2) : Prop :=
  ∀ (av : List Value) (w : xw) (Qr : Option Value → xw → Prop) (Qx : Nat → xw → Prop), vy_Met l y (ws_ y cc maxL rt) ({ frames := fr, cells := (xB w).1, slots := (xB w).2, locals := lo })
    (va_Pc (av.map (bs_cv (xAd od z))) (fun U => (V av w Qr Qx ∧ n1 ≤ xN w) ∧ xHp D ar od z A w U.heap ∧ Ex U.heap ∧ xEny D ar od z A U U.heap)) (xQc D ar od z A Ex n1 Qr) (xXc D ar od z A Ex n1 Qx) (xB w).1 (xB w).2 A
def xCallC (fr0 lo0 : Nat) (l : Launch) (D : va_G) (ar : Nat → ClassId) (od : Nat → Nat) (z : Nat) (A : Nat → Prop) (Ex : Heap → Prop) (n1 : Nat) (own : String) (q : Nat × Nat × Nat × xV2) : Prop :=
  ∃ (y : MethodName) (cc : ByteArray) (maxL : Nat) (rt : Option FieldType) (fr lo : Nat) (x : vw_C), xMet2 l D ar od z A Ex n1 y cc maxL rt fr lo q.2.2.2 ∧ (fr + 1 ≤ fr0 ∧ 8 + (maxL + 11) + lo ≤ lo0) ∧ Cond.code y cc maxL rt ∈ lw_all ∧ xCl[q.2.2.1]? = some x ∧ q.2.2.1 < 50 ∧ Cond.instanceMethod y ∈ lw_all ∧ Cond.methodLink own q.1 y ∈ lw_all ∧ Cond.selects x.1 y y ∈ lw_all ∧ Cond.initialized x.1 ∈ lw_all ∧ y.cls = x.1 ∧ y.cls ≠ "java/lang/invoke/MethodHandle" ∧ y.cls ≠ "java/lang/invoke/VarHandle" ∧ (parseMethodDescriptor y.desc).map (fun d => d.parameters.length) = some q.2.1
theorem xPre2 {V : xV2} {av : List Value} {w : xw} {Qr : Option Value → xw → Prop} {Qx : Nat → xw → Prop} {H : Heap} {locs : List Loc} (hS : va_S A s.heap H locs) (henv : xEny D ar od z A s s.heap) (hV : V av w Qr Qx) (hn : n1 ≤ xN w) (hH : xHp D ar od z A w H) (hE : Ex H) : PreS s H (va_Pc (av.map (bs_cv (xAd od z))) (fun U => (V av w Qr Qx ∧ n1 ≤ xN w) ∧ xHp D ar od z A w U.heap ∧ Ex U.heap ∧ xEny D ar od z A U U.heap)) (av.map (bs_cv (xAd od z))) :=
  ⟨fun a U g mk q => ⟨q.1, q.2.1, q.2.2.1, q.2.2.2.1, q.2.2.2.2.1.calling, xAy.moved (u := U) (U := U.calling g mk a) (Vm.Alike.refl U.vm) q.2.2.2.2.2⟩, fun U hU hW => ⟨rfl, ⟨hV, hn⟩, by rw [hU]; exact hH, by rw [hU]; exact hE, henv.1.moved hW (fun a h1 h2 => by rw [hU]; exact hS.2.1 a h1 h2), xAy.moved hW.alike henv.2⟩⟩
/-- the Fault's cell -/
theorem xFault {w : xw} {H : Heap} {a : Nat} (hK : va_K D xCl (xTys ar) s) (hH : xHp D ar od z A w H) (ha : (xS w a).1 = 4) : ∃ ce : Cell, H[xAd od z a]? = some ce ∧ ce.vm = .none ∧ s.vm.findClass RX3 = some ce.cls := by
  obtain ⟨r, h1, cell, q1, q2, q3, -⟩ := (hH.2.2 a _ (xCell_obj (c := 3) (by decide) ha)).1
  exact ⟨cell, q1, q3, by rw [q2]; exact (hK.1 3 _ rfl).2.1⟩
def xExc (au : List Nat) (P S : Prop) : Prop := match au with
  | [] => P
  | _ :: _ => S
def xThr (i : Instr) : Bool := match i with
  | .invokevirtual _ => true
  | .athrow => true
  | _ => false
set_option maxHeartbeats 4000000 in
theorem xMm2_ok (hx : p.tables.exec = Jvm.exec) (hb : c.code = cc) (hml : c.maxLocals = nL) (hown : s.vm.findClass own = some m.cls) (hts : ∀ w ∈ lw_all, w.before args s = true) (henv : xEny D ar od z A s s.heap) (hod : ∀ i, i < 256 → od i < z) (hEx : xEx z Ex) (hA : ∀ q, z + (n1 - 256) ≤ q → A q) (hC : R.cells = C0) (hS0 : R.slots = S0) (hRs : 1 ≤ R.frames ∧ 40 ≤ R.locals) {ini : Bool} (htb : xTb own fl fp ct ic sx lc ini) (htn : xTn own nw nr nm) (hini : ini = true → meth.name = "<init>") (hcs : ∀ q ∈ cs, ∀ t ∈ q.2.2.2, xCall0 R.frames R.locals l D ar od z A Ex own q.1 q.2.1 q.2.2.1 t ∧ xKp t.2) (hcs1 : ∀ q ∈ cs1, ∀ t ∈ q.2.2.2, xCallB R.frames R.locals l D ar od z A Ex n1 own q.1 q.2.1 q.2.2.1 t) (hcs2 : ∀ q ∈ cs2, xCallC R.frames R.locals l D ar od z A Ex n1 own q) {Qx : Nat → xw → Prop} {q : bs_En} (hq : xOkE3 fl fp ct ic sx lc q = true) (hqn : xOkN nw nr nm q = true) (hd : decode cc q.1 = .ok (q.2.1, q.2.2.1)) (hlen : bs_lenOk q.2.1 q.2.2.1 = true) (hau : bt_au q.1 q.2.1 q.2.2.2 = true) {ll : bs_Lo}
    (hexc : xThr q.2.1 = true → ∀ (H : Heap) (locs : List Loc) (ls : Array Slot) (k n : Nat) (rest : List Value) (a : Nat) (w : xw), xHw D ar od z A Ex (xBq n1 C0 S0) w H k n → va_S A s.heap H locs → bs_Lh (xAd od z) ls nL ll → (xS w a).1 = 4 → xExc q.2.2.2 (Qx a w) (bs_Sim p l e R s m args below meth c A s.heap (xAd od z) (xHw D ar od z A Ex (xBq n1 C0 S0)) nL Q (q.2.2.2.headD 0) ll [.ref a] w) → vy_W p l e R s m args below meth c H locs k n Q (F0 m q.1 ls rest) (xAd od z a))
    {st : List Value} {w : xw} {K J : List Value → xw → Prop} (h : xMm2 ic sx lc cs cs1 cs2 Qx q.2.2.2 q.2.1 st w K J)
    (hk : ∀ st' w', K st' w' → bs_Sim p l e R s m args below meth c A s.heap (xAd od z) (xHw D ar od z A Ex (xBq n1 C0 S0)) nL Q (q.1 + q.2.2.1) ll st' w') (hj : ∀ st' w', J st' w' → bs_Sim p l e R s m args below meth c A s.heap (xAd od z) (xHw D ar od z A Ex (xBq n1 C0 S0)) nL Q (q.2.2.2.headD 0) ll st' w') : bs_Sim p l e R s m args below meth c A s.heap (xAd od z) (xHw D ar od z A Ex (xBq n1 C0 S0)) nL Q q.1 ll st w := by
  have base : xMm1 ic sx lc cs cs1 q.2.2.2 q.2.1 st w K J → bs_Sim p l e R s m args below meth c A s.heap (xAd od z) (xHw D ar od z A Ex (xBq n1 C0 S0)) nL Q q.1 ll st w := fun h0 => xMm1_ok hx hb hml hown hts henv hod hEx hA hC hS0 hRs htb htn hini hcs hcs1 hq hqn hd hlen hau h0 hk hj
  obtain ⟨pc, i, len, au⟩ := q
  dsimp only at *
  unfold xMm2 at h
  split at h
  · obtain rfl : len = 1 := by simpa [bs_lenOk] using hlen
    split at h
    · rename_i a r
      obtain ⟨h1, h2⟩ := h
      split at h2
      · intro H locs ls k0 n0 hH hS hl
        exact vy_athrow hx hb hd (hexc rfl H locs ls k0 n0 _ a w hH hS hl h1 h2)
      · cases h2
    · cases h
  · rename_i ix
    obtain rfl : len = 3 := by simpa [bs_lenOk] using hlen
    split at h
    · rename_i n cn V hlk
      split at h
      · rename_i as a r hpop
        split at h
        · rename_i hcat
          have hcat := Nat.le_of_ble_eq_true hcat
          obtain ⟨ha, C, S, ⟨hC1, hS1⟩, hV⟩ := h
          obtain ⟨xs, e1, e2, e3⟩ := bs_pop_spec _ _ _ _ _ hpop
          rw [List.append_nil] at e1
          subst e1
          obtain ⟨y, yc, maxL, rt, fr, lo, x, hM, hR, hl2, hq9, hc50, hinst, hml2, hsel, hini2, hyc, hy⟩ := hcs2 _ (xLook2_mem hlk)
          dsimp only at hM hq9 hc50 hml2 hy
          rw [e2]
          intro H locs ls k0 n0 hH hS hl
          obtain ⟨hP, hE, hB⟩ := hH
          have hB1 := hB.2.1
          have hB2 := hB.2.2
          dsimp only at hB1 hB2
          rw [List.map_append, List.map_reverse]
          have hpre := xPre2 (n1 := n1) hS henv hV hB.1 (xHp_B hP (C, S)) hE
          have hrecv := xRecv henv.1.1.1 hP hc50 hq9 ha
          have hrun := vy_runV (e := e) (below := below) (meth := meth) (C := x.1) (b := xAd od z a) (As := as.map (bs_cv (xAd od z))) (rest := r.map (bs_cv (xAd od z))) (Ts := lw_all) (locs := locs) (cells := k0) (slots := n0) (g := F0 m pc ls ((as.map (bs_cv (xAd od z))).reverse ++ .ref (xAd od z a) :: r.map (bs_cv (xAd od z)))) ⟨hx, hb, hml, hown, hts⟩ (hM (.ref a :: as) (xSetB w (C, S)) _ _) (cwV n hts (lw_V hml2 hinst hsel hini2 hl2) rfl rfl rfl ⟨hyc, hy⟩ hR) ⟨hpre.1, hrecv, hpre.2⟩ rfl (by rw [List.length_map]; exact e3) hl.1 rfl (lv_room (xCats hcat)) hd ⟨by show k0 + C ≤ _; rw [hC]; omega, by show n0 + S ≤ _; rw [hS0]; omega⟩
          intro T hT X
          rcases hrun T hT X with ⟨v, st₀, t, T', L, h0, X', hL, f1, f2, ⟨⟨rr, w', hv, hp, hbb, hex⟩, hz, hkk⟩, stp⟩ | ⟨qq, st₀, t, T', L, E, ce, h0, X', hL, f1, f2, ⟨rfl, a9, w', rfl, ha9, hp, hbb, hex, hz, hkk⟩, hce, hcv, hcl, stp⟩
          · cases hv
            rw [h0] at hz hkk
            obtain ⟨t2, a1, b1⟩ := hk _ _ hp.1 T'.heap (locs ++ L) ls (k0 + C) (n0 + S) ⟨xHp_B (by rw [f1]; exact hbb) _, by rw [f1]; exact hex, hp.2, by show k0 + C + ((xB w).1 - C) ≤ C0; omega, by show n0 + S + ((xB w).2 - S) ≤ S0; omega⟩
              ⟨Nat.le_trans hS.1 (by rw [f1]; exact hz), fun q h1 h2 => by rw [f1, hkk q (Nat.lt_of_lt_of_le h1 hS.1) h2]; exact hS.2.1 q h1 h2, fun q hq => by
                rcases List.mem_append.mp hq with h | h
                · exact hS.2.2 q h
                · exact hL q h⟩ hl T' rfl X'
            refine ⟨t2, stp t2 ?_, b1⟩
            have e3 : (rr.toList ++ r).map (bs_cv (xAd od z)) = (rr.map (bs_cv (xAd od z))).toList ++ r.map (bs_cv (xAd od z)) := by
              cases rr <;> simp
            rw [e3] at a1
            exact a1
          · rw [h0] at hz hkk
            have hx9 : xExc au (Qx a9 (xSetB w' ((xB w).1 - C, (xB w).2 - S))) (bs_Sim p l e R s m args below meth c A s.heap (xAd od z) (xHw D ar od z A Ex (xBq n1 C0 S0)) nL Q (au.headD 0) ll [.ref a9] (xSetB w' ((xB w).1 - C, (xB w).2 - S))) := by
              have hp1 := hp.1
              unfold xExc
              split
              · exact hp1
              · exact hj _ _ hp1
            obtain ⟨t2, a1, b1⟩ := hexc rfl T'.heap (locs ++ L) ls (k0 + C) (n0 + S) (r.map (bs_cv (xAd od z))) a9 (xSetB w' ((xB w).1 - C, (xB w).2 - S)) ⟨xHp_B (by rw [f1]; exact hbb) _, by rw [f1]; exact hex, hp.2, by show k0 + C + ((xB w).1 - C) ≤ C0; omega, by show n0 + S + ((xB w).2 - S) ≤ S0; omega⟩
              ⟨Nat.le_trans hS.1 (by rw [f1]; exact hz), fun q h1 h2 => by rw [f1, hkk q (Nat.lt_of_lt_of_le h1 hS.1) h2]; exact hS.2.1 q h1 h2, fun q hq => by
                rcases List.mem_append.mp hq with h | h
                · exact hS.2.2 q h
                · exact hL q h⟩ hl ha9 hx9 T' rfl X'
            exact ⟨t2, stp.trans a1, b1⟩
        · cases h
      · cases h
    · exact base h
  · exact base h
end XS2
