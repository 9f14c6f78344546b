/-! a method that may make cells: its contract out of bt_TC -/
set_option maxRecDepth 100000
/-- what may be made: (pool entry, class), (pool entry, kind), (pool entry, kinds) -/
def xTn (own : String) (nw nr : List (Nat × Nat)) (nm : List (Nat × Nat × Nat)) : Prop :=
  (∀ q ∈ nw, ∃ x : vw_C, xCl[q.2]? = some x ∧ q.2 < 50 ∧ Cond.classLink own q.1 x.1 ∈ lw_all ∧ Cond.instantiable x.1 x.2.2 ∈ lw_all ∧ Cond.initialized x.1 ∈ lw_all) ∧
  (∀ q ∈ nr, (∃ C : String, ((q.2 = 55 ∧ C = "java/lang/Object") ∨ (q.2 = 56 ∧ C = "BorderStones$State")) ∧ Cond.classLink own q.1 C ∈ lw_all ∧ C ∈ xAs) ∨ ((q.2 = 9000 ∨ q.2 = 9001) ∧ Cond.methodLink own q.1 arraycopyName ∈ lw_all) ∨ (q.2 = 9002 ∧ Cond.methodLink own q.1 ⟨"java/lang/Object", "getClass", "()Ljava/lang/Class;"⟩ ∈ lw_all) ∨ (q.2 = 9003 ∧ Cond.classLink own q.1 "[Ljava/lang/Object;" ∈ lw_all) ∨ (q.2 = 9005 ∧ Cond.methodLink own q.1 Lib.objectInit ∈ lw_all)) ∧
  (∀ q ∈ nm, ∃ ty : FieldType, ((q.2.1 = 58 ∧ q.2.2 = 51 ∧ ty = .int) ∨ (q.2.1 = 59 ∧ q.2.2 = 52 ∧ ty = .long)) ∧ Cond.classLink own q.1 ("[" ++ (FieldType.array ty).toString) ∈ lw_all)
def xOkN (nw nr : List (Nat × Nat)) (nm : List (Nat × Nat × Nat)) (q : bs_En) : Bool := match q.2.1 with
  | .new ix => match q.2.2.2 with
    | [cn] => nw.contains (ix, cn)
    | _ => true
  | .newarray t => !(Nat.beq (xAk t) 0)
  | .anewarray ix => match q.2.2.2 with
    | [kd] => nr.contains (ix, kd) && Nat.blt kd 9000
    | _ => true
  | .invokestatic ix => Nat.beq (xTag q.2.2.2) 0 || nr.contains (ix, q.2.2.2.headD 0)
  | .invokevirtual ix => Nat.beq (xTag q.2.2.2) 0 || nr.contains (ix, q.2.2.2.headD 0)
  | .ldc ix => Nat.beq (xTag q.2.2.2) 0 || nr.contains (ix, q.2.2.2.headD 0)
  | .invokespecial ix => Nat.beq (xTag q.2.2.2) 0 || nr.contains (ix, q.2.2.2.headD 0)
  | .multianewarray ix d => Nat.beq d 2 && (match q.2.2.2 with
    | [ko, ki] => nm.contains (ix, ko, ki)
    | _ => true)
  | _ => true
theorem xArrW : ∀ t : ArrayType, xAk t ≠ 0 → Cond.arrayClass (newarray.typeOf t) ∈ lw_all := by
  intro t h
  cases t with
  | int => exact q287
  | long => exact q288
  | char => exact q667
  | byte => exact q367
  | _ => exact absurd rfl h
section XOK1
variable {p : Program} {l : Launch} {e : Env} {R : Room} {s : State} {m : MethodId} {args : Array Value} {below : List Frame} {meth : Method} {c : Code} {nL : Nat} {Q : State → Prop} {D : va_G} {ar : Nat → ClassId} {od : Nat → Nat} {z : Nat} {A : Nat → Prop} {Ex : Heap → Prop} {cc : ByteArray} {own : String} {ic sx : List (Nat × Value)} {lc : List (Nat × Int64)} {cs cs1 : xCs} {fl fp : List (Nat × Nat × Nat)} {ct nw nr : List (Nat × Nat)} {nm : List (Nat × Nat × Nat)} {n1 C0 S0 : Nat}
def xBq (n1 C0 S0 : Nat) (b : Nat × Nat × Nat) (k n : Nat) : Prop := n1 ≤ b.1 ∧ k + b.2.1 ≤ C0 ∧ n + b.2.2 ≤ S0
theorem xPre1 {V : xV} {av : List Value} {w : xw} {Qr : Option Value → xw → Prop} {H : Heap} {locs : List Loc} (hS : va_S A s.heap H locs) (henv : xEny D ar od z A s s.heap) (hV : V av w Qr) (hn : n1 ≤ xN w) (hH : xHp D ar od z A w H) (hE : Ex H) : PreS s H (va_Pc (av.map (bs_cv (xAd od z))) (fun U => (V av w Qr ∧ n1 ≤ xN w) ∧ xHp D ar od z A w U.heap ∧ Ex U.heap ∧ xEny D ar od z A U U.heap)) (av.map (bs_cv (xAd od z))) :=
  ⟨fun a U g mk q => ⟨q.1, q.2.1, q.2.2.1, q.2.2.2.1, q.2.2.2.2.1.calling, xAy.moved (u := U) (U := U.calling g mk a) (Vm.Alike.refl U.vm) q.2.2.2.2.2⟩, fun U hU hW => ⟨rfl, ⟨hV, hn⟩, by rw [hU]; exact hH, by rw [hU]; exact hE, henv.1.moved hW (fun a h1 h2 => by rw [hU]; exact hS.2.1 a h1 h2), xAy.moved hW.alike henv.2⟩⟩
set_option maxHeartbeats 4000000 in
theorem xMm1a_ok (hx : p.tables.exec = Jvm.exec) (hb : c.code = cc) (hml : c.maxLocals = nL) (hown : s.vm.findClass own = some m.cls) (hts : ∀ w ∈ lw_all, w.before args s = true) (henv : xEny D ar od z A s s.heap) (hod : ∀ i, i < 256 → od i < z) (hEx : xEx z Ex) (hA : ∀ q, z + (n1 - 256) ≤ q → A q) (hC : R.cells = C0) (hS0 : R.slots = S0) {ini : Bool} (htb : xTb own fl fp ct ic sx lc ini) (htn : xTn own nw nr nm) (hini : ini = true → meth.name = "<init>") (hcs : ∀ q ∈ cs, ∀ t ∈ q.2.2.2, xCall0 R.frames R.locals l D ar od z A Ex own q.1 q.2.1 q.2.2.1 t ∧ xKp t.2) (hcs1 : ∀ q ∈ cs1, ∀ t ∈ q.2.2.2, xCallB R.frames R.locals l D ar od z A Ex n1 own q.1 q.2.1 q.2.2.1 t) {q : bs_En} (hq : xOkE fl fp ct ic sx lc q = true) (hqn : xOkN nw nr nm q = true) (hd : decode cc q.1 = .ok (q.2.1, q.2.2.1)) (hlen : bs_lenOk q.2.1 q.2.2.1 = true) (hau : bt_au q.1 q.2.1 q.2.2.2 = true) {ll : bs_Lo} {st : List Value} {w : xw} {K J : List Value → xw → Prop} (h : xMm1a ic sx lc cs cs1 q.2.2.2 q.2.1 st w K J)
    (hk : ∀ st' w', K st' w' → bs_Sim p l e R s m args below meth c A s.heap (xAd od z) (xHw D ar od z A Ex (xBq n1 C0 S0)) nL Q (q.1 + q.2.2.1) ll st' w') (hj : ∀ st' w', J st' w' → bs_Sim p l e R s m args below meth c A s.heap (xAd od z) (xHw D ar od z A Ex (xBq n1 C0 S0)) nL Q (q.2.2.2.headD 0) ll st' w') : bs_Sim p l e R s m args below meth c A s.heap (xAd od z) (xHw D ar od z A Ex (xBq n1 C0 S0)) nL Q q.1 ll st w := by
  have hBq : ∀ b k n, xBq n1 C0 S0 b k n → k ≤ R.cells ∧ n ≤ R.slots := fun b k n hB => ⟨by rw [hC]; have := hB.2.1; omega, by rw [hS0]; have := hB.2.2; omega⟩
  have base : xMm0 ic sx lc cs q.2.2.2 q.2.1 st w K J → bs_Sim p l e R s m args below meth c A s.heap (xAd od z) (xHw D ar od z A Ex (xBq n1 C0 S0)) nL Q q.1 ll st w := fun h0 => xMm0_ok hx hb hml hown hts henv.1 hod hEx hBq htb hini hcs hq hd hlen hau h0 hk hj
  obtain ⟨pc, i, len, au⟩ := q
  dsimp only at *
  have hAs : ∀ {w : xw} {H : Heap}, xHp D ar od z A w H → n1 ≤ xN w → ∀ q, H.size ≤ q → A q := fun hP hn q hq => hA q (by have := hP.1; omega)
  have call : ∀ (okk : Nat → Bool) (ix : Nat) (qq : Nat × Nat × List (Nat × xV)), xLook cs1 ix = some qq → xCall1 okk qq st w K → ∃ (as r : List Value) (a C S : Nat) (t : Nat × xV), okk qq.2.1 = true ∧ st = as.reverse ++ .ref a :: r ∧ as.length = qq.1 ∧ bs_cats r ≤ 8 ∧ (C ≤ (xB w).1 ∧ S ≤ (xB w).2) ∧ xCallB R.frames R.locals l D ar od z A Ex n1 own ix qq.1 qq.2.1 t ∧ (xS w a).1 = t.1 + 1 ∧ t.2 (.ref a :: as) (xSetB w (C, S)) (fun v w' => K (v.toList ++ r) (xSetB w' ((xB w).1 - C, (xB w).2 - S))) := by
    intro okk ix qq hlk hc
    unfold xCall1 at hc
    split at hc
    · rename_i hok
      split at hc
      · rename_i as a r hpop
        split at hc
        · rename_i hcat
          obtain ⟨C, S, h1, h2⟩ := hc
          obtain ⟨xs, e1, e2, e3⟩ := bs_pop_spec _ _ _ _ _ hpop
          rw [List.append_nil] at e1
          subst e1
          obtain ⟨t, ht, ha, hV⟩ := xDsj_inv _ h2
          exact ⟨as, r, a, C, S, t, hok, e2, e3, Nat.le_of_ble_eq_true hcat, h1, hcs1 _ (xLook_mem hlk) t ht, ha, hV⟩
        · cases hc
      · cases hc
    · cases hc
  unfold xMm1a at h
  split at h
  case h_1 ix =>
    obtain rfl : len = 3 := by simpa [bs_lenOk] using hlen
    split at h
    · rename_i cn
      obtain ⟨⟨h1, h2⟩, h3⟩ := h
      obtain ⟨x, g1, g2, g3, g4, g5⟩ := htn.1 _ (List.contains_iff_mem.mp hqn)
      intro H locs ls k0 n0 hH hS hl
      obtain ⟨hP, hE, hB⟩ := hH
      have hB1 := hB.2.1
      have hB2 := hB.2.2
      dsimp only at hB1 hB2
      refine xNewObj hx hb hts hown henv.1.1.1 hP hS (hAs hP hB.1 _ (Nat.le_refl _)) g2 g1 g3 g4 g5 (by rw [hC]; omega) (by rw [hS0]; show n0 + xNf cn ≤ S0; omega) hd (fun H' hP' hS' ho => hk _ _ h3 H' locs ls (k0 + 1) (n0 + xNf cn) ⟨hP', xEx_new hEx hP hE ho, Nat.le_succ_of_le hB.1, ?_, ?_⟩ hS' hl)
      · show k0 + 1 + ((xB w).1 - 1) ≤ C0; omega
      · show n0 + xNf cn + ((xB w).2 - xNf cn) ≤ S0; omega
    · cases h
  case h_2 t =>
    obtain rfl : len = 2 := by simpa [bs_lenOk] using hlen
    have ht : xAk t ≠ 0 := by
      intro h0
      simp [xOkN, h0] at hqn
    split at h
    · rename_i v r
      obtain ⟨⟨h0, h1, h2, h9⟩, h3⟩ := h
      intro H locs ls k0 n0 hH hS hl
      obtain ⟨hP, hE, hB⟩ := hH
      have hB1 := hB.2.1
      have hB2 := hB.2.2
      dsimp only at hB1 hB2
      refine xNewArr hx hb henv.1.1.1 hP hS (hAs hP hB.1 _ (Nat.le_refl _)) (hts _ (xArrW t ht)) ht h0 h9 (by rw [hC]; omega) (by rw [hS0]; omega) hd (fun H' hP' hS' ho => hk _ _ h3 H' locs ls (k0 + 1) (n0 + v.toNatClampNeg) ⟨hP', xEx_new hEx hP hE ho, Nat.le_succ_of_le hB.1, ?_, ?_⟩ hS' hl)
      · show k0 + 1 + ((xB w).1 - 1) ≤ C0; omega
      · show n0 + v.toNatClampNeg + ((xB w).2 - v.toNatClampNeg) ≤ S0; omega
    · cases h
  case h_3 ix =>
    obtain rfl : len = 3 := by simpa [bs_lenOk] using hlen
    split at h
    · rename_i kd
      have hqn : (nr.contains (ix, kd) && Nat.blt kd 9000) = true := hqn
      rw [Bool.and_eq_true] at hqn
      have hkd9 : kd < 9000 := Nat.le_of_ble_eq_true hqn.2
      obtain ⟨CC, g1, g2, g3⟩ := (htn.2.1 _ (List.contains_iff_mem.mp hqn.1)).resolve_right (by dsimp only; omega)
      split at h
      · rename_i v r
        obtain ⟨⟨h0, h1, h2, h9⟩, h3⟩ := h
        intro H locs ls k0 n0 hH hS hl
        obtain ⟨hP, hE, hB⟩ := hH
        have hB1 := hB.2.1
        have hB2 := hB.2.2
        dsimp only at hB1 hB2
        refine xNewRef hx hb hts hown henv.1.1.1 hP hS (hAs hP hB.1 _ (Nat.le_refl _)) g1 g2 (henv.1.1.2.2.2 _ g3) h0 h9 (by rw [hC]; omega) (by rw [hS0]; omega) hd (fun H' hP' hS' ho => hk _ _ h3 H' locs ls (k0 + 1) (n0 + v.toNatClampNeg) ⟨hP', xEx_new hEx hP hE ho, Nat.le_succ_of_le hB.1, ?_, ?_⟩ hS' hl)
        · show k0 + 1 + ((xB w).1 - 1) ≤ C0; omega
        · show n0 + v.toNatClampNeg + ((xB w).2 - v.toNatClampNeg) ≤ S0; omega
      · cases h
    · cases h
  case h_4 ix d =>
    obtain rfl : len = 4 := by simpa [bs_lenOk] using hlen
    simp only [xOkN, Bool.and_eq_true] at hqn
    obtain ⟨hd2, hqn⟩ := hqn
    obtain rfl := Nat.eq_of_beq_eq_true hd2
    split at h
    · rename_i ko ki
      obtain ⟨ty, g1, g2⟩ := htn.2.2 _ (List.contains_iff_mem.mp hqn)
      have hty : ty ∈ [FieldType.int, FieldType.long] := by rcases g1 with ⟨-, -, rfl⟩ | ⟨-, -, rfl⟩ <;> simp
      have hac : Cond.arrayClass ty ∈ lw_all := by
        rcases g1 with ⟨-, -, rfl⟩ | ⟨-, -, rfl⟩
        · exact q287
        · exact q288
      split at h
      · rename_i u v r
        obtain ⟨⟨h0, h00, h1, h2, h9, h99⟩, h3⟩ := h
        intro H locs ls k0 n0 hH hS hl
        obtain ⟨hP, hE, hB⟩ := hH
        have hB1 := hB.2.1
        have hB2 := hB.2.2
        dsimp only at hB1 hB2
        refine xNewMul hx hb hts hown henv.1.1.1 hP hS (hAs hP hB.1) g1 (hts _ g2) (henv.2 ty hty) (hts _ hac) h0 h00 h9 h99 (by rw [hC]; omega) (by rw [hS0]; omega) hd (fun H' hP' hS' ho => hk _ _ h3 H' locs ls (k0 + 1 + v.toNatClampNeg) (n0 + v.toNatClampNeg + v.toNatClampNeg * u.toNatClampNeg) ⟨hP', xEx_new hEx hP hE ho, ?_, ?_, ?_⟩ hS' hl)
        · show n1 ≤ xN w + 1 + v.toNatClampNeg; have := hB.1; dsimp only at this; omega
        · show k0 + 1 + v.toNatClampNeg + ((xB w).1 - (1 + v.toNatClampNeg)) ≤ C0; omega
        · show n0 + v.toNatClampNeg + v.toNatClampNeg * u.toNatClampNeg + ((xB w).2 - (v.toNatClampNeg + v.toNatClampNeg * u.toNatClampNeg)) ≤ S0; omega
      · cases h
    · cases h
  case h_5 ix =>
    obtain rfl : len = 3 := by simpa [bs_lenOk] using hlen
    split at h
    · rename_i qq hlk
      obtain ⟨as, r, a, C, S, t, hok, rfl, e3, hcat, ⟨hC1, hS1⟩, hcb, ha, hV⟩ := call _ _ _ hlk h
      obtain ⟨y, yc, maxL, rt, fr, lo, hM, hR, hl2, hini2, hlk2⟩ := hcb
      have hk1 := Nat.eq_of_beq_eq_true hok
      rw [hk1] at hlk2
      intro H locs ls k0 n0 hH hS hl
      obtain ⟨hP, hE, hB⟩ := hH
      have hB1 := hB.2.1
      have hB2 := hB.2.2
      dsimp only at hB1 hB2
      rw [List.map_append, List.map_reverse]
      refine xRnB_go (rest := r) (f := fun w' => xSetB w' ((xB w).1 - C, (xB w).2 - S)) (xGo_virt hx hb hml hown hts henv.1 hl (xHp_B hP (C, S)) ha (hM (.ref a :: as) (xSetB w (C, S)) _) (xPre1 hS henv hV hB.1 (xHp_B hP (C, S)) hE) hR hl2 hini2 hlk2 hd e3 hcat ⟨by show k0 + C ≤ _; rw [hC]; omega, by show n0 + S ≤ _; rw [hS0]; omega⟩) hS hl (fun w H h => xHp_B h _) (fun v w' h => ⟨h.2, ?_, ?_⟩) (fun v w' h => hk _ _ h.1)
      · show k0 + C + ((xB w).1 - C) ≤ C0; omega
      · show n0 + S + ((xB w).2 - S) ≤ S0; omega
    · exact base h
  case h_6 ix cnt =>
    obtain rfl : len = 5 := by simpa [bs_lenOk] using hlen
    split at h
    · rename_i qq hlk
      obtain ⟨as, r, a, C, S, t, hok, rfl, e3, hcat, ⟨hC1, hS1⟩, hcb, ha, hV⟩ := call _ _ _ hlk h
      obtain ⟨y, yc, maxL, rt, fr, lo, hM, hR, hl2, hini2, hlk2⟩ := hcb
      have hk1 := Nat.eq_of_beq_eq_true hok
      rw [hk1] at hlk2
      intro H locs ls k0 n0 hH hS hl
      obtain ⟨hP, hE, hB⟩ := hH
      have hB1 := hB.2.1
      have hB2 := hB.2.2
      dsimp only at hB1 hB2
      rw [List.map_append, List.map_reverse]
      refine xRnB_go (rest := r) (f := fun w' => xSetB w' ((xB w).1 - C, (xB w).2 - S)) (xGo_face hx hb hml hown hts henv.1 hl (xHp_B hP (C, S)) ha (hM (.ref a :: as) (xSetB w (C, S)) _) (xPre1 hS henv hV hB.1 (xHp_B hP (C, S)) hE) hR hl2 hini2 hlk2 hd e3 hcat ⟨by show k0 + C ≤ _; rw [hC]; omega, by show n0 + S ≤ _; rw [hS0]; omega⟩) hS hl (fun w H h => xHp_B h _) (fun v w' h => ⟨h.2, ?_, ?_⟩) (fun v w' h => hk _ _ h.1)
      · show k0 + C + ((xB w).1 - C) ≤ C0; omega
      · show n0 + S + ((xB w).2 - S) ≤ S0; omega
    · exact base h
  case h_7 ix =>
    obtain rfl : len = 3 := by simpa [bs_lenOk] using hlen
    split at h
    · rename_i qq hlk
      obtain ⟨as, r, a, C, S, t, hok, rfl, e3, hcat, ⟨hC1, hS1⟩, hcb, ha, hV⟩ := call _ _ _ hlk h
      obtain ⟨y, yc, maxL, rt, fr, lo, hM, hR, hl2, hini2, hlk2⟩ := hcb
      have hk1 := Nat.le_of_ble_eq_true hok
      intro H locs ls k0 n0 hH hS hl
      obtain ⟨hP, hE, hB⟩ := hH
      have hB1 := hB.2.1
      have hB2 := hB.2.2
      dsimp only at hB1 hB2
      rw [List.map_append, List.map_reverse]
      refine xRnB_go (rest := r) (f := fun w' => xSetB w' ((xB w).1 - C, (xB w).2 - S)) (xGo_special hx hb hml hown hts henv.1 hl (xHp_B hP (C, S)) ha (hM (.ref a :: as) (xSetB w (C, S)) _) (xPre1 hS henv hV hB.1 (xHp_B hP (C, S)) hE) hR hl2 hini2 hlk2 hk1 hd e3 hcat ⟨by show k0 + C ≤ _; rw [hC]; omega, by show n0 + S ≤ _; rw [hS0]; omega⟩) hS hl (fun w H h => xHp_B h _) (fun v w' h => ⟨h.2, ?_, ?_⟩) (fun v w' h => hk _ _ h.1)
      · show k0 + C + ((xB w).1 - C) ≤ C0; omega
      · show n0 + S + ((xB w).2 - S) ≤ S0; omega
    · exact base h
  case h_8 ix =>
    obtain rfl : len = 3 := by simpa [bs_lenOk] using hlen
    split at h
    · rename_i n t hlk
      split at h
      · rename_i as r hpop
        split at h
        · rename_i hcat
          have hcat := Nat.le_of_ble_eq_true hcat
          obtain ⟨C, S, ⟨hC1, hS1⟩, hV⟩ := h
          obtain ⟨xs, e1, e2, e3⟩ := bs_pop_spec _ _ _ _ _ hpop
          rw [List.append_nil] at e1
          subst e1
          obtain ⟨y, yc, maxL, rt, fr, lo, hM, hR, hl2, hini2, hlk2⟩ := hcs1 _ (xLook_mem hlk) t List.mem_cons_self
          rw [e2]
          intro H locs ls k0 n0 hH hS hl
          obtain ⟨hP, hE, hB⟩ := hH
          have hB1 := hB.2.1
          have hB2 := hB.2.2
          dsimp only at hB1 hB2
          rw [List.map_append, List.map_reverse]
          refine xRnB_go (rest := r) (f := fun w' => xSetB w' ((xB w).1 - C, (xB w).2 - S)) (xGo_static hx hb hml hown hts henv.1 hl (hM as (xSetB w (C, S)) _) (xPre1 hS henv hV hB.1 (xHp_B hP (C, S)) hE) hR hl2 hini2 hlk2 hd e3 hcat ⟨by show k0 + C ≤ _; rw [hC]; omega, by show n0 + S ≤ _; rw [hS0]; omega⟩) hS hl (fun w H h => xHp_B h _) (fun v w' h => ⟨h.2, ?_, ?_⟩) (fun v w' h => hk _ _ h.1)
          · show k0 + C + ((xB w).1 - C) ≤ C0; omega
          · show n0 + S + ((xB w).2 - S) ≤ S0; omega
        · cases h
      · cases h
    · cases h
    · exact base h
  case h_9 => exact base h
def xOkE3 (fl fp : List (Nat × Nat × Nat)) (ct : List (Nat × Nat)) (ic sx : List (Nat × Value)) (lc : List (Nat × Int64)) (q : bs_En) : Bool := !(Nat.beq (xTag q.2.2.2) 0) || xOkE fl fp ct ic sx lc q
set_option maxHeartbeats 4000000 in
theorem xMm1_ok (hx : p.tables.exec = Jvm.exec) (hb : c.code = cc) (hml : c.maxLocals = nL) (hown : s.vm.findClass own = some m.cls) (hts : ∀ w ∈ lw_all, w.before args s = true) (henv : xEny D ar od z A s s.heap) (hod : ∀ i, i < 256 → od i < z) (hEx : xEx z Ex) (hA : ∀ q, z + (n1 - 256) ≤ q → A q) (hC : R.cells = C0) (hS0 : R.slots = S0) (hRs : 1 ≤ R.frames ∧ 40 ≤ R.locals) {ini : Bool} (htb : xTb own fl fp ct ic sx lc ini) (htn : xTn own nw nr nm) (hini : ini = true → meth.name = "<init>") (hcs : ∀ q ∈ cs, ∀ t ∈ q.2.2.2, xCall0 R.frames R.locals l D ar od z A Ex own q.1 q.2.1 q.2.2.1 t ∧ xKp t.2) (hcs1 : ∀ q ∈ cs1, ∀ t ∈ q.2.2.2, xCallB R.frames R.locals l D ar od z A Ex n1 own q.1 q.2.1 q.2.2.1 t) {q : bs_En} (hq : xOkE3 fl fp ct ic sx lc q = true) (hqn : xOkN nw nr nm q = true) (hd : decode cc q.1 = .ok (q.2.1, q.2.2.1)) (hlen : bs_lenOk q.2.1 q.2.2.1 = true) (hau : bt_au q.1 q.2.1 q.2.2.2 = true) {ll : bs_Lo} {st : List Value} {w : xw} {K J : List Value → xw → Prop} (h : xMm1 ic sx lc cs cs1 q.2.2.2 q.2.1 st w K J)
    (hk : ∀ st' w', K st' w' → bs_Sim p l e R s m args below meth c A s.heap (xAd od z) (xHw D ar od z A Ex (xBq n1 C0 S0)) nL Q (q.1 + q.2.2.1) ll st' w') (hj : ∀ st' w', J st' w' → bs_Sim p l e R s m args below meth c A s.heap (xAd od z) (xHw D ar od z A Ex (xBq n1 C0 S0)) nL Q (q.2.2.2.headD 0) ll st' w') : bs_Sim p l e R s m args below meth c A s.heap (xAd od z) (xHw D ar od z A Ex (xBq n1 C0 S0)) nL Q q.1 ll st w := by
  unfold xMm1 at h
  split at h
  · rename_i ht
    unfold xOkE3 at hq
    rw [ht] at hq
    exact xMm1a_ok hx hb hml hown hts henv hod hEx hA hC hS0 htb htn hini hcs hcs1 (by simpa using hq) hqn hd hlen hau h hk hj
  rename_i t0 ht
  have hhd : q.2.2.2.headD 0 = 9000 + t0 := by
    unfold xTag at ht
    split at ht
    · rename_i hb9
      have := Nat.le_of_ble_eq_true hb9
      omega
    · cases ht
  have hnt : Nat.beq (xTag q.2.2.2) 0 = false := by rw [ht]; rfl
  obtain ⟨pc, i, len, au⟩ := q
  dsimp only at *
  have hz : z ≤ z := Nat.le_refl z
  unfold xSpm at h
  split at h
  · rename_i e9
    split at h
    rotate_left
    · exact h.elim
    rename_i ix
    obtain rfl : len = 3 := by simpa [bs_lenOk] using hlen
    have hm : (ix, au.headD 0) ∈ nr := by
      have : (Nat.beq (xTag au) 0 || nr.contains (ix, au.headD 0)) = true := hqn
      rw [hnt, Bool.false_or] at this
      exact List.contains_iff_mem.mp this
    have hl9 : Cond.methodLink own ix arraycopyName ∈ lw_all := by
      rcases htn.2.1 _ hm with h9 | h9 | h9 | h9 | h9
      · obtain ⟨C, h9, -⟩ := h9
        dsimp only at h9
        omega
      · exact h9.2
      · have := h9.1; dsimp only at this; omega
      · have := h9.1; dsimp only at this; omega
      · have := h9.1; dsimp only at this; omega
    split at h
    rotate_left
    · exact h.elim
    rename_i v dp d sp a r
    obtain ⟨⟨h1, h2, h3, h4⟩, ⟨g1, g2, g3, g4, g5⟩, hf, hK⟩ := h
    intro H locs ls k0 n0 hH hS hl
    obtain ⟨hP, hE, hB⟩ := hH
    refine xCopyB hx hb (by rw [hml]; exact hl.1.symm) hown (hts _ hl9) (hts _ q915) (hts _ q914) (hts _ q164) henv.1.1.1 hod hP hS h1 h2 h3 g1 g2 g3 g4 g5 hf hRs.1 (by have := xCats (od := od) (z := z) h4; omega) hd (fun H' locs' hP' hS' ho => hk _ _ hK H' locs' ls k0 n0 ⟨hP', hEx H H' hE (fun q hq => ho q (fun e => by have := xAd_z (od := od) (z := z) h3; omega)), hB⟩ hS' hl)
  · rename_i e9
    split at h
    rotate_left
    · exact h.elim
    rename_i ix
    obtain rfl : len = 3 := by simpa [bs_lenOk] using hlen
    have hm : (ix, au.headD 0) ∈ nr := by
      have : (Nat.beq (xTag au) 0 || nr.contains (ix, au.headD 0)) = true := hqn
      rw [hnt, Bool.false_or] at this
      exact List.contains_iff_mem.mp this
    have hl9 : Cond.methodLink own ix arraycopyName ∈ lw_all := by
      rcases htn.2.1 _ hm with h9 | h9 | h9 | h9 | h9
      · obtain ⟨C, h9, -⟩ := h9
        dsimp only at h9
        omega
      · exact h9.2
      · have := h9.1; dsimp only at this; omega
      · have := h9.1; dsimp only at this; omega
      · have := h9.1; dsimp only at this; omega
    split at h
    rotate_left
    · exact h.elim
    rename_i v dp d sp a r
    obtain ⟨⟨h1, h2, h3, h4⟩, ⟨g1, g2, g3, g4, g5⟩, hf, hK⟩ := h
    intro H locs ls k0 n0 hH hS hl
    obtain ⟨hP, hE, hB⟩ := hH
    refine xCopyR hx hb (by rw [hml]; exact hl.1.symm) hown (hts _ hl9) (hts _ q915) (hts _ q914) (hts _ q164) henv.1.1.1 henv.1.1.2.1 hod hP hS h1 h2 h3 g1 g2 g3 g4 g5 hf hRs.1 (by have := xCats (od := od) (z := z) h4; omega) hd (fun H' locs' hP' hS' ho => hk _ _ hK H' locs' ls k0 n0 ⟨hP', hEx H H' hE (fun q hq => ho q (fun e => by have := xAd_z (od := od) (z := z) h3; omega)), hB⟩ hS' hl)
  · rename_i e9
    split at h
    rotate_left
    · exact h.elim
    rename_i ix
    obtain rfl : len = 3 := by simpa [bs_lenOk] using hlen
    have hm : (ix, au.headD 0) ∈ nr := by
      have : (Nat.beq (xTag au) 0 || nr.contains (ix, au.headD 0)) = true := hqn
      rw [hnt, Bool.false_or] at this
      exact List.contains_iff_mem.mp this
    have hl9 : Cond.methodLink own ix ⟨"java/lang/Object", "getClass", "()Ljava/lang/Class;"⟩ ∈ lw_all := by
      rcases htn.2.1 _ hm with h9 | h9 | h9 | h9 | h9
      · obtain ⟨C, h9, -⟩ := h9
        dsimp only at h9
        omega
      · have := h9.1; dsimp only at this; omega
      · exact h9.2
      · have := h9.1; dsimp only at this; omega
      · have := h9.1; dsimp only at this; omega
    split at h
    rotate_left
    · exact h.elim
    rename_i a r
    obtain ⟨⟨h1, h4⟩, hK⟩ := h
    intro H locs ls k0 n0 hH hS hl
    have hH0 := hH
    obtain ⟨hP, hE, hB⟩ := hH
    exact xGetC hx hb (by rw [hml]; exact hl.1.symm) hts henv.1.1.2.1 hown (hts _ hl9) henv.1.1.1 henv.1.2.2.2.2.1 hP h1 hRs.1 (by have := xCats (od := od) (z := z) h4; omega) hd (hk _ _ hK H locs ls k0 n0 hH0 hS hl)
  · rename_i e9
    split at h
    rotate_left
    · exact h.elim
    rename_i ix
    obtain rfl : len = 2 := by simpa [bs_lenOk] using hlen
    have hm : (ix, au.headD 0) ∈ nr := by
      have : (Nat.beq (xTag au) 0 || nr.contains (ix, au.headD 0)) = true := hqn
      rw [hnt, Bool.false_or] at this
      exact List.contains_iff_mem.mp this
    have hl9 : Cond.classLink own ix "[Ljava/lang/Object;" ∈ lw_all := by
      rcases htn.2.1 _ hm with h9 | h9 | h9 | h9 | h9
      · obtain ⟨C, h9, -⟩ := h9
        dsimp only at h9
        omega
      · have := h9.1; dsimp only at this; omega
      · have := h9.1; dsimp only at this; omega
      · exact h9.2
      · have := h9.1; dsimp only at this; omega
    intro H locs ls k0 n0 hH hS hl
    exact va_ldcM hx hb hown (hts _ hl9) henv.1.2.2.2.2.1 hd (hk _ _ h H locs ls k0 n0 hH hS hl)
  · rename_i e9
    split at h
    rotate_left
    · exact h.elim
    obtain rfl : len = 1 := by simpa [bs_lenOk] using hlen
    split at h
    rotate_left
    · exact h.elim
    rename_i v j a r
    obtain ⟨⟨h1, h2, h3, h4⟩, hK⟩ := h
    intro H locs ls k0 n0 hH hS hl
    obtain ⟨hP, hE, hB⟩ := hH
    exact xAastO hx hb henv.1.1.1 henv.1.1.2.1 hod hP hS h1 h2 h3 h4 hd (fun H' locs' hP' hS' ho => hk _ _ hK H' locs' ls k0 n0 ⟨hP', hEx H H' hE (fun q hq => ho q (fun e => by have := xAd_z (od := od) (z := z) h2; omega)), hB⟩ hS' hl)
  · rename_i e9
    split at h
    rotate_left
    · exact h.elim
    rename_i ix
    obtain rfl : len = 3 := by simpa [bs_lenOk] using hlen
    have hm : (ix, au.headD 0) ∈ nr := by
      have : (Nat.beq (xTag au) 0 || nr.contains (ix, au.headD 0)) = true := hqn
      rw [hnt, Bool.false_or] at this
      exact List.contains_iff_mem.mp this
    have hl9 : Cond.methodLink own ix Lib.objectInit ∈ lw_all := by
      rcases htn.2.1 _ hm with h9 | h9 | h9 | h9 | h9
      · obtain ⟨C, h9, -⟩ := h9
        dsimp only at h9
        omega
      · have := h9.1; dsimp only at this; omega
      · have := h9.1; dsimp only at this; omega
      · have := h9.1; dsimp only at this; omega
      · exact h9.2
    split at h
    rotate_left
    · exact h.elim
    rename_i a r
    obtain ⟨h4, hK⟩ := h
    intro H locs ls k0 n0 hH hS hl
    exact W.objInit hx hb hown (hts _ hl9) (hts _ q187) (hts _ q188) rfl (by rw [hml]; exact hl.1) rfl hd hRs.1 (by show 2 * 0 + _ + 12 ≤ _; have := xCats (od := od) (z := z) h4; omega) (hk _ _ hK H locs ls k0 n0 hH hS hl)
  · exact h.elim
set_option maxHeartbeats 1000000 in
theorem xOk1 {y : MethodName} {maxL fr lo : Nat} {rt : Option FieldType} {code : List bs_En} (hy : plainFor y = true) (hod : ∀ i, i < 256 → od i < z) (hEx : xEx z Ex) (hA : ∀ q, z + (n1 - 256) ≤ q → A q) (hcode : code.all (bt_okE cc maxL) = true) (hRs : 1 ≤ fr ∧ 40 ≤ lo) (hcode2 : code.all (xOkE3 fl fp ct ic sx lc) = true) (hcode3 : code.all (xOkN nw nr nm) = true) {ini : Bool} (htb : xTb y.cls fl fp ct ic sx lc ini) (htn : xTn y.cls nw nr nm) (hnm : ini = true → y.name = "<init>") (hcs : ∀ q ∈ cs, ∀ t ∈ q.2.2.2, xCall0 fr lo l D ar od z A Ex y.cls q.1 q.2.1 q.2.2.1 t ∧ xKp t.2) (hcs1 : ∀ q ∈ cs1, ∀ t ∈ q.2.2.2, xCallB fr lo l D ar od z A Ex n1 y.cls q.1 q.2.1 q.2.2.1 t) : xMet1 l D ar od z A Ex n1 y cc maxL rt fr lo (xDo1 ic sx lc cs cs1 code rt maxL) := by
  intro av w Qr
  refine xOfWF (cc := cc) (maxL := maxL) (ret := rt) hy rfl ?_
  intro p e s m args below meth c s₁ B hml hv
  obtain ⟨rfl, ⟨hV, hn1⟩, hP, hE, henv⟩ := hv
  have hx := B.exec
  have hb := B.bytes
  have hr := B.returns
  have hlocks := B.notSynchronized
  have hts := atoms_spec (ws := ws_ y cc maxL rt) B.pre
  have hts : ∀ w ∈ lw_all, w.before _ s = true := fun w h => hts w (List.mem_cons_of_mem _ h)
  have hown : s.vm.findClass y.cls = some m.cls := findClass_of_methodNamed B.named
  unfold xDo1 at hV
  split at hV
  · rename_i hle
    have hle := Nat.le_of_ble_eq_true hle
    rw [lg_entry_eq]
    refine bt_TC_ok (A := A) (H0 := s.heap) (ad := xAd od z) (Hw := xHw D ar od z A Ex (xBq n1 (xB w).1 (xB w).2)) (nL := maxL) hx hb hcode (fun q ll st w' K J hq h1 h2 h9 h3 h4 h5 => xMm1_ok hx hb hml hown hts henv hod hEx hA rfl rfl hRs htb htn (fun h => (name_of_methodNamed B.named B.method).1.trans (hnm h)) hcs hcs1 (List.all_eq_true.mp hcode2 q hq) (List.all_eq_true.mp hcode3 q hq) h1 h2 h9 h3 h4 h5) ?_ hV s.heap [] _ 0 0 ⟨hP, hE, hn1, by dsimp only; omega, by dsimp only; omega⟩ va_S.rf (bs_entry hle)
    intro q ll st w' hq h1 h2 h3 H locs ls k0 n0 hH hS hl
    obtain ⟨pc, i, len, au⟩ := q
    dsimp only at *
    obtain ⟨hP', hE', hB⟩ := hH
    have hB0 := hB.1
    have hB1 := hB.2.1
    have hB2 := hB.2.2
    dsimp only at hB0 hB1 hB2
    refine W.widen (k := (xB w).1) (n := (xB w).2) (by omega) (by omega) ?_
    unfold bt_rt at h3
    split at h3
    · obtain rfl : len = 1 := by simpa [bs_lenOk] using h2
      split at h3
      · rename_i x
        obtain ⟨hn, hq'⟩ := h3
        unfold bs_nar at hn
        split at hn
        · exact W.iret (v := x) hx hb hr (fun t ht hW => ⟨⟨some (.int x), w', rfl, ⟨hq', hB0⟩, by rw [ht]; exact hP', by rw [ht]; exact hE'⟩, hS.F ht⟩) hS.2.2 h1
        · exact W.zret (v := x) hx hb hr hn (fun t ht hW => ⟨⟨some (.int x), w', rfl, ⟨hq', hB0⟩, by rw [ht]; exact hP', by rw [ht]; exact hE'⟩, hS.F ht⟩) hS.2.2 h1
        · cases hn
      · cases h3
    · obtain rfl : len = 1 := by simpa [bs_lenOk] using h2
      split at h3
      · rename_i x
        obtain ⟨rfl, hq'⟩ := h3
        exact W.lret (v := x) hx hb hr (fun t ht hW => ⟨⟨some (.long x), w', rfl, ⟨hq', hB0⟩, by rw [ht]; exact hP', by rw [ht]; exact hE'⟩, hS.F ht⟩) hS.2.2 h1
      · cases h3
    · obtain rfl : len = 1 := by simpa [bs_lenOk] using h2
      split at h3
      · rename_i x
        obtain ⟨⟨ty, rfl, hty⟩, hq'⟩ := h3
        exact W.aret (v := .ref (xAd od z x)) hx hb hr (by cases ty <;> first | exact Or.inl ⟨_, rfl⟩ | exact Or.inr ⟨_, rfl⟩ | (simp [FieldType.isReference] at hty)) (Or.inr ⟨_, rfl⟩) (fun t ht hW => ⟨⟨some (.ref x), w', rfl, ⟨hq', hB0⟩, by rw [ht]; exact hP', by rw [ht]; exact hE'⟩, hS.F ht⟩) hS.2.2 h1
      · cases h3
    · obtain rfl : len = 1 := by simpa [bs_lenOk] using h2
      split at h3
      · obtain ⟨rfl, hq'⟩ := h3
        exact W.vret hx hb hr (fun t ht hW => ⟨⟨none, w', rfl, ⟨hq', hB0⟩, by rw [ht]; exact hP', by rw [ht]; exact hE'⟩, hS.F ht⟩) hS.2.2 h1
      · cases h3
    · cases h3
  · cases hV
end XOK1
