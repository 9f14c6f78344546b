/-! a method that returns or throws: its contract out of bt_TC -/
set_option maxRecDepth 100000
/-- no handler is meant -/
def xOkX (q : bs_En) : Bool := !(xThr q.2.1) || q.2.2.2.isEmpty
section XOK2
variable {l : Launch} {D : va_G} {ar : Nat → ClassId} {od : Nat → Nat} {z : Nat} {A : Nat → Prop} {Ex : Heap → Prop} {cc : ByteArray} {own : String} {ic sx : List (Nat × Value)} {lc : List (Nat × Int64)} {cs cs1 : xCs} {cs2 : xCs2} {fl fp : List (Nat × Nat × Nat)} {ct nw nr : List (Nat × Nat)} {nm : List (Nat × Nat × Nat)} {n1 : Nat}
theorem xRet {p : Program} {e : Env} {R : Room} {s : State} {m : MethodId} {args : Array Value} {below : List Frame} {meth : Method} {c : Code} {rt : Option FieldType} {w' : xw} {Qr : Option Value → xw → Prop} {H : Heap} {locs : List Loc} {C S : Nat} (hx : p.tables.exec = Jvm.exec) (hb : c.code = cc) (hr : meth.sig.returnType = rt) (hlocks : meth.locks = false) {pc len : Nat} {i : Instr} {st : List Value} {ls : Array Slot} (h1 : decode cc pc = .ok (i, len)) (h2 : bs_lenOk i len = true) (h3 : bt_rt i rt st (fun v => Qr v w')) (hB0 : n1 ≤ xN w') (hP' : xHp D ar od z A w' H) (hE' : Ex H) (hS : va_S A s.heap H locs) : W p l e R s m args below meth c H locs C S (MQ below (xQc D ar od z A Ex n1 Qr) args s C S A) (F0 m pc ls (st.map (bs_cv (xAd od z)))) := by
  unfold bt_rt at h3
  split at h3
  · obtain rfl : len = 1 := by simpa [bs_lenOk] using h2
    split at h3
    · rename_i x
      obtain ⟨hn, hq'⟩ := h3
      unfold bs_nar at hn
      split at hn
      · exact W.iret (v := x) hx hb hr (fun t ht hW => ⟨⟨some (.int x), w', rfl, ⟨hq', hB0⟩, by rw [ht]; exact hP', by rw [ht]; exact hE'⟩, hS.F ht⟩) hS.2.2 h1
      · exact W.zret (v := x) hx hb hr hn (fun t ht hW => ⟨⟨some (.int x), w', rfl, ⟨hq', hB0⟩, by rw [ht]; exact hP', by rw [ht]; exact hE'⟩, hS.F ht⟩) hS.2.2 h1
      · cases hn
    · cases h3
  · obtain rfl : len = 1 := by simpa [bs_lenOk] using h2
    split at h3
    · rename_i x
      obtain ⟨rfl, hq'⟩ := h3
      exact W.lret (v := x) hx hb hr (fun t ht hW => ⟨⟨some (.long x), w', rfl, ⟨hq', hB0⟩, by rw [ht]; exact hP', by rw [ht]; exact hE'⟩, hS.F ht⟩) hS.2.2 h1
    · cases h3
  · obtain rfl : len = 1 := by simpa [bs_lenOk] using h2
    split at h3
    · rename_i x
      obtain ⟨⟨ty, rfl, hty⟩, hq'⟩ := h3
      exact W.aret (v := .ref (xAd od z x)) hx hb hr (by cases ty <;> first | exact Or.inl ⟨_, rfl⟩ | exact Or.inr ⟨_, rfl⟩ | (simp [FieldType.isReference] at hty)) (Or.inr ⟨_, rfl⟩) (fun t ht hW => ⟨⟨some (.ref x), w', rfl, ⟨hq', hB0⟩, by rw [ht]; exact hP', by rw [ht]; exact hE'⟩, hS.F ht⟩) hS.2.2 h1
    · cases h3
  · obtain rfl : len = 1 := by simpa [bs_lenOk] using h2
    split at h3
    · obtain ⟨rfl, hq'⟩ := h3
      exact W.vret hx hb hr (fun t ht hW => ⟨⟨none, w', rfl, ⟨hq', hB0⟩, by rw [ht]; exact hP', by rw [ht]; exact hE'⟩, hS.F ht⟩) hS.2.2 h1
    · cases h3
  · cases h3
set_option maxHeartbeats 1000000 in
theorem xOk2 {y : MethodName} {maxL fr lo : Nat} {rt : Option FieldType} {code : List bs_En} (hy : plainName y.cls = true) (hod : ∀ i, i < 256 → od i < z) (hEx : xEx z Ex) (hA : ∀ q, z + (n1 - 256) ≤ q → A q) (hcode : code.all (bt_okE cc maxL) = true) (hRs : 1 ≤ fr ∧ 40 ≤ lo) (hcode2 : code.all (xOkE3 fl fp ct ic sx lc) = true) (hcode3 : code.all (xOkN nw nr nm) = true) (hcode4 : code.all xOkX = true) (htb : xTb y.cls fl fp ct ic sx lc false) (htn : xTn y.cls nw nr nm) (hcs : ∀ q ∈ cs, ∀ t ∈ q.2.2.2, xCall0 fr lo l D ar od z A Ex y.cls q.1 q.2.1 q.2.2.1 t ∧ xKp t.2) (hcs1 : ∀ q ∈ cs1, ∀ t ∈ q.2.2.2, xCallB fr lo l D ar od z A Ex n1 y.cls q.1 q.2.1 q.2.2.1 t) (hcs2 : ∀ q ∈ cs2, xCallC fr lo l D ar od z A Ex n1 y.cls q) : xMet2 l D ar od z A Ex n1 y cc maxL rt fr lo (xDo2 ic sx lc cs cs1 cs2 code rt maxL) := by
  intro av w Qr Qx
  refine vy_ofW (cc := cc) (maxL := maxL) (ret := rt) hy rfl ?_
  intro p e s m args below meth c s₁ B hml hnoex hv
  obtain ⟨rfl, ⟨hV, hn1⟩, hP, hE, henv⟩ := hv
  have hx := B.exec
  have hb := B.bytes
  have hr := B.returns
  have hlocks := B.notSynchronized
  have hts := atoms_spec (ws := ws_ y cc maxL rt) B.pre
  have hts : ∀ w ∈ lw_all, w.before _ s = true := fun w h => hts w (List.mem_cons_of_mem _ h)
  have hown : s.vm.findClass y.cls = some m.cls := findClass_of_methodNamed B.named
  unfold xDo2 at hV
  split at hV
  · rename_i hle
    have hle := Nat.le_of_ble_eq_true hle
    rw [lg_entry_eq]
    refine bt_TC_ok (A := A) (H0 := s.heap) (ad := xAd od z) (Hw := xHw D ar od z A Ex (xBq n1 (xB w).1 (xB w).2)) (nL := maxL) hx hb hcode (fun q ll st w' K J hq h1 h2 h9 h3 h4 h5 => xMm2_ok (Qx := Qx) hx hb hml hown hts henv hod hEx hA rfl rfl hRs htb htn (fun h => nomatch h) hcs hcs1 hcs2 (List.all_eq_true.mp hcode2 q hq) (List.all_eq_true.mp hcode3 q hq) h1 h2 h9 ?_ h3 h4 h5) ?_ hV s.heap [] _ 0 0 ⟨hP, hE, hn1, by dsimp only; omega, by dsimp only; omega⟩ va_S.rf (bs_entry hle)
    · intro hthr H locs ls k n rest a w9 hH hS hl ha hx9
      obtain ⟨hP', hE', hB⟩ := hH
      have hB0 := hB.1
      have hB1 := hB.2.1
      have hB2 := hB.2.2
      dsimp only at hB0 hB1 hB2
      have hxo := List.all_eq_true.mp hcode4 q hq
      have hau0 : Qx a w9 := by
        unfold xOkX at hxo
        rw [hthr] at hxo
        have : q.2.2.2 = [] := by simpa using hxo
        rw [this] at hx9
        exact hx9
      obtain ⟨ce, c1, c2, c3⟩ := xFault henv.1.1.1 hP' ha
      exact vy_out (fun x hx => (hnoex x hx).elim) hlocks c1 c2 c3 (fun t ht hal => ⟨rfl, a, w9, rfl, ha, ⟨hau0, hB0⟩, by rw [ht]; exact hP', by rw [ht]; exact hE', hS.F ht⟩) hS.2.2 (by have h9 : k + (xB w9).1 ≤ (xB w).1 := hB1; omega) (by have h9 : n + (xB w9).2 ≤ (xB w).2 := hB2; omega)
    intro q ll st w' hq h1 h2 h3 H locs ls k0 n0 hH hS hl
    obtain ⟨hP', hE', hB⟩ := hH
    have hB0 := hB.1
    have hB1 := hB.2.1
    have hB2 := hB.2.2
    dsimp only at hB0 hB1 hB2
    refine W.widen (k := (xB w).1) (n := (xB w).2) (by omega) (by omega) ?_
    exact vy_ret (xRet hx hb hr hlocks h1 h2 h3 hB0 hP' hE' hS)
  · cases hV
end XOK2
