/-! its steps hold in the kit's W -/
set_option maxRecDepth 100000
theorem bt_lsw_at {pc : Nat} {x : Int32} {d : Int} {dt : Nat} {P : Nat → Prop} (ps : List (Int × Int)) : ∀ (ts : List Nat), (pc : Int) + d = (dt : Int) → ps.map (fun q => (pc : Int) + q.2) = ts.map (fun (t : Nat) => (t : Int)) → (∀ q ∈ ps, (Int32.ofInt q.1).toInt = q.1) → bt_lsw x (ps.map (fun q => q.1)) ts (P dt) P → ∃ (off : Int) (tgt : Nat), Op.lookupswitch.offset ps d x.toInt = off ∧ (pc : Int) + off = (tgt : Int) ∧ P tgt := by
  induction ps with
  | nil => intro ts h1 _ _ h; exact ⟨d, dt, rfl, h1, by cases ts <;> exact h⟩
  | cons q ps ih =>
    intro ts h1 h2 h3 h
    cases ts with
    | nil => simp at h2
    | cons t ts =>
      simp only [List.map_cons, List.cons.injEq] at h2
      by_cases e : x = Int32.ofInt q.1
      · refine ⟨q.2, t, ?_, h2.1, h.1 e⟩
        obtain ⟨q1, q2⟩ := q
        rw [Op.lookupswitch.offset_cons, if_pos]
        rw [e]
        exact (h3 _ List.mem_cons_self).symm
      · obtain ⟨off, tgt, o1, o2, o3⟩ := ih ts h1 h2.2 (fun q hq => h3 q (List.mem_cons_of_mem _ hq)) (h.2 e)
        refine ⟨off, tgt, ?_, o2, o3⟩
        obtain ⟨q1, q2⟩ := q
        rw [lv_osw (k := Int32.ofInt q1) e (h3 _ List.mem_cons_self)]
        exact o1
section BTS
variable {ω : Type} {p : Program} {l : Launch} {e : Env} {R : Room} {s : State} {m : MethodId} {args : Array Value} {below : List Frame} {meth : Method} {c : Code} {A : Nat → Prop} {H0 : Heap} {ad : Nat → Nat} {Hw : ω → Heap → Nat → Nat → Prop} {nL : Nat} {Q : State → Prop}
variable {cc : ByteArray}
set_option maxHeartbeats 1000000 in
theorem bt_stp_ok (hx : p.tables.exec = Jvm.exec) (hb : c.code = cc) {mm : List Nat → Instr → List Value → ω → (List Value → ω → Prop) → (List Value → ω → Prop) → Prop} {pc len : Nat} {ll : bs_Lo} {i : Instr} {au : List Nat} (hd : decode cc pc = .ok (i, len)) (hlen : bs_lenOk i len = true) (hloc : bs_locOk i nL = true) (hau : bt_au pc i au = true) {st : List Value} {w : ω} {rt : Option FieldType} {Qr : Option Value → ω → Prop}
    (hmm : ∀ (K J : List Value → ω → Prop), mm au i st w K J → (∀ st' w', K st' w' → bs_Sim p l e R s m args below meth c A H0 ad Hw nL Q (pc + len) ll st' w') → (∀ st' w', J st' w' → bs_Sim p l e R s m args below meth c A H0 ad Hw nL Q (au.headD 0) ll st' w') → bs_Sim p l e R s m args below meth c A H0 ad Hw nL Q pc ll st w)
    (hret : bt_rt i rt st (fun v => Qr v w) → bs_Sim p l e R s m args below meth c A H0 ad Hw nL Q pc ll st w)
    (h : bt_stp mm i len au pc ll st w rt (bs_Sim p l e R s m args below meth c A H0 ad Hw nL Q) Qr) : bs_Sim p l e R s m args below meth c A H0 ad Hw nL Q pc ll st w := by
  unfold bt_stp at h
  split at h
  case h_1 j =>
    intro H locs ls k0 n0 hH hS hl
    have : len = 2 := by simpa [bs_lenOk] using hlen
    subst this
    split at h
    · rename_i x hx1; exact lv_iload hx hb hd (hl.2.2 _ _ hx1) (h H locs ls k0 n0 hH hS hl)
    · cases h
  case h_2 j =>
    intro H locs ls k0 n0 hH hS hl
    have : len = 1 := by simpa [bs_lenOk] using hlen
    subst this
    split at h
    · rename_i x hx1; exact lv_iload_n hx hb hd rfl (hl.2.2 _ _ hx1) (h H locs ls k0 n0 hH hS hl)
    · cases h
  case h_3 j =>
    intro H locs ls k0 n0 hH hS hl
    have : len = 2 := by simpa [bs_lenOk] using hlen
    subst this
    split at h
    · rename_i x hx1; exact lv_lload hx hb hd (hl.2.2 _ _ hx1) (h H locs ls k0 n0 hH hS hl)
    · cases h
  case h_4 j =>
    intro H locs ls k0 n0 hH hS hl
    have : len = 1 := by simpa [bs_lenOk] using hlen
    subst this
    split at h
    · rename_i x hx1; exact lv_lload_n hx hb hd rfl (hl.2.2 _ _ hx1) (h H locs ls k0 n0 hH hS hl)
    · cases h
  case h_5 j =>
    intro H locs ls k0 n0 hH hS hl
    have : len = 2 := by simpa [bs_lenOk] using hlen
    subst this
    split at h
    · rename_i x hx1; exact lv_aload hx hb hd (hl.2.2 _ _ hx1) (h H locs ls k0 n0 hH hS hl)
    · rename_i hx1; exact lv_aloadN hx hb hd (hl.2.2 _ _ hx1) (h H locs ls k0 n0 hH hS hl)
    · cases h
  case h_6 j =>
    intro H locs ls k0 n0 hH hS hl
    have : len = 1 := by simpa [bs_lenOk] using hlen
    subst this
    split at h
    · rename_i x hx1; exact lv_aload_n hx hb hd rfl (hl.2.2 _ _ hx1) (h H locs ls k0 n0 hH hS hl)
    · rename_i hx1; exact lv_aload_nN hx hb hd rfl (hl.2.2 _ _ hx1) (h H locs ls k0 n0 hH hS hl)
    · cases h
  case h_7 j =>
    intro H locs ls k0 n0 hH hS hl
    have : len = 2 := by simpa [bs_lenOk] using hlen
    subst this
    obtain ⟨x, r, rfl, h⟩ := bs_i_inv h
    obtain ⟨ls', e', h'⟩ := bs_store1 (v := .int x) hl (by simpa [bs_locOk] using hloc) rfl
    intro T hT X
    obtain ⟨t, a, b⟩ := h H locs ls' k0 n0 hH hS h' T hT X
    refine ⟨t, ?_, b⟩
    jvm_step X.here [X.here.top, ↓top_set X.here.top, hx, hb, hd, bs_cv, show storeLocals ls j (.int x) = some ls' from e']
    exact a
  case h_8 j =>
    intro H locs ls k0 n0 hH hS hl
    have : len = 1 := by simpa [bs_lenOk] using hlen
    subst this
    obtain ⟨x, r, rfl, h⟩ := bs_i_inv h
    obtain ⟨ls', e', h'⟩ := bs_store1 (v := .int x) hl (by simpa [bs_locOk] using hloc) rfl
    intro T hT X
    obtain ⟨t, a, b⟩ := h H locs ls' k0 n0 hH hS h' T hT X
    refine ⟨t, ?_, b⟩
    jvm_step X.here [X.here.top, ↓top_set X.here.top, hx, hb, hd, bs_cv, show storeLocals ls j.val (.int x) = some ls' from e']
    exact a
  case h_9 j =>
    intro H locs ls k0 n0 hH hS hl
    have : len = 2 := by simpa [bs_lenOk] using hlen
    subst this
    obtain ⟨x, r, rfl, h⟩ := bs_l_inv h
    obtain ⟨ls', e', h'⟩ := bs_store2 (v := .long x) hl (by simpa [bs_locOk] using hloc) rfl
    intro T hT X
    obtain ⟨t, a, b⟩ := h H locs ls' k0 n0 hH hS h' T hT X
    refine ⟨t, ?_, b⟩
    jvm_step X.here [X.here.top, ↓top_set X.here.top, hx, hb, hd, bs_cv, show storeLocals ls j (.long x) = some ls' from e']
    exact a
  case h_10 j =>
    intro H locs ls k0 n0 hH hS hl
    have : len = 1 := by simpa [bs_lenOk] using hlen
    subst this
    obtain ⟨x, r, rfl, h⟩ := bs_l_inv h
    obtain ⟨ls', e', h'⟩ := bs_store2 (v := .long x) hl (by simpa [bs_locOk] using hloc) rfl
    intro T hT X
    obtain ⟨t, a, b⟩ := h H locs ls' k0 n0 hH hS h' T hT X
    refine ⟨t, ?_, b⟩
    jvm_step X.here [X.here.top, ↓top_set X.here.top, hx, hb, hd, bs_cv, show storeLocals ls j.val (.long x) = some ls' from e']
    exact a
  case h_11 j =>
    intro H locs ls k0 n0 hH hS hl
    have : len = 2 := by simpa [bs_lenOk] using hlen
    subst this
    obtain ⟨x, r, rfl, h⟩ := bs_r_inv h
    obtain ⟨ls', e', h'⟩ := bs_store1 (v := .ref x) hl (by simpa [bs_locOk] using hloc) rfl
    intro T hT X
    obtain ⟨t, a, b⟩ := h H locs ls' k0 n0 hH hS h' T hT X
    refine ⟨t, ?_, b⟩
    jvm_step X.here [X.here.top, ↓top_set X.here.top, hx, hb, hd, bs_cv, show storeLocals ls j (.ref (ad x)) = some ls' from e', Value.isRef]
    exact a
  case h_12 j =>
    intro H locs ls k0 n0 hH hS hl
    have : len = 1 := by simpa [bs_lenOk] using hlen
    subst this
    obtain ⟨x, r, rfl, h⟩ := bs_r_inv h
    obtain ⟨ls', e', h'⟩ := bs_store1 (v := .ref x) hl (by simpa [bs_locOk] using hloc) rfl
    intro T hT X
    obtain ⟨t, a, b⟩ := h H locs ls' k0 n0 hH hS h' T hT X
    refine ⟨t, ?_, b⟩
    jvm_step X.here [X.here.top, ↓top_set X.here.top, hx, hb, hd, bs_cv, show storeLocals ls j.val (.ref (ad x)) = some ls' from e', Value.isRef]
    exact a
  case h_13 j n =>
    intro H locs ls k0 n0 hH hS hl
    have : len = 3 := by simpa [bs_lenOk] using hlen
    subst this
    split at h
    · rename_i x hx1
      have hg : ls[j]? = some (.val (.int x)) := hl.2.2 _ _ hx1
      obtain ⟨ls', e', h'⟩ := bs_store1 (v := .int (x + Int32.ofInt n)) hl (by simpa [bs_locOk] using hloc) rfl
      intro T hT X
      obtain ⟨t, a, b⟩ := h H locs ls' k0 n0 hH hS h' T hT X
      refine ⟨t, ?_, b⟩
      jvm_step X.here [X.here.top, ↓top_set X.here.top, hx, hb, hd, hg, bs_cv, show storeLocals ls j (.int (x + Int32.ofInt n)) = some ls' from e']
      exact a
    · cases h
  case h_14 off =>
    intro H locs ls k0 n0 hH hS hl
    exact lv_goto hx hb (by have : len = 3 := by simpa [bs_lenOk] using hlen
                            subst this; exact hd) (by simpa [bt_au] using hau) (h H locs ls k0 n0 hH hS hl)
  case h_15 cd off =>
    intro H locs ls k0 n0 hH hS hl
    have : len = 3 := by simpa [bs_lenOk] using hlen
    subst this
    have ht : (pc : Int) + off = ((au.headD 0 : Nat) : Int) := by simpa [bt_au] using hau
    obtain ⟨x, r, rfl, h1, h2⟩ := bs_i_inv h
    cases cd
    · exact lv_if_eq hx hb hd ht (fun z => h1 z H locs ls k0 n0 hH hS hl) (fun z => h2 z H locs ls k0 n0 hH hS hl)
    · exact lv_if_ne hx hb hd ht (fun z => h1 z H locs ls k0 n0 hH hS hl) (fun z => h2 (fun q => q z) H locs ls k0 n0 hH hS hl)
    · exact lv_if_lt hx hb hd ht (fun z => h1 z H locs ls k0 n0 hH hS hl) (fun z => h2 z H locs ls k0 n0 hH hS hl)
    · exact lv_if_ge hx hb hd ht (fun z => h1 z H locs ls k0 n0 hH hS hl) (fun z => h2 z H locs ls k0 n0 hH hS hl)
    · exact lv_if_gt hx hb hd ht (fun z => h1 z H locs ls k0 n0 hH hS hl) (fun z => h2 z H locs ls k0 n0 hH hS hl)
    · exact lv_if_le hx hb hd ht (fun z => h1 z H locs ls k0 n0 hH hS hl) (fun z => h2 z H locs ls k0 n0 hH hS hl)
  case h_16 cd off =>
    intro H locs ls k0 n0 hH hS hl
    have : len = 3 := by simpa [bs_lenOk] using hlen
    subst this
    have ht : (pc : Int) + off = ((au.headD 0 : Nat) : Int) := by simpa [bt_au] using hau
    obtain ⟨x, y, r, rfl, h1, h2⟩ := bs_ii_inv h
    cases cd
    · exact lv_icmp_eq hx hb hd ht (fun z => h1 z H locs ls k0 n0 hH hS hl) (fun z => h2 z H locs ls k0 n0 hH hS hl)
    · exact lv_icmp_ne hx hb hd ht (fun z => h1 z H locs ls k0 n0 hH hS hl) (fun z => h2 (fun q => q z) H locs ls k0 n0 hH hS hl)
    · exact lv_icmp_lt hx hb hd ht (fun z => h1 z H locs ls k0 n0 hH hS hl) (fun z => h2 z H locs ls k0 n0 hH hS hl)
    · exact lv_icmp_ge hx hb hd ht (fun z => h1 z H locs ls k0 n0 hH hS hl) (fun z => h2 z H locs ls k0 n0 hH hS hl)
    · exact lv_icmp_gt hx hb hd ht (fun z => h1 z H locs ls k0 n0 hH hS hl) (fun z => h2 z H locs ls k0 n0 hH hS hl)
    · exact lv_icmp_le hx hb hd ht (fun z => h1 z H locs ls k0 n0 hH hS hl) (fun z => h2 z H locs ls k0 n0 hH hS hl)
  case h_17 d lo hi offs =>
    intro H locs ls k0 n0 hH hS hl
    simp only [bt_au, Bool.and_eq_true, decide_eq_true_eq] at hau
    obtain ⟨⟨⟨⟨⟨a1, a2⟩, a3⟩, a4⟩, a5⟩, a6⟩ := hau
    obtain ⟨x, r, rfl, h1, h2⟩ := bs_i_inv h
    by_cases q1 : x.toInt < lo
    · exact lv_tableOut hx hb hd (Or.inl q1) a1 (h1 (Or.inl (by rw [Int32.lt_iff_toInt_lt, a3]; exact q1)) H locs ls k0 n0 hH hS hl)
    · by_cases q2 : hi < x.toInt
      · exact lv_tableOut hx hb hd (Or.inr q2) a1 (h1 (Or.inr (by rw [Int32.lt_iff_toInt_lt, a4]; exact q2)) H locs ls k0 n0 hH hS hl)
      · have hj : (x.toInt - lo).toNat < offs.toList.length := by omega
        have hj2 : (x.toInt - lo).toNat < (au.drop 1).length := by
          have := congrArg List.length a2
          simp only [List.length_map] at this
          omega
        have e1 : offs[(x.toInt - lo).toNat]? = some (offs.toList[(x.toInt - lo).toNat]) := by
          rw [← Array.getElem?_toList, List.getElem?_eq_getElem hj]
        have e2 : (pc : Int) + offs.toList[(x.toInt - lo).toNat] = (((au.drop 1)[(x.toInt - lo).toNat] : Nat) : Int) := by
          have := congrArg (fun z : List Int => z[(x.toInt - lo).toNat]?) a2
          simp only [List.getElem?_map, List.getElem?_eq_getElem hj, List.getElem?_eq_getElem hj2, Option.map_some] at this
          exact Option.some.inj this
        refine lv_tableIn hx hb hd q1 q2 e1 e2 ?_
        refine bs_swt_at _ _ _ _ _ h2 (List.getElem?_eq_getElem hj2) ?_ H locs ls k0 n0 hH hS hl
        have : lo + ((x.toInt - lo).toNat : Int) = x.toInt := by omega
        rw [this, Int32.ofInt_toInt]
  case h_18 d ps =>
    intro H locs ls k0 n0 hH hS hl
    simp only [bt_au, Bool.and_eq_true, decide_eq_true_eq] at hau
    obtain ⟨⟨⟨a1, a2⟩, a3⟩, a4⟩ := hau
    obtain ⟨x, r, rfl, h⟩ := bs_i_inv h
    obtain ⟨off, tgt, o1, o2, o3⟩ := bt_lsw_at (pc := pc) (x := x) (d := d) (dt := au.headD 0) (P := fun t => bs_Sim p l e R s m args below meth c A H0 ad Hw nL Q t ll r w) ps.toList (au.drop 1) a1 a2 (fun q hq => by simpa using List.all_eq_true.mp a3 q hq) h
    exact lv_lookup hx hb hd a4 o1 o2 (o3 H locs ls k0 n0 hH hS hl)
  case h_19 => exact hret h
  case h_20 => exact hret h
  case h_21 => exact hret h
  case h_22 => exact hret h
  case h_23 => exact hmm _ _ h (fun st' w' k => k) (fun st' w' k => k)
/-- a table of instructions is the code's -/
def bt_okE (cc : ByteArray) (nL : Nat) (q : bs_En) : Bool := decide (decode cc q.1 = .ok (q.2.1, q.2.2.1)) && (bs_lenOk q.2.1 q.2.2.1 && (bs_locOk q.2.1 nL && bt_au q.1 q.2.1 q.2.2.2))
theorem bt_TC_ok (hx : p.tables.exec = Jvm.exec) (hb : c.code = cc) {mm : List Nat → Instr → List Value → ω → (List Value → ω → Prop) → (List Value → ω → Prop) → Prop} {code : List bs_En} (hcode : code.all (bt_okE cc nL) = true) {rt : Option FieldType} {Qr : Option Value → ω → Prop}
    (hmm : ∀ (q : bs_En) (ll : bs_Lo) (st : List Value) (w : ω) (K J : List Value → ω → Prop), q ∈ code → decode cc q.1 = .ok (q.2.1, q.2.2.1) → bs_lenOk q.2.1 q.2.2.1 = true → bt_au q.1 q.2.1 q.2.2.2 = true → mm q.2.2.2 q.2.1 st w K J → (∀ st' w', K st' w' → bs_Sim p l e R s m args below meth c A H0 ad Hw nL Q (q.1 + q.2.2.1) ll st' w') → (∀ st' w', J st' w' → bs_Sim p l e R s m args below meth c A H0 ad Hw nL Q (q.2.2.2.headD 0) ll st' w') → bs_Sim p l e R s m args below meth c A H0 ad Hw nL Q q.1 ll st w)
    (hret : ∀ (q : bs_En) (ll : bs_Lo) (st : List Value) (w : ω), q ∈ code → decode cc q.1 = .ok (q.2.1, q.2.2.1) → bs_lenOk q.2.1 q.2.2.1 = true → bt_rt q.2.1 rt st (fun v => Qr v w) → bs_Sim p l e R s m args below meth c A H0 ad Hw nL Q q.1 ll st w)
    {pc : Nat} {ll : bs_Lo} {st : List Value} {w : ω} (h : bt_TC mm code rt Qr pc ll st w) : bs_Sim p l e R s m args below meth c A H0 ad Hw nL Q pc ll st w := by
  refine h (bs_Sim p l e R s m args below meth c A H0 ad Hw nL Q) (fun pc ll st w k => ?_)
  unfold bt_ST at k
  split at k
  · rename_i x hxx
    have hmem := bs_fnd_mem hxx
    have h1 := List.all_eq_true.mp hcode _ hmem
    simp only [bt_okE, Bool.and_eq_true, decide_eq_true_eq] at h1
    obtain ⟨g1, g2, g3, g4⟩ := h1
    exact bt_stp_ok hx hb g1 g2 g3 g4 (fun K J a b c => hmm (pc, x) ll st w K J hmem g1 g2 g4 a b c) (fun a => hret (pc, x) ll st w hmem g1 g2 a) k
  · cases k
end BTS
