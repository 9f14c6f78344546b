/-! the machine's steps hold in the kit's W -/
section BSS
variable {ω : Type} {p : Program} {l : Launch} {e : Env} {R : Room} {s : State} {m : MethodId} {args : Array Value} {below : List Frame} {meth : Method} {c : Code} {A : Nat → Prop} {H0 : Heap} {ad : Nat → Nat} {Hw : ω → Heap → Nat → Nat → Prop} {nL : Nat} {Q : State → Prop}
def bs_Sim (p : Program) (l : Launch) (e : Env) (R : Room) (s : State) (m : MethodId) (args : Array Value) (below : List Frame) (meth : Method) (c : Code) (A : Nat → Prop) (H0 : Heap) (ad : Nat → Nat) (Hw : ω → Heap → Nat → Nat → Prop) (nL : Nat) (Q : State → Prop) (pc : Nat) (ll : bs_Lo) (st : List Value) (w : ω) : Prop :=
  ∀ (H : Heap) (locs : List Loc) (ls : Array Slot) (k n : Nat), Hw w H k n → va_S A H0 H locs → bs_Lh ad ls nL ll → W p l e R s m args below meth c H locs k n Q (F0 m pc ls (st.map (bs_cv ad)))
theorem bs_cc {ad : Nat → Nat} {v : Value} {n : Nat} (h : v.category = n) : (bs_cv ad v).category = n := by rw [bs_cv_cat]; exact h
theorem bs_i_inv {st : List Value} {k : Int32 → List Value → Prop} (h : bs_i st k) : ∃ x r, st = .int x :: r ∧ k x r := by
  unfold bs_i at h
  split at h
  · exact ⟨_, _, rfl, h⟩
  · cases h
theorem bs_l_inv {st : List Value} {k : Int64 → List Value → Prop} (h : bs_l st k) : ∃ x r, st = .long x :: r ∧ k x r := by
  unfold bs_l at h
  split at h
  · exact ⟨_, _, rfl, h⟩
  · cases h
theorem bs_r_inv {st : List Value} {k : Nat → List Value → Prop} (h : bs_r st k) : ∃ x r, st = .ref x :: r ∧ k x r := by
  unfold bs_r at h
  split at h
  · exact ⟨_, _, rfl, h⟩
  · cases h
theorem bs_v1_inv {st : List Value} {k : Value → List Value → Prop} (h : bs_v1 st k) : ∃ x r, st = x :: r ∧ x.category = 1 ∧ k x r := by
  unfold bs_v1 at h
  split at h
  · exact ⟨_, _, rfl, rfl, h⟩
  · exact ⟨_, _, rfl, rfl, h⟩
  · exact ⟨_, _, rfl, rfl, h⟩
  · cases h
theorem bs_ii_inv {st : List Value} {k : Int32 → Int32 → List Value → Prop} (h : bs_ii st k) : ∃ x y r, st = .int y :: .int x :: r ∧ k x y r := by
  obtain ⟨y, r1, rfl, h1⟩ := bs_i_inv h
  obtain ⟨x, r2, rfl, h2⟩ := bs_i_inv h1
  exact ⟨_, _, _, rfl, h2⟩
theorem bs_ll_inv {st : List Value} {k : Int64 → Int64 → List Value → Prop} (h : bs_ll st k) : ∃ x y r, st = .long y :: .long x :: r ∧ k x y r := by
  obtain ⟨y, r1, rfl, h1⟩ := bs_l_inv h
  obtain ⟨x, r2, rfl, h2⟩ := bs_l_inv h1
  exact ⟨_, _, _, rfl, h2⟩
theorem bs_li_inv {st : List Value} {k : Int64 → Int32 → List Value → Prop} (h : bs_li st k) : ∃ x y r, st = .int y :: .long x :: r ∧ k x y r := by
  obtain ⟨y, r1, rfl, h1⟩ := bs_i_inv h
  obtain ⟨x, r2, rfl, h2⟩ := bs_l_inv h1
  exact ⟨_, _, _, rfl, h2⟩
/-- a length that decoding gives -/
theorem bs_len {cc : ByteArray} {pc : Nat} {i : Instr} {a b : Nat} (h : decode cc pc = .ok (i, a)) (g : decode cc pc = .ok (i, b)) : a = b := by
  rw [h] at g
  injection g with g
  injection g
variable {cc : ByteArray}
/-- the lengths as the machine's rows have them -/
def bs_lenOk (i : Instr) (len : Nat) : Bool := match i with
  | .bipush _ => len == 2
  | .sipush _ => len == 3
  | .iload _ | .lload _ | .aload _ | .istore _ | .lstore _ | .astore _ | .ldc _ => len == 2
  | .iinc _ _ | .goto _ | .ifCond _ _ | .if_icmp _ _ | .getfield _ | .putfield _ | .getstatic _ | .putstatic _ | .invokevirtual _ | .invokespecial _ | .invokestatic _ | .ldc_w _ | .ldc2_w _ | .new _ | .checkcast _ | .instanceof _ | .anewarray _ | .ifnull _ | .ifnonnull _ | .if_acmp _ _ => len == 3
  | .newarray _ => len == 2
  | .multianewarray _ _ => len == 4
  | .invokeinterface _ _ => len == 5
  | .tableswitch .. | .lookupswitch .. => true
  | _ => len == 1
theorem bs_pur_ok (hx : p.tables.exec = Jvm.exec) (hb : c.code = cc) {pc len : Nat} {ll : bs_Lo} {i : Instr} (hd : decode cc pc = .ok (i, len)) (hlen : bs_lenOk i len = true) {st : List Value} {w : ω} {k : List Value → Prop} (h : bs_pur i st k) (hk : ∀ st', k st' → bs_Sim p l e R s m args below meth c A H0 ad Hw nL Q (pc + len) ll st' w) : bs_Sim p l e R s m args below meth c A H0 ad Hw nL Q pc ll st w := by
  intro H locs ls k0 n0 hH hS hl
  unfold bs_pur at h
  split at h
  case h_1 =>
    obtain rfl : len = 1 := by simpa [bs_lenOk] using hlen
    exact lv_iconst hx hb hd rfl (hk _ h H locs ls k0 n0 hH hS hl)
  case h_2 =>
    obtain rfl : len = 2 := by simpa [bs_lenOk] using hlen
    exact lv_bipush hx hb hd rfl (hk _ h H locs ls k0 n0 hH hS hl)
  case h_3 =>
    obtain rfl : len = 3 := by simpa [bs_lenOk] using hlen
    exact lv_sipush hx hb hd rfl (hk _ h H locs ls k0 n0 hH hS hl)
  case h_4 =>
    obtain rfl : len = 1 := by simpa [bs_lenOk] using hlen
    exact lv_lconst hx hb hd rfl (hk _ h H locs ls k0 n0 hH hS hl)
  case h_5 =>
    obtain rfl : len = 1 := by simpa [bs_lenOk] using hlen
    exact lv_null hx hb hd (hk _ h H locs ls k0 n0 hH hS hl)
  case h_6 =>
    obtain rfl : len = 1 := by simpa [bs_lenOk] using hlen
    obtain ⟨x, y, r, rfl, h⟩ := bs_ii_inv h
    exact lv_iadd hx hb hd (hk _ h H locs ls k0 n0 hH hS hl)
  case h_7 =>
    obtain rfl : len = 1 := by simpa [bs_lenOk] using hlen
    obtain ⟨x, y, r, rfl, h⟩ := bs_ii_inv h
    exact lv_isub hx hb hd (hk _ h H locs ls k0 n0 hH hS hl)
  case h_8 =>
    obtain rfl : len = 1 := by simpa [bs_lenOk] using hlen
    obtain ⟨x, y, r, rfl, h⟩ := bs_ii_inv h
    exact lv_imul hx hb hd (hk _ h H locs ls k0 n0 hH hS hl)
  case h_9 =>
    obtain rfl : len = 1 := by simpa [bs_lenOk] using hlen
    obtain ⟨x, y, r, rfl, h⟩ := bs_ii_inv h
    exact lv_iand hx hb hd (hk _ h H locs ls k0 n0 hH hS hl)
  case h_10 =>
    obtain rfl : len = 1 := by simpa [bs_lenOk] using hlen
    obtain ⟨x, y, r, rfl, h⟩ := bs_ii_inv h
    exact lv_ior hx hb hd (hk _ h H locs ls k0 n0 hH hS hl)
  case h_11 =>
    obtain rfl : len = 1 := by simpa [bs_lenOk] using hlen
    obtain ⟨x, y, r, rfl, h⟩ := bs_ii_inv h
    exact lv_ixor hx hb hd (hk _ h H locs ls k0 n0 hH hS hl)
  case h_12 =>
    obtain rfl : len = 1 := by simpa [bs_lenOk] using hlen
    obtain ⟨x, y, r, rfl, h⟩ := bs_ii_inv h
    exact lv_idiv hx hb hd h.1 (hk _ h.2 H locs ls k0 n0 hH hS hl)
  case h_13 =>
    obtain rfl : len = 1 := by simpa [bs_lenOk] using hlen
    obtain ⟨x, y, r, rfl, h⟩ := bs_ii_inv h
    exact lv_irem hx hb hd h.1 (hk _ h.2 H locs ls k0 n0 hH hS hl)
  case h_14 =>
    obtain rfl : len = 1 := by simpa [bs_lenOk] using hlen
    obtain ⟨x, r, rfl, h⟩ := bs_i_inv h
    exact lv_ineg hx hb hd (hk _ h H locs ls k0 n0 hH hS hl)
  case h_15 =>
    obtain rfl : len = 1 := by simpa [bs_lenOk] using hlen
    obtain ⟨x, y, r, rfl, h⟩ := bs_ii_inv h
    exact lv_ishl hx hb hd (hk _ h H locs ls k0 n0 hH hS hl)
  case h_16 =>
    obtain rfl : len = 1 := by simpa [bs_lenOk] using hlen
    obtain ⟨x, y, r, rfl, h⟩ := bs_ii_inv h
    exact lv_ishr hx hb hd (hk _ h H locs ls k0 n0 hH hS hl)
  case h_17 =>
    obtain rfl : len = 1 := by simpa [bs_lenOk] using hlen
    obtain ⟨x, y, r, rfl, h⟩ := bs_ii_inv h
    exact lv_iushr hx hb hd rfl (hk _ h H locs ls k0 n0 hH hS hl)
  case h_18 =>
    obtain rfl : len = 1 := by simpa [bs_lenOk] using hlen
    obtain ⟨x, y, r, rfl, h⟩ := bs_ll_inv h
    exact lv_ladd hx hb hd (hk _ h H locs ls k0 n0 hH hS hl)
  case h_19 =>
    obtain rfl : len = 1 := by simpa [bs_lenOk] using hlen
    obtain ⟨x, y, r, rfl, h⟩ := bs_ll_inv h
    exact lv_lsub hx hb hd (hk _ h H locs ls k0 n0 hH hS hl)
  case h_20 =>
    obtain rfl : len = 1 := by simpa [bs_lenOk] using hlen
    obtain ⟨x, y, r, rfl, h⟩ := bs_ll_inv h
    exact lv_lmul hx hb hd (hk _ h H locs ls k0 n0 hH hS hl)
  case h_21 =>
    obtain rfl : len = 1 := by simpa [bs_lenOk] using hlen
    obtain ⟨x, y, r, rfl, h⟩ := bs_ll_inv h
    exact lv_land hx hb hd (hk _ h H locs ls k0 n0 hH hS hl)
  case h_22 =>
    obtain rfl : len = 1 := by simpa [bs_lenOk] using hlen
    obtain ⟨x, y, r, rfl, h⟩ := bs_ll_inv h
    exact lv_lor hx hb hd (hk _ h H locs ls k0 n0 hH hS hl)
  case h_23 =>
    obtain rfl : len = 1 := by simpa [bs_lenOk] using hlen
    obtain ⟨x, y, r, rfl, h⟩ := bs_ll_inv h
    exact lv_lxor hx hb hd (hk _ h H locs ls k0 n0 hH hS hl)
  case h_24 =>
    obtain rfl : len = 1 := by simpa [bs_lenOk] using hlen
    obtain ⟨x, y, r, rfl, h⟩ := bs_ll_inv h
    exact lv_ldiv hx hb hd h.1 (hk _ h.2 H locs ls k0 n0 hH hS hl)
  case h_25 =>
    obtain rfl : len = 1 := by simpa [bs_lenOk] using hlen
    obtain ⟨x, y, r, rfl, h⟩ := bs_ll_inv h
    exact lv_lrem hx hb hd h.1 (hk _ h.2 H locs ls k0 n0 hH hS hl)
  case h_26 =>
    obtain rfl : len = 1 := by simpa [bs_lenOk] using hlen
    obtain ⟨x, r, rfl, h⟩ := bs_l_inv h
    exact lv_lneg hx hb hd (hk _ h H locs ls k0 n0 hH hS hl)
  case h_27 =>
    obtain rfl : len = 1 := by simpa [bs_lenOk] using hlen
    obtain ⟨x, y, r, rfl, h⟩ := bs_li_inv h
    exact lv_lshl hx hb hd rfl (hk _ h H locs ls k0 n0 hH hS hl)
  case h_28 =>
    obtain rfl : len = 1 := by simpa [bs_lenOk] using hlen
    obtain ⟨x, y, r, rfl, h⟩ := bs_li_inv h
    exact lv_lshr hx hb hd rfl (hk _ h H locs ls k0 n0 hH hS hl)
  case h_29 =>
    obtain rfl : len = 1 := by simpa [bs_lenOk] using hlen
    obtain ⟨x, y, r, rfl, h⟩ := bs_li_inv h
    exact lv_lushr hx hb hd rfl (hk _ h H locs ls k0 n0 hH hS hl)
  case h_30 =>
    obtain rfl : len = 1 := by simpa [bs_lenOk] using hlen
    obtain ⟨x, y, r, rfl, h⟩ := bs_ll_inv h
    exact W.lcmp hx hb hd (hk _ h H locs ls k0 n0 hH hS hl)
  case h_31 =>
    obtain rfl : len = 1 := by simpa [bs_lenOk] using hlen
    obtain ⟨x, r, rfl, h⟩ := bs_i_inv h
    exact lv_i2l hx hb hd rfl (hk _ h H locs ls k0 n0 hH hS hl)
  case h_32 =>
    obtain rfl : len = 1 := by simpa [bs_lenOk] using hlen
    obtain ⟨x, r, rfl, h⟩ := bs_l_inv h
    exact lv_l2i hx hb hd rfl (hk _ h H locs ls k0 n0 hH hS hl)
  case h_33 =>
    obtain rfl : len = 1 := by simpa [bs_lenOk] using hlen
    obtain ⟨x, r, rfl, h⟩ := bs_i_inv h
    exact lv_i2b hx hb hd rfl (hk _ h H locs ls k0 n0 hH hS hl)
  case h_34 =>
    obtain rfl : len = 1 := by simpa [bs_lenOk] using hlen
    obtain ⟨x, r, rfl, h⟩ := bs_i_inv h
    exact lv_i2c hx hb hd rfl (hk _ h H locs ls k0 n0 hH hS hl)
  case h_35 =>
    obtain rfl : len = 1 := by simpa [bs_lenOk] using hlen
    obtain ⟨x, r, rfl, hc, h⟩ := bs_v1_inv h
    exact lv_dup hx hb hd (bs_cc hc) (hk _ h H locs ls k0 n0 hH hS hl)
  case h_36 =>
    obtain rfl : len = 1 := by simpa [bs_lenOk] using hlen
    obtain ⟨x, r, rfl, hc, h⟩ := bs_v1_inv h
    exact lv_pop hx hb hd (bs_cc hc) (hk _ h H locs ls k0 n0 hH hS hl)
  case h_37 =>
    obtain rfl : len = 1 := by simpa [bs_lenOk] using hlen
    obtain ⟨x, r, rfl, hc, h⟩ := bs_v1_inv h
    obtain ⟨y, r, rfl, hc2, h⟩ := bs_v1_inv h
    exact lv_dup_x1 hx hb hd (bs_cc hc) (bs_cc hc2) (hk _ h H locs ls k0 n0 hH hS hl)
  case h_38 =>
    obtain rfl : len = 1 := by simpa [bs_lenOk] using hlen
    obtain ⟨x, r, rfl, hc, h⟩ := bs_v1_inv h
    obtain ⟨y, r, rfl, hc2, h⟩ := bs_v1_inv h
    obtain ⟨z, r, rfl, hc3, h⟩ := bs_v1_inv h
    exact lv_dup_x2 hx hb hd (bs_cc hc) (bs_cc hc2) (bs_cc hc3) (hk _ h H locs ls k0 n0 hH hS hl)
  case h_39 =>
    obtain rfl : len = 1 := by simpa [bs_lenOk] using hlen
    split at h
    · exact lv_dup2_2 hx hb hd rfl (hk _ h H locs ls k0 n0 hH hS hl)
    · obtain ⟨x, r, rfl, hc, h⟩ := bs_v1_inv h; obtain ⟨y, r, rfl, hc2, h⟩ := bs_v1_inv h; exact lv_dup2_11 hx hb hd (bs_cc hc) (bs_cc hc2) (hk _ h H locs ls k0 n0 hH hS hl)
  case h_40 =>
    obtain rfl : len = 1 := by simpa [bs_lenOk] using hlen
    split at h
    · exact lv_pop2_2 hx hb hd rfl (hk _ h H locs ls k0 n0 hH hS hl)
    · obtain ⟨x, r, rfl, hc, h⟩ := bs_v1_inv h; obtain ⟨y, r, rfl, hc2, h⟩ := bs_v1_inv h; exact lv_pop2_11 hx hb hd (bs_cc hc) (bs_cc hc2) (hk _ h H locs ls k0 n0 hH hS hl)
  case h_41 => cases h
/-- the locals that an instruction writes lie in the frame -/
def bs_locOk (i : Instr) (nL : Nat) : Bool := match i with
  | .istore j | .astore j => decide (j < nL)
  | .istore_n j | .astore_n j => decide (j.val < nL)
  | .lstore j => decide (j + 1 < nL)
  | .lstore_n j => decide (j.val + 1 < nL)
  | .iinc j _ => decide (j < nL)
  | _ => true
theorem bs_swt_at {x : Int32} : ∀ (ts : List Nat) (v : Int) (k : Nat → Prop) (j : Nat) (t : Nat), bs_swt x v ts k → ts[j]? = some t → x = Int32.ofInt (v + j) → k t := by
  intro ts
  induction ts with
  | nil => intro v k j t _ h; simp at h
  | cons a r ih =>
    intro v k j t g h e
    cases j with
    | zero => simp at h; subst h; exact g.1 (by simpa using e)
    | succ j => exact ih (v + 1) k j t g.2 (by simpa using h) (by rw [e]; congr 1; omega)
set_option maxHeartbeats 1000000 in
theorem bs_stp_ok (hx : p.tables.exec = Jvm.exec) (hb : c.code = cc) {mm : List Nat → Instr → List Value → ω → (List Value → ω → Prop) → Prop} {pc len : Nat} {ll : bs_Lo} {i : Instr} {au : List Nat} (hd : decode cc pc = .ok (i, len)) (hlen : bs_lenOk i len = true) (hloc : bs_locOk i nL = true) (hau : bs_au pc i au = true) {st : List Value} {w : ω} {rt : Option FieldType} {Qr : Option Value → ω → Prop}
    (hmm : ∀ (K : List Value → ω → Prop), mm au i st w K → (∀ st' w', K st' w' → bs_Sim p l e R s m args below meth c A H0 ad Hw nL Q (pc + len) ll st' w') → bs_Sim p l e R s m args below meth c A H0 ad Hw nL Q pc ll st w)
    (hret : bs_rt i rt st (fun v => Qr v w) → bs_Sim p l e R s m args below meth c A H0 ad Hw nL Q pc ll st w)
    (h : bs_stp mm i len au pc ll st w rt (bs_Sim p l e R s m args below meth c A H0 ad Hw nL Q) Qr) : bs_Sim p l e R s m args below meth c A H0 ad Hw nL Q pc ll st w := by
  unfold bs_stp at h
  split at h
  case h_1 j =>
    intro H locs ls k0 n0 hH hS hl
    have : len = 2 := by simpa [bs_lenOk] using hlen
    subst this
    split at h
    · rename_i x hx1; exact lv_iload hx hb hd (hl.2.2 _ _ hx1) (h H locs ls k0 n0 hH hS hl)
    · cases h
  case h_2 j =>
    intro H locs ls k0 n0 hH hS hl
    have : len = 1 := by simpa [bs_lenOk] using hlen
    subst this
    split at h
    · rename_i x hx1; exact lv_iload_n hx hb hd rfl (hl.2.2 _ _ hx1) (h H locs ls k0 n0 hH hS hl)
    · cases h
  case h_3 j =>
    intro H locs ls k0 n0 hH hS hl
    have : len = 2 := by simpa [bs_lenOk] using hlen
    subst this
    split at h
    · rename_i x hx1; exact lv_lload hx hb hd (hl.2.2 _ _ hx1) (h H locs ls k0 n0 hH hS hl)
    · cases h
  case h_4 j =>
    intro H locs ls k0 n0 hH hS hl
    have : len = 1 := by simpa [bs_lenOk] using hlen
    subst this
    split at h
    · rename_i x hx1; exact lv_lload_n hx hb hd rfl (hl.2.2 _ _ hx1) (h H locs ls k0 n0 hH hS hl)
    · cases h
  case h_5 j =>
    intro H locs ls k0 n0 hH hS hl
    have : len = 2 := by simpa [bs_lenOk] using hlen
    subst this
    split at h
    · rename_i x hx1; exact lv_aload hx hb hd (hl.2.2 _ _ hx1) (h H locs ls k0 n0 hH hS hl)
    · rename_i hx1; exact lv_aloadN hx hb hd (hl.2.2 _ _ hx1) (h H locs ls k0 n0 hH hS hl)
    · cases h
  case h_6 j =>
    intro H locs ls k0 n0 hH hS hl
    have : len = 1 := by simpa [bs_lenOk] using hlen
    subst this
    split at h
    · rename_i x hx1; exact lv_aload_n hx hb hd rfl (hl.2.2 _ _ hx1) (h H locs ls k0 n0 hH hS hl)
    · rename_i hx1; exact lv_aload_nN hx hb hd rfl (hl.2.2 _ _ hx1) (h H locs ls k0 n0 hH hS hl)
    · cases h
  case h_7 j =>
    intro H locs ls k0 n0 hH hS hl
    have : len = 2 := by simpa [bs_lenOk] using hlen
    subst this
    obtain ⟨x, r, rfl, h⟩ := bs_i_inv h
    obtain ⟨ls', e', h'⟩ := bs_store1 (v := .int x) hl (by simpa [bs_locOk] using hloc) rfl
    intro T hT X
    obtain ⟨t, a, b⟩ := h H locs ls' k0 n0 hH hS h' T hT X
    refine ⟨t, ?_, b⟩
    jvm_step X.here [X.here.top, ↓top_set X.here.top, hx, hb, hd, bs_cv, show storeLocals ls j (.int x) = some ls' from e']
    exact a
  case h_8 j =>
    intro H locs ls k0 n0 hH hS hl
    have : len = 1 := by simpa [bs_lenOk] using hlen
    subst this
    obtain ⟨x, r, rfl, h⟩ := bs_i_inv h
    obtain ⟨ls', e', h'⟩ := bs_store1 (v := .int x) hl (by simpa [bs_locOk] using hloc) rfl
    intro T hT X
    obtain ⟨t, a, b⟩ := h H locs ls' k0 n0 hH hS h' T hT X
    refine ⟨t, ?_, b⟩
    jvm_step X.here [X.here.top, ↓top_set X.here.top, hx, hb, hd, bs_cv, show storeLocals ls j.val (.int x) = some ls' from e']
    exact a
  case h_9 j =>
    intro H locs ls k0 n0 hH hS hl
    have : len = 2 := by simpa [bs_lenOk] using hlen
    subst this
    obtain ⟨x, r, rfl, h⟩ := bs_l_inv h
    obtain ⟨ls', e', h'⟩ := bs_store2 (v := .long x) hl (by simpa [bs_locOk] using hloc) rfl
    intro T hT X
    obtain ⟨t, a, b⟩ := h H locs ls' k0 n0 hH hS h' T hT X
    refine ⟨t, ?_, b⟩
    jvm_step X.here [X.here.top, ↓top_set X.here.top, hx, hb, hd, bs_cv, show storeLocals ls j (.long x) = some ls' from e']
    exact a
  case h_10 j =>
    intro H locs ls k0 n0 hH hS hl
    have : len = 1 := by simpa [bs_lenOk] using hlen
    subst this
    obtain ⟨x, r, rfl, h⟩ := bs_l_inv h
    obtain ⟨ls', e', h'⟩ := bs_store2 (v := .long x) hl (by simpa [bs_locOk] using hloc) rfl
    intro T hT X
    obtain ⟨t, a, b⟩ := h H locs ls' k0 n0 hH hS h' T hT X
    refine ⟨t, ?_, b⟩
    jvm_step X.here [X.here.top, ↓top_set X.here.top, hx, hb, hd, bs_cv, show storeLocals ls j.val (.long x) = some ls' from e']
    exact a
  case h_11 j =>
    intro H locs ls k0 n0 hH hS hl
    have : len = 2 := by simpa [bs_lenOk] using hlen
    subst this
    obtain ⟨x, r, rfl, h⟩ := bs_r_inv h
    obtain ⟨ls', e', h'⟩ := bs_store1 (v := .ref x) hl (by simpa [bs_locOk] using hloc) rfl
    intro T hT X
    obtain ⟨t, a, b⟩ := h H locs ls' k0 n0 hH hS h' T hT X
    refine ⟨t, ?_, b⟩
    jvm_step X.here [X.here.top, ↓top_set X.here.top, hx, hb, hd, bs_cv, show storeLocals ls j (.ref (ad x)) = some ls' from e', Value.isRef]
    exact a
  case h_12 j =>
    intro H locs ls k0 n0 hH hS hl
    have : len = 1 := by simpa [bs_lenOk] using hlen
    subst this
    obtain ⟨x, r, rfl, h⟩ := bs_r_inv h
    obtain ⟨ls', e', h'⟩ := bs_store1 (v := .ref x) hl (by simpa [bs_locOk] using hloc) rfl
    intro T hT X
    obtain ⟨t, a, b⟩ := h H locs ls' k0 n0 hH hS h' T hT X
    refine ⟨t, ?_, b⟩
    jvm_step X.here [X.here.top, ↓top_set X.here.top, hx, hb, hd, bs_cv, show storeLocals ls j.val (.ref (ad x)) = some ls' from e', Value.isRef]
    exact a
  case h_13 j n =>
    intro H locs ls k0 n0 hH hS hl
    have : len = 3 := by simpa [bs_lenOk] using hlen
    subst this
    split at h
    · rename_i x hx1
      have hg : ls[j]? = some (.val (.int x)) := hl.2.2 _ _ hx1
      obtain ⟨ls', e', h'⟩ := bs_store1 (v := .int (x + Int32.ofInt n)) hl (by simpa [bs_locOk] using hloc) rfl
      intro T hT X
      obtain ⟨t, a, b⟩ := h H locs ls' k0 n0 hH hS h' T hT X
      refine ⟨t, ?_, b⟩
      jvm_step X.here [X.here.top, ↓top_set X.here.top, hx, hb, hd, hg, bs_cv, show storeLocals ls j (.int (x + Int32.ofInt n)) = some ls' from e']
      exact a
    · cases h
  case h_14 off =>
    intro H locs ls k0 n0 hH hS hl
    exact lv_goto hx hb (by have : len = 3 := by simpa [bs_lenOk] using hlen
                            subst this; exact hd) (by simpa [bs_au] using hau) (h H locs ls k0 n0 hH hS hl)
  case h_15 cd off =>
    intro H locs ls k0 n0 hH hS hl
    have : len = 3 := by simpa [bs_lenOk] using hlen
    subst this
    have ht : (pc : Int) + off = ((au.headD 0 : Nat) : Int) := by simpa [bs_au] using hau
    obtain ⟨x, r, rfl, h1, h2⟩ := bs_i_inv h
    cases cd
    · exact lv_if_eq hx hb hd ht (fun z => h1 z H locs ls k0 n0 hH hS hl) (fun z => h2 z H locs ls k0 n0 hH hS hl)
    · exact lv_if_ne hx hb hd ht (fun z => h1 z H locs ls k0 n0 hH hS hl) (fun z => h2 (fun q => q z) H locs ls k0 n0 hH hS hl)
    · exact lv_if_lt hx hb hd ht (fun z => h1 z H locs ls k0 n0 hH hS hl) (fun z => h2 z H locs ls k0 n0 hH hS hl)
    · exact lv_if_ge hx hb hd ht (fun z => h1 z H locs ls k0 n0 hH hS hl) (fun z => h2 z H locs ls k0 n0 hH hS hl)
    · exact lv_if_gt hx hb hd ht (fun z => h1 z H locs ls k0 n0 hH hS hl) (fun z => h2 z H locs ls k0 n0 hH hS hl)
    · exact lv_if_le hx hb hd ht (fun z => h1 z H locs ls k0 n0 hH hS hl) (fun z => h2 z H locs ls k0 n0 hH hS hl)
  case h_16 cd off =>
    intro H locs ls k0 n0 hH hS hl
    have : len = 3 := by simpa [bs_lenOk] using hlen
    subst this
    have ht : (pc : Int) + off = ((au.headD 0 : Nat) : Int) := by simpa [bs_au] using hau
    obtain ⟨x, y, r, rfl, h1, h2⟩ := bs_ii_inv h
    cases cd
    · exact lv_icmp_eq hx hb hd ht (fun z => h1 z H locs ls k0 n0 hH hS hl) (fun z => h2 z H locs ls k0 n0 hH hS hl)
    · exact lv_icmp_ne hx hb hd ht (fun z => h1 z H locs ls k0 n0 hH hS hl) (fun z => h2 (fun q => q z) H locs ls k0 n0 hH hS hl)
    · exact lv_icmp_lt hx hb hd ht (fun z => h1 z H locs ls k0 n0 hH hS hl) (fun z => h2 z H locs ls k0 n0 hH hS hl)
    · exact lv_icmp_ge hx hb hd ht (fun z => h1 z H locs ls k0 n0 hH hS hl) (fun z => h2 z H locs ls k0 n0 hH hS hl)
    · exact lv_icmp_gt hx hb hd ht (fun z => h1 z H locs ls k0 n0 hH hS hl) (fun z => h2 z H locs ls k0 n0 hH hS hl)
    · exact lv_icmp_le hx hb hd ht (fun z => h1 z H locs ls k0 n0 hH hS hl) (fun z => h2 z H locs ls k0 n0 hH hS hl)
  case h_17 d lo hi offs =>
    intro H locs ls k0 n0 hH hS hl
    simp only [bs_au, Bool.and_eq_true, decide_eq_true_eq] at hau
    obtain ⟨⟨⟨⟨⟨a1, a2⟩, a3⟩, a4⟩, a5⟩, a6⟩ := hau
    obtain ⟨x, r, rfl, h1, h2⟩ := bs_i_inv h
    by_cases q1 : x.toInt < lo
    · exact lv_tableOut hx hb hd (Or.inl q1) a1 (h1 (Or.inl (by rw [Int32.lt_iff_toInt_lt, a3]; exact q1)) H locs ls k0 n0 hH hS hl)
    · by_cases q2 : hi < x.toInt
      · exact lv_tableOut hx hb hd (Or.inr q2) a1 (h1 (Or.inr (by rw [Int32.lt_iff_toInt_lt, a4]; exact q2)) H locs ls k0 n0 hH hS hl)
      · have hj : (x.toInt - lo).toNat < offs.toList.length := by omega
        have hj2 : (x.toInt - lo).toNat < (au.drop 1).length := by
          have := congrArg List.length a2
          simp only [List.length_map] at this
          omega
        have e1 : offs[(x.toInt - lo).toNat]? = some (offs.toList[(x.toInt - lo).toNat]) := by
          rw [← Array.getElem?_toList, List.getElem?_eq_getElem hj]
        have e2 : (pc : Int) + offs.toList[(x.toInt - lo).toNat] = (((au.drop 1)[(x.toInt - lo).toNat] : Nat) : Int) := by
          have := congrArg (fun z : List Int => z[(x.toInt - lo).toNat]?) a2
          simp only [List.getElem?_map, List.getElem?_eq_getElem hj, List.getElem?_eq_getElem hj2, Option.map_some] at this
          exact Option.some.inj this
        refine lv_tableIn hx hb hd q1 q2 e1 e2 ?_
        refine bs_swt_at _ _ _ _ _ h2 (List.getElem?_eq_getElem hj2) ?_ H locs ls k0 n0 hH hS hl
        have : lo + ((x.toInt - lo).toNat : Int) = x.toInt := by omega
        rw [this, Int32.ofInt_toInt]
  case h_18 => exact hret h
  case h_19 => exact hret h
  case h_20 => exact hret h
  case h_21 => exact hmm _ h (fun st' w' k => k)
/-- a table of instructions is the code's -/
def bs_okE (cc : ByteArray) (nL : Nat) (q : bs_En) : Bool := decide (decode cc q.1 = .ok (q.2.1, q.2.2.1)) && (bs_lenOk q.2.1 q.2.2.1 && (bs_locOk q.2.1 nL && bs_au q.1 q.2.1 q.2.2.2))
theorem bs_TC_ok (hx : p.tables.exec = Jvm.exec) (hb : c.code = cc) {mm : List Nat → Instr → List Value → ω → (List Value → ω → Prop) → Prop} {code : List bs_En} (hcode : code.all (bs_okE cc nL) = true) {rt : Option FieldType} {Qr : Option Value → ω → Prop}
    (hmm : ∀ (q : bs_En) (ll : bs_Lo) (st : List Value) (w : ω) (K : List Value → ω → Prop), q ∈ code → decode cc q.1 = .ok (q.2.1, q.2.2.1) → bs_lenOk q.2.1 q.2.2.1 = true → mm q.2.2.2 q.2.1 st w K → (∀ st' w', K st' w' → bs_Sim p l e R s m args below meth c A H0 ad Hw nL Q (q.1 + q.2.2.1) ll st' w') → bs_Sim p l e R s m args below meth c A H0 ad Hw nL Q q.1 ll st w)
    (hret : ∀ (q : bs_En) (ll : bs_Lo) (st : List Value) (w : ω), q ∈ code → decode cc q.1 = .ok (q.2.1, q.2.2.1) → bs_lenOk q.2.1 q.2.2.1 = true → bs_rt q.2.1 rt st (fun v => Qr v w) → bs_Sim p l e R s m args below meth c A H0 ad Hw nL Q q.1 ll st w)
    {pc : Nat} {ll : bs_Lo} {st : List Value} {w : ω} (h : bs_TC mm code rt Qr pc ll st w) : bs_Sim p l e R s m args below meth c A H0 ad Hw nL Q pc ll st w := by
  refine h (bs_Sim p l e R s m args below meth c A H0 ad Hw nL Q) (fun pc ll st w k => ?_)
  unfold bs_ST at k
  split at k
  · rename_i x hxx
    have hmem := bs_fnd_mem hxx
    have h1 := List.all_eq_true.mp hcode _ hmem
    simp only [bs_okE, Bool.and_eq_true, decide_eq_true_eq] at h1
    obtain ⟨g1, g2, g3, g4⟩ := h1
    exact bs_stp_ok hx hb g1 g2 g3 g4 (fun K a b => hmm (pc, x) ll st w K hmem g1 g2 a b) (fun a => hret (pc, x) ll st w hmem g1 g2 a) k
  · cases k
end BSS
