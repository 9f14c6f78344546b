/-! THE ABSTRACT MACHINE. Values by relative references (bs_cv ad), locals by place, a world of any kind; one step, the least fixed point, regions; against the kit's W. -/
def bs_cv (ad : Nat → Nat) (v : Value) : Value := match v with
  | .ref i => .ref (ad i)
  | .int x => .int x
  | .long x => .long x
  | .float x => .float x
  | .double x => .double x
  | .null => .null
  | .retAddr p => .retAddr p
theorem bs_cv_cat (ad : Nat → Nat) (v : Value) : (bs_cv ad v).category = v.category := by cases v <;> rfl
abbrev bs_Lo : Type := List (Option Value)
def bs_Lh (ad : Nat → Nat) (ls : Array Slot) (nL : Nat) (ll : bs_Lo) : Prop := ls.size = nL ∧ lv_wf ls ∧ ∀ (i : Nat) (v : Value), ll[i]? = some (some v) → ls[i]? = some (.val (bs_cv ad v))
def bs_c2 (o : Option (Option Value)) : Bool := match o with
  | some (some (.long _)) => true
  | some (some (.double _)) => true
  | _ => false
def bs_clr (ll : bs_Lo) (i : Nat) : bs_Lo := match i with
  | 0 => ll
  | i + 1 => match bs_c2 ll[i]? with
    | true => ll.set i none
    | false => ll
def bs_st1 (ll : bs_Lo) (i : Nat) (v : Value) : bs_Lo := (bs_clr ll i).set i (some v)
def bs_st2 (ll : bs_Lo) (i : Nat) (v : Value) : bs_Lo := ((bs_clr ll i).set i (some v)).set (i + 1) none
theorem bs_clr_get {ll : bs_Lo} {i j : Nat} {w : Value} (h : (bs_clr ll i)[j]? = some (some w)) : ll[j]? = some (some w) ∧ ¬ (j + 1 = i ∧ w.category = 2) := by
  cases i with
  | zero => exact ⟨h, fun q => by omega⟩
  | succ i =>
    unfold bs_clr at h
    dsimp only at h
    cases hc : bs_c2 ll[i]? with
    | true =>
      rw [hc] at h
      dsimp only at h
      by_cases e : j = i
      · subst e
        rw [List.getElem?_set] at h
        split at h
        · split at h <;> simp at h
        · rename_i q; exact absurd rfl q
      · rw [List.getElem?_set_ne (fun q => e q.symm)] at h
        exact ⟨h, fun q => e (by omega)⟩
    | false =>
      rw [hc] at h
      dsimp only at h
      refine ⟨h, fun q => ?_⟩
      obtain ⟨q1, q2⟩ := q
      have : j = i := by omega
      subst this
      rw [h] at hc
      cases w <;> simp_all [bs_c2, Value.category]
theorem bs_store1 {ad : Nat → Nat} {ls : Array Slot} {nL : Nat} {ll : bs_Lo} {i : Nat} {v : Value} (h : bs_Lh ad ls nL ll) (hi : i < nL) (hc : v.category = 1) : ∃ ls', storeLocals ls i (bs_cv ad v) = some ls' ∧ bs_Lh ad ls' nL (bs_st1 ll i v) := by
  obtain ⟨h1, h2, h3⟩ := h
  have hc' : (bs_cv ad v).category = 1 := by rw [bs_cv_cat]; exact hc
  obtain ⟨ls', e', a1, a2, a3⟩ := lv_store1 (l := []) (v := bs_cv ad v) ⟨h1, h2, fun q hq => by cases hq⟩ hi hc'
  refine ⟨ls', e', a1, a2, fun j w hj => ?_⟩
  unfold bs_st1 at hj
  by_cases e : j = i
  · subst e
    rw [List.getElem?_set] at hj
    split at hj
    · split at hj
      · cases hj
        exact a3 (j, bs_cv ad v) List.mem_cons_self
      · cases hj
    · rename_i q; exact absurd rfl q
  · rw [List.getElem?_set_ne (fun q => e q.symm)] at hj
    obtain ⟨b1, b2⟩ := bs_clr_get hj
    obtain ⟨ls'', e'', -, -, c3⟩ := lv_store1 (l := [(j, bs_cv ad w)]) (v := bs_cv ad v) ⟨h1, h2, fun q hq => by
      rw [List.mem_singleton.mp hq]; exact h3 j w b1⟩ hi hc'
    rw [e'] at e''
    cases e''
    refine c3 (j, bs_cv ad w) (List.mem_cons_of_mem _ (List.mem_filter.mpr ⟨List.mem_singleton.mpr rfl, ?_⟩))
    simp only [Bool.and_eq_true, Bool.not_eq_true', beq_eq_false_iff_ne, ne_eq, Bool.and_eq_false_iff]
    refine ⟨e, ?_⟩
    by_cases q : j + 1 = i
    · exact Or.inr (fun z => b2 ⟨q, by rw [← bs_cv_cat ad]; exact z⟩)
    · exact Or.inl q
theorem bs_store2 {ad : Nat → Nat} {ls : Array Slot} {nL : Nat} {ll : bs_Lo} {i : Nat} {v : Value} (h : bs_Lh ad ls nL ll) (hi : i + 1 < nL) (hc : v.category = 2) : ∃ ls', storeLocals ls i (bs_cv ad v) = some ls' ∧ bs_Lh ad ls' nL (bs_st2 ll i v) := by
  obtain ⟨h1, h2, h3⟩ := h
  have hc' : (bs_cv ad v).category = 2 := by rw [bs_cv_cat]; exact hc
  obtain ⟨ls', e', a1, a2, a3⟩ := lv_store2 (l := []) (v := bs_cv ad v) ⟨h1, h2, fun q hq => by cases hq⟩ hi hc'
  refine ⟨ls', e', a1, a2, fun j w hj => ?_⟩
  unfold bs_st2 at hj
  by_cases e2 : j = i + 1
  · subst e2
    rw [List.getElem?_set] at hj
    split at hj
    · split at hj <;> simp at hj
    · rename_i q; exact absurd rfl q
  · rw [List.getElem?_set_ne (fun q => e2 q.symm)] at hj
    by_cases e : j = i
    · subst e
      rw [List.getElem?_set] at hj
      split at hj
      · split at hj
        · cases hj
          exact a3 (j, bs_cv ad v) List.mem_cons_self
        · cases hj
      · rename_i q; exact absurd rfl q
    · rw [List.getElem?_set_ne (fun q => e q.symm)] at hj
      obtain ⟨b1, b2⟩ := bs_clr_get hj
      obtain ⟨ls'', e'', -, -, c3⟩ := lv_store2 (l := [(j, bs_cv ad w)]) (v := bs_cv ad v) ⟨h1, h2, fun q hq => by
        rw [List.mem_singleton.mp hq]; exact h3 j w b1⟩ hi hc'
      rw [e'] at e''
      cases e''
      refine c3 (j, bs_cv ad w) (List.mem_cons_of_mem _ (List.mem_filter.mpr ⟨List.mem_singleton.mpr rfl, ?_⟩))
      simp only [Bool.and_eq_true, Bool.not_eq_true', beq_eq_false_iff_ne, ne_eq, Bool.and_eq_false_iff]
      refine ⟨e, e2, ?_⟩
      by_cases q : j + 1 = i
      · exact Or.inr (fun z => b2 ⟨q, by rw [← bs_cv_cat ad]; exact z⟩)
      · exact Or.inl q
/-! stack patterns -/
def bs_i (st : List Value) (k : Int32 → List Value → Prop) : Prop := match st with
  | .int x :: r => k x r
  | _ => False
def bs_l (st : List Value) (k : Int64 → List Value → Prop) : Prop := match st with
  | .long x :: r => k x r
  | _ => False
def bs_r (st : List Value) (k : Nat → List Value → Prop) : Prop := match st with
  | .ref x :: r => k x r
  | _ => False
def bs_v1 (st : List Value) (k : Value → List Value → Prop) : Prop := match st with
  | .int x :: r => k (.int x) r
  | .ref x :: r => k (.ref x) r
  | .null :: r => k .null r
  | _ => False
def bs_ii (st : List Value) (k : Int32 → Int32 → List Value → Prop) : Prop := bs_i st fun y r => bs_i r fun x r => k x y r
def bs_ll (st : List Value) (k : Int64 → Int64 → List Value → Prop) : Prop := bs_l st fun y r => bs_l r fun x r => k x y r
def bs_li (st : List Value) (k : Int64 → Int32 → List Value → Prop) : Prop := bs_i st fun y r => bs_l r fun x r => k x y r
def bs_irem (x y : Int32) : Int32 := x - x / y * y
def bs_lrem (x y : Int64) : Int64 := x - x / y * y
/-- instructions that touch the stack alone -/
def bs_pur (i : Instr) (st : List Value) (k : List Value → Prop) : Prop := match i with
  | .iconst n => k (.int (Int32.ofInt n) :: st)
  | .bipush n => k (.int (Int8.ofInt n).toInt32 :: st)
  | .sipush n => k (.int (Int16.ofInt n).toInt32 :: st)
  | .lconst n => k (.long (Int64.ofNat n.val) :: st)
  | .aconst_null => k (.null :: st)
  | .iadd => bs_ii st fun x y r => k (.int (x + y) :: r)
  | .isub => bs_ii st fun x y r => k (.int (x - y) :: r)
  | .imul => bs_ii st fun x y r => k (.int (x * y) :: r)
  | .iand => bs_ii st fun x y r => k (.int (x &&& y) :: r)
  | .ior => bs_ii st fun x y r => k (.int (x ||| y) :: r)
  | .ixor => bs_ii st fun x y r => k (.int (x ^^^ y) :: r)
  | .idiv => bs_ii st fun x y r => ¬ y = 0 ∧ k (.int (x / y) :: r)
  | .irem => bs_ii st fun x y r => ¬ y = 0 ∧ k (.int (bs_irem x y) :: r)
  | .ineg => bs_i st fun x r => k (.int (-x) :: r)
  | .ishl => bs_ii st fun x y r => k (.int (x <<< (y &&& 31)) :: r)
  | .ishr => bs_ii st fun x y r => k (.int (x >>> (y &&& 31)) :: r)
  | .iushr => bs_ii st fun x y r => k (.int (x.toUInt32 >>> (y.toUInt32 &&& Int32.toUInt32 31)).toInt32 :: r)
  | .ladd => bs_ll st fun x y r => k (.long (x + y) :: r)
  | .lsub => bs_ll st fun x y r => k (.long (x - y) :: r)
  | .lmul => bs_ll st fun x y r => k (.long (x * y) :: r)
  | .land => bs_ll st fun x y r => k (.long (x &&& y) :: r)
  | .lor => bs_ll st fun x y r => k (.long (x ||| y) :: r)
  | .lxor => bs_ll st fun x y r => k (.long (x ^^^ y) :: r)
  | .ldiv => bs_ll st fun x y r => ¬ y = 0 ∧ k (.long (x / y) :: r)
  | .lrem => bs_ll st fun x y r => ¬ y = 0 ∧ k (.long (bs_lrem x y) :: r)
  | .lneg => bs_l st fun x r => k (.long (-x) :: r)
  | .lshl => bs_li st fun x y r => k (.long (x <<< (y.toInt64 &&& 63)) :: r)
  | .lshr => bs_li st fun x y r => k (.long (x >>> (y.toInt64 &&& 63)) :: r)
  | .lushr => bs_li st fun x y r => k (.long (x.toUInt64 >>> (y.toInt64.toUInt64 &&& Int64.toUInt64 63)).toInt64 :: r)
  | .lcmp => bs_ll st fun x y r => k (.int (lg_cmp x y) :: r)
  | .i2l => bs_i st fun x r => k (.long x.toInt64 :: r)
  | .l2i => bs_l st fun x r => k (.int x.toInt32 :: r)
  | .i2b => bs_i st fun x r => k (.int x.toInt8.toInt32 :: r)
  | .i2c => bs_i st fun x r => k (.int (x.toUInt32 % 65536).toInt32 :: r)
  | .dup => bs_v1 st fun v r => k (v :: v :: r)
  | .pop => bs_v1 st fun _ r => k r
  | .dup_x1 => bs_v1 st fun v r => bs_v1 r fun u r => k (v :: u :: v :: r)
  | .dup_x2 => bs_v1 st fun v r => bs_v1 r fun u r => bs_v1 r fun z r => k (v :: u :: z :: v :: r)
  | .dup2 => match st with
    | .long x :: r => k (.long x :: .long x :: r)
    | _ => bs_v1 st fun v r => bs_v1 r fun u r => k (v :: u :: v :: u :: r)
  | .pop2 => match st with
    | .long _ :: r => k r
    | _ => bs_v1 st fun _ r => bs_v1 r fun _ r => k r
  | _ => False
def bs_cnd (c : Jvm.ClassFile.Cond) (x y : Int32) : Prop := match c with
  | .eq => x = y
  | .ne => ¬ x = y
  | .lt => x < y
  | .ge => y ≤ x
  | .gt => y < x
  | .le => x ≤ y
def bs_swt (x : Int32) : Int → List Nat → (Nat → Prop) → Prop
  | _, [], _ => True
  | v, t :: r, K => (x = Int32.ofInt v → K t) ∧ bs_swt x (v + 1) r K
def bs_nar (rt : Option FieldType) (x : Int32) : Prop := match rt with
  | some .int => True
  | some ty => narrow ty (.int x) = .int x
  | none => False
/-- the ends of a method -/
def bs_rt (i : Instr) (rt : Option FieldType) (st : List Value) (k : Option Value → Prop) : Prop := match i with
  | .ireturn => match st with
    | [.int x] => bs_nar rt x ∧ k (some (.int x))
    | _ => False
  | .lreturn => match st with
    | [.long x] => rt = some .long ∧ k (some (.long x))
    | _ => False
  | .return_ => match st with
    | [] => rt = none ∧ k none
    | _ => False
  | _ => False
abbrev bs_En : Type := Nat × Instr × Nat × List Nat
section BSM
variable {ω : Type}
/-- one instruction: i of length len with its numbers au (targets; a field's, a constant's place) -/
def bs_stp (mm : List Nat → Instr → List Value → ω → (List Value → ω → Prop) → Prop) (i : Instr) (len : Nat) (au : List Nat) (pc : Nat) (ll : bs_Lo) (st : List Value) (w : ω) (rt : Option FieldType) (K : Nat → bs_Lo → List Value → ω → Prop) (Qr : Option Value → ω → Prop) : Prop := match i with
  | .iload j => match ll[j]? with
    | some (some (.int x)) => K (pc + len) ll (.int x :: st) w
    | _ => False
  | .iload_n j => match ll[j.val]? with
    | some (some (.int x)) => K (pc + len) ll (.int x :: st) w
    | _ => False
  | .lload j => match ll[j]? with
    | some (some (.long x)) => K (pc + len) ll (.long x :: st) w
    | _ => False
  | .lload_n j => match ll[j.val]? with
    | some (some (.long x)) => K (pc + len) ll (.long x :: st) w
    | _ => False
  | .aload j => match ll[j]? with
    | some (some (.ref x)) => K (pc + len) ll (.ref x :: st) w
    | some (some .null) => K (pc + len) ll (.null :: st) w
    | _ => False
  | .aload_n j => match ll[j.val]? with
    | some (some (.ref x)) => K (pc + len) ll (.ref x :: st) w
    | some (some .null) => K (pc + len) ll (.null :: st) w
    | _ => False
  | .istore j => bs_i st fun x r => K (pc + len) (bs_st1 ll j (.int x)) r w
  | .istore_n j => bs_i st fun x r => K (pc + len) (bs_st1 ll j.val (.int x)) r w
  | .lstore j => bs_l st fun x r => K (pc + len) (bs_st2 ll j (.long x)) r w
  | .lstore_n j => bs_l st fun x r => K (pc + len) (bs_st2 ll j.val (.long x)) r w
  | .astore j => bs_r st fun x r => K (pc + len) (bs_st1 ll j (.ref x)) r w
  | .astore_n j => bs_r st fun x r => K (pc + len) (bs_st1 ll j.val (.ref x)) r w
  | .iinc j n => match ll[j]? with
    | some (some (.int x)) => K (pc + len) (bs_st1 ll j (.int (x + Int32.ofInt n))) st w
    | _ => False
  | .goto _ => K (au.headD 0) ll st w
  | .ifCond c _ => bs_i st fun x r => (bs_cnd c x 0 → K (au.headD 0) ll r w) ∧ (¬ bs_cnd c x 0 → K (pc + len) ll r w)
  | .if_icmp c _ => bs_ii st fun x y r => (bs_cnd c x y → K (au.headD 0) ll r w) ∧ (¬ bs_cnd c x y → K (pc + len) ll r w)
  | .tableswitch _ lo hi _ => bs_i st fun x r => ((x < Int32.ofInt lo ∨ Int32.ofInt hi < x) → K (au.headD 0) ll r w) ∧ bs_swt x lo (au.drop 1) (fun t => K t ll r w)
  | .ireturn => bs_rt .ireturn rt st (fun v => Qr v w)
  | .lreturn => bs_rt .lreturn rt st (fun v => Qr v w)
  | .return_ => bs_rt .return_ rt st (fun v => Qr v w)
  | i => mm au i st w (fun st' w' => K (pc + len) ll st' w')
/-- which numbers an instruction must bear -/
def bs_au (pc : Nat) (i : Instr) (au : List Nat) : Bool := match i with
  | .goto off => decide ((pc : Int) + off = ((au.headD 0 : Nat) : Int))
  | .ifCond _ off => decide ((pc : Int) + off = ((au.headD 0 : Nat) : Int))
  | .if_icmp _ off => decide ((pc : Int) + off = ((au.headD 0 : Nat) : Int))
  | .tableswitch d lo hi offs => decide ((pc : Int) + d = ((au.headD 0 : Nat) : Int)) && decide (offs.toList.map (fun o => (pc : Int) + o) = (au.drop 1).map (fun (t : Nat) => (t : Int))) && decide ((Int32.ofInt lo).toInt = lo) && decide ((Int32.ofInt hi).toInt = hi) && decide (hi - lo + 1 = (offs.toList.length : Int)) && decide (lo ≤ hi)
  | _ => true
def bs_fnd : List bs_En → Nat → Option (Instr × Nat × List Nat)
  | [], _ => none
  | q :: r, pc => match Nat.beq q.1 pc with
    | true => some q.2
    | false => bs_fnd r pc
theorem bs_fnd_mem {code : List bs_En} {pc : Nat} {x : Instr × Nat × List Nat} (h : bs_fnd code pc = some x) : (pc, x) ∈ code := by
  induction code with
  | nil => cases h
  | cons q r ih =>
    unfold bs_fnd at h
    cases hq : Nat.beq q.1 pc with
    | true =>
      rw [hq] at h
      cases h
      have := Nat.eq_of_beq_eq_true hq
      subst this
      exact List.mem_cons_self
    | false =>
      rw [hq] at h
      exact List.mem_cons_of_mem _ (ih h)
def bs_ST (mm : List Nat → Instr → List Value → ω → (List Value → ω → Prop) → Prop) (code : List bs_En) (rt : Option FieldType) (Qr : Option Value → ω → Prop) (pc : Nat) (ll : bs_Lo) (st : List Value) (w : ω) (K : Nat → bs_Lo → List Value → ω → Prop) : Prop := match bs_fnd code pc with
  | some x => bs_stp mm x.1 x.2.1 x.2.2 pc ll st w rt K Qr
  | none => False
/-- from here the method comes to its end with Qr: the least such -/
def bs_TC (mm : List Nat → Instr → List Value → ω → (List Value → ω → Prop) → Prop) (code : List bs_En) (rt : Option FieldType) (Qr : Option Value → ω → Prop) (pc : Nat) (ll : bs_Lo) (st : List Value) (w : ω) : Prop :=
  ∀ P : Nat → bs_Lo → List Value → ω → Prop, (∀ pc ll st w, bs_ST mm code rt Qr pc ll st w P → P pc ll st w) → P pc ll st w
def bs_Mono (mm : List Nat → Instr → List Value → ω → (List Value → ω → Prop) → Prop) : Prop := ∀ au i st w (K K' : List Value → ω → Prop), (∀ st w, K st w → K' st w) → mm au i st w K → mm au i st w K'
theorem bs_i_mono {st : List Value} {k k' : Int32 → List Value → Prop} (h : ∀ x r, k x r → k' x r) (g : bs_i st k) : bs_i st k' := by
  unfold bs_i at *
  split at g
  · exact h _ _ g
  · exact g
theorem bs_l_mono {st : List Value} {k k' : Int64 → List Value → Prop} (h : ∀ x r, k x r → k' x r) (g : bs_l st k) : bs_l st k' := by
  unfold bs_l at *
  split at g
  · exact h _ _ g
  · exact g
theorem bs_r_mono {st : List Value} {k k' : Nat → List Value → Prop} (h : ∀ x r, k x r → k' x r) (g : bs_r st k) : bs_r st k' := by
  unfold bs_r at *
  split at g
  · exact h _ _ g
  · exact g
theorem bs_v1_mono {st : List Value} {k k' : Value → List Value → Prop} (h : ∀ x r, k x r → k' x r) (g : bs_v1 st k) : bs_v1 st k' := by
  unfold bs_v1 at *
  split at g
  · exact h _ _ g
  · exact h _ _ g
  · exact h _ _ g
  · exact g
theorem bs_ii_mono {st : List Value} {k k' : Int32 → Int32 → List Value → Prop} (h : ∀ x y r, k x y r → k' x y r) (g : bs_ii st k) : bs_ii st k' := bs_i_mono (fun y r g => bs_i_mono (fun x r g => h x y r g) g) g
theorem bs_ll_mono {st : List Value} {k k' : Int64 → Int64 → List Value → Prop} (h : ∀ x y r, k x y r → k' x y r) (g : bs_ll st k) : bs_ll st k' := bs_l_mono (fun y r g => bs_l_mono (fun x r g => h x y r g) g) g
theorem bs_li_mono {st : List Value} {k k' : Int64 → Int32 → List Value → Prop} (h : ∀ x y r, k x y r → k' x y r) (g : bs_li st k) : bs_li st k' := bs_i_mono (fun y r g => bs_l_mono (fun x r g => h x y r g) g) g
theorem bs_swt_mono {x : Int32} {v : Int} {ts : List Nat} {k k' : Nat → Prop} (h : ∀ t, k t → k' t) (g : bs_swt x v ts k) : bs_swt x v ts k' := by
  induction ts generalizing v with
  | nil => exact trivial
  | cons t r ih => exact ⟨fun e => h _ (g.1 e), ih g.2⟩
theorem bs_pur_mono {i : Instr} {st : List Value} {k k' : List Value → Prop} (h : ∀ st, k st → k' st) (g : bs_pur i st k) : bs_pur i st k' := by
  unfold bs_pur at *
  split at g
  case h_39 => split at g
               · exact h _ g
               · exact bs_v1_mono (fun _ _ g => bs_v1_mono (fun _ _ g => h _ g) g) g
  case h_40 => split at g
               · exact h _ g
               · exact bs_v1_mono (fun _ _ g => bs_v1_mono (fun _ _ g => h _ g) g) g
  all_goals first
    | exact h _ g
    | exact bs_ii_mono (fun _ _ _ g => h _ g) g
    | exact bs_ii_mono (fun _ _ _ g => ⟨g.1, h _ g.2⟩) g
    | exact bs_ll_mono (fun _ _ _ g => h _ g) g
    | exact bs_ll_mono (fun _ _ _ g => ⟨g.1, h _ g.2⟩) g
    | exact bs_li_mono (fun _ _ _ g => h _ g) g
    | exact bs_i_mono (fun _ _ g => h _ g) g
    | exact bs_l_mono (fun _ _ g => h _ g) g
    | exact bs_v1_mono (fun _ _ g => h _ g) g
    | exact bs_v1_mono (fun _ _ g => bs_v1_mono (fun _ _ g => h _ g) g) g
    | exact bs_v1_mono (fun _ _ g => bs_v1_mono (fun _ _ g => bs_v1_mono (fun _ _ g => h _ g) g) g) g
    | exact g
theorem bs_rt_mono {i : Instr} {rt : Option FieldType} {st : List Value} {k k' : Option Value → Prop} (h : ∀ v, k v → k' v) (g : bs_rt i rt st k) : bs_rt i rt st k' := by
  unfold bs_rt at *
  split at g
  all_goals first
    | (split at g
       · exact ⟨g.1, h _ g.2⟩
       · exact g)
    | exact g
theorem bs_stp_mono {mm : List Nat → Instr → List Value → ω → (List Value → ω → Prop) → Prop} (hm : bs_Mono mm) {i : Instr} {len : Nat} {au : List Nat} {pc : Nat} {ll : bs_Lo} {st : List Value} {w : ω} {rt : Option FieldType} {K K' : Nat → bs_Lo → List Value → ω → Prop} {Qr Qr' : Option Value → ω → Prop} (h : ∀ pc ll st w, K pc ll st w → K' pc ll st w) (hq : ∀ v w, Qr v w → Qr' v w) (g : bs_stp mm i len au pc ll st w rt K Qr) : bs_stp mm i len au pc ll st w rt K' Qr' := by
  unfold bs_stp at *
  split at g
  all_goals first
    | exact h _ _ _ _ g
    | exact bs_i_mono (fun _ _ g => h _ _ _ _ g) g
    | exact bs_l_mono (fun _ _ g => h _ _ _ _ g) g
    | exact bs_r_mono (fun _ _ g => h _ _ _ _ g) g
    | exact bs_i_mono (fun _ _ g => ⟨fun e => h _ _ _ _ (g.1 e), fun e => h _ _ _ _ (g.2 e)⟩) g
    | exact bs_ii_mono (fun _ _ _ g => ⟨fun e => h _ _ _ _ (g.1 e), fun e => h _ _ _ _ (g.2 e)⟩) g
    | exact bs_i_mono (fun _ _ g => ⟨fun e => h _ _ _ _ (g.1 e), bs_swt_mono (fun _ g => h _ _ _ _ g) g.2⟩) g
    | exact bs_rt_mono (fun _ g => hq _ _ g) g
    | exact hm _ _ _ _ _ _ (fun _ _ g => h _ _ _ _ g) g
    | (split at g
       · exact h _ _ _ _ g
       · exact h _ _ _ _ g
       · exact g)
    | (split at g
       · exact h _ _ _ _ g
       · exact g)
theorem bs_TC_step {mm : List Nat → Instr → List Value → ω → (List Value → ω → Prop) → Prop} (hm : bs_Mono mm) {code : List bs_En} {rt : Option FieldType} {Qr : Option Value → ω → Prop} {pc : Nat} {ll : bs_Lo} {st : List Value} {w : ω} (g : bs_ST mm code rt Qr pc ll st w (bs_TC mm code rt Qr)) : bs_TC mm code rt Qr pc ll st w := by
  intro P hP
  refine hP pc ll st w ?_
  unfold bs_ST at *
  split at g
  · exact bs_stp_mono hm (fun pc ll st w k => k P hP) (fun _ _ k => k) g
  · exact g
theorem bs_TC_mono {mm : List Nat → Instr → List Value → ω → (List Value → ω → Prop) → Prop} (hm : bs_Mono mm) {code : List bs_En} {rt : Option FieldType} {Qr Qr' : Option Value → ω → Prop} (hq : ∀ v w, Qr v w → Qr' v w) {pc : Nat} {ll : bs_Lo} {st : List Value} {w : ω} (g : bs_TC mm code rt Qr pc ll st w) : bs_TC mm code rt Qr' pc ll st w := by
  intro P hP
  refine g P (fun pc ll st w k => hP pc ll st w ?_)
  unfold bs_ST at *
  split at k
  · exact bs_stp_mono hm (fun _ _ _ _ k => k) hq k
  · exact k
/-- a region: from pc on, up to the places in stops -/
def bs_rg (mm : List Nat → Instr → List Value → ω → (List Value → ω → Prop) → Prop) (code : List bs_En) (rt : Option FieldType) (Qr : Option Value → ω → Prop) (stops : List Nat) : Nat → Nat → bs_Lo → List Value → ω → (Nat → bs_Lo → List Value → ω → Prop) → Prop
  | 0, pc, ll, st, w, P => P pc ll st w
  | f + 1, pc, ll, st, w, P => bs_ST mm code rt Qr pc ll st w (fun pc' ll' st' w' => match stops.contains pc' with
    | true => P pc' ll' st' w'
    | false => bs_rg mm code rt Qr stops f pc' ll' st' w' P)
theorem bs_rg_ok {mm : List Nat → Instr → List Value → ω → (List Value → ω → Prop) → Prop} (hm : bs_Mono mm) {code : List bs_En} {rt : Option FieldType} {Qr : Option Value → ω → Prop} (stops : List Nat) (f : Nat) {pc : Nat} {ll : bs_Lo} {st : List Value} {w : ω} (g : bs_rg mm code rt Qr stops f pc ll st w (bs_TC mm code rt Qr)) : bs_TC mm code rt Qr pc ll st w := by
  induction f generalizing pc ll st w with
  | zero => exact g
  | succ f ih =>
    refine bs_TC_step hm ?_
    unfold bs_rg at g
    unfold bs_ST at *
    split at g
    · refine bs_stp_mono hm (fun pc ll st w k => ?_) (fun _ _ k => k) g
      split at k
      · exact k
      · exact ih k
    · exact g
end BSM
