/-! THE ABSTRACT MACHINE once more, for worlds that grow: mm may jump; areturn, lookupswitch beside. -/
set_option maxRecDepth 100000
/-- the ends of a method, a reference among them -/
def bt_rt (i : Instr) (rt : Option FieldType) (st : List Value) (k : Option Value → Prop) : Prop := match i with
  | .ireturn => match st with
    | [.int x] => bs_nar rt x ∧ k (some (.int x))
    | _ => False
  | .lreturn => match st with
    | [.long x] => rt = some .long ∧ k (some (.long x))
    | _ => False
  | .areturn => match st with
    | [.ref x] => (∃ ty : FieldType, rt = some ty ∧ ty.isReference = true) ∧ k (some (.ref x))
    | _ => False
  | .return_ => match st with
    | [] => rt = none ∧ k none
    | _ => False
  | _ => False
def bt_lsw (x : Int32) : List Int → List Nat → Prop → (Nat → Prop) → Prop
  | v :: vs, t :: ts, d, K => (x = Int32.ofInt v → K t) ∧ (¬ x = Int32.ofInt v → bt_lsw x vs ts d K)
  | _, _, d, _ => d
theorem bt_lsw_mono {x : Int32} {vs : List Int} {ts : List Nat} {d d' : Prop} {k k' : Nat → Prop} (hd : d → d') (h : ∀ t, k t → k' t) (g : bt_lsw x vs ts d k) : bt_lsw x vs ts d' k' := by
  induction vs generalizing ts with
  | nil => exact hd g
  | cons v vs ih =>
    cases ts with
    | nil => exact hd g
    | cons t ts => exact ⟨fun e => h _ (g.1 e), fun e => ih (g.2 e)⟩
section BTM
variable {ω : Type}
/-- one instruction: i of length len with its numbers au (targets; a field's, a constant's place) -/
def bt_stp (mm : List Nat → Instr → List Value → ω → (List Value → ω → Prop) → (List Value → ω → Prop) → Prop) (i : Instr) (len : Nat) (au : List Nat) (pc : Nat) (ll : bs_Lo) (st : List Value) (w : ω) (rt : Option FieldType) (K : Nat → bs_Lo → List Value → ω → Prop) (Qr : Option Value → ω → Prop) : Prop := match i with
  | .iload j => match ll[j]? with
    | some (some (.int x)) => K (pc + len) ll (.int x :: st) w
    | _ => False
  | .iload_n j => match ll[j.val]? with
    | some (some (.int x)) => K (pc + len) ll (.int x :: st) w
    | _ => False
  | .lload j => match ll[j]? with
    | some (some (.long x)) => K (pc + len) ll (.long x :: st) w
    | _ => False
  | .lload_n j => match ll[j.val]? with
    | some (some (.long x)) => K (pc + len) ll (.long x :: st) w
    | _ => False
  | .aload j => match ll[j]? with
    | some (some (.ref x)) => K (pc + len) ll (.ref x :: st) w
    | some (some .null) => K (pc + len) ll (.null :: st) w
    | _ => False
  | .aload_n j => match ll[j.val]? with
    | some (some (.ref x)) => K (pc + len) ll (.ref x :: st) w
    | some (some .null) => K (pc + len) ll (.null :: st) w
    | _ => False
  | .istore j => bs_i st fun x r => K (pc + len) (bs_st1 ll j (.int x)) r w
  | .istore_n j => bs_i st fun x r => K (pc + len) (bs_st1 ll j.val (.int x)) r w
  | .lstore j => bs_l st fun x r => K (pc + len) (bs_st2 ll j (.long x)) r w
  | .lstore_n j => bs_l st fun x r => K (pc + len) (bs_st2 ll j.val (.long x)) r w
  | .astore j => bs_r st fun x r => K (pc + len) (bs_st1 ll j (.ref x)) r w
  | .astore_n j => bs_r st fun x r => K (pc + len) (bs_st1 ll j.val (.ref x)) r w
  | .iinc j n => match ll[j]? with
    | some (some (.int x)) => K (pc + len) (bs_st1 ll j (.int (x + Int32.ofInt n))) st w
    | _ => False
  | .goto _ => K (au.headD 0) ll st w
  | .ifCond c _ => bs_i st fun x r => (bs_cnd c x 0 → K (au.headD 0) ll r w) ∧ (¬ bs_cnd c x 0 → K (pc + len) ll r w)
  | .if_icmp c _ => bs_ii st fun x y r => (bs_cnd c x y → K (au.headD 0) ll r w) ∧ (¬ bs_cnd c x y → K (pc + len) ll r w)
  | .tableswitch _ lo hi _ => bs_i st fun x r => ((x < Int32.ofInt lo ∨ Int32.ofInt hi < x) → K (au.headD 0) ll r w) ∧ bs_swt x lo (au.drop 1) (fun t => K t ll r w)
  | .lookupswitch _ ps => bs_i st fun x r => bt_lsw x (ps.toList.map (fun q => q.1)) (au.drop 1) (K (au.headD 0) ll r w) (fun t => K t ll r w)
  | .ireturn => bt_rt .ireturn rt st (fun v => Qr v w)
  | .areturn => bt_rt .areturn rt st (fun v => Qr v w)
  | .lreturn => bt_rt .lreturn rt st (fun v => Qr v w)
  | .return_ => bt_rt .return_ rt st (fun v => Qr v w)
  | i => mm au i st w (fun st' w' => K (pc + len) ll st' w') (fun st' w' => K (au.headD 0) ll st' w')
/-- which numbers an instruction must bear -/
def bt_au (pc : Nat) (i : Instr) (au : List Nat) : Bool := match i with
  | .goto off => decide ((pc : Int) + off = ((au.headD 0 : Nat) : Int))
  | .ifCond _ off => decide ((pc : Int) + off = ((au.headD 0 : Nat) : Int))
  | .if_icmp _ off => decide ((pc : Int) + off = ((au.headD 0 : Nat) : Int))
  | .tableswitch d lo hi offs => decide ((pc : Int) + d = ((au.headD 0 : Nat) : Int)) && decide (offs.toList.map (fun o => (pc : Int) + o) = (au.drop 1).map (fun (t : Nat) => (t : Int))) && decide ((Int32.ofInt lo).toInt = lo) && decide ((Int32.ofInt hi).toInt = hi) && decide (hi - lo + 1 = (offs.toList.length : Int)) && decide (lo ≤ hi)
  | .if_acmp _ off => decide ((pc : Int) + off = ((au.headD 0 : Nat) : Int))
  | .ifnull off => decide ((pc : Int) + off = ((au.headD 0 : Nat) : Int))
  | .ifnonnull off => decide ((pc : Int) + off = ((au.headD 0 : Nat) : Int))
  | .lookupswitch d ps => decide ((pc : Int) + d = ((au.headD 0 : Nat) : Int)) && decide (ps.toList.map (fun q => (pc : Int) + q.2) = (au.drop 1).map (fun (t : Nat) => (t : Int))) && ps.toList.all (fun q => decide ((Int32.ofInt q.1).toInt = q.1)) && (ps.toList.zip (ps.toList.drop 1)).all (fun (a, next) => a.1 < next.1)
  | _ => true
def bt_ST (mm : List Nat → Instr → List Value → ω → (List Value → ω → Prop) → (List Value → ω → Prop) → Prop) (code : List bs_En) (rt : Option FieldType) (Qr : Option Value → ω → Prop) (pc : Nat) (ll : bs_Lo) (st : List Value) (w : ω) (K : Nat → bs_Lo → List Value → ω → Prop) : Prop := match bs_fnd code pc with
  | some x => bt_stp mm x.1 x.2.1 x.2.2 pc ll st w rt K Qr
  | none => False
/-- from here the method comes to its end with Qr: the least such -/
def bt_TC (mm : List Nat → Instr → List Value → ω → (List Value → ω → Prop) → (List Value → ω → Prop) → Prop) (code : List bs_En) (rt : Option FieldType) (Qr : Option Value → ω → Prop) (pc : Nat) (ll : bs_Lo) (st : List Value) (w : ω) : Prop :=
  ∀ P : Nat → bs_Lo → List Value → ω → Prop, (∀ pc ll st w, bt_ST mm code rt Qr pc ll st w P → P pc ll st w) → P pc ll st w
def bt_Mono (mm : List Nat → Instr → List Value → ω → (List Value → ω → Prop) → (List Value → ω → Prop) → Prop) : Prop := ∀ au i st w (K K' J J' : List Value → ω → Prop), (∀ st w, K st w → K' st w) → (∀ st w, J st w → J' st w) → mm au i st w K J → mm au i st w K' J'
theorem bt_rt_mono {i : Instr} {rt : Option FieldType} {st : List Value} {k k' : Option Value → Prop} (h : ∀ v, k v → k' v) (g : bt_rt i rt st k) : bt_rt i rt st k' := by
  unfold bt_rt at *
  split at g
  all_goals first
    | (split at g
       · exact ⟨g.1, h _ g.2⟩
       · exact g)
    | exact g
theorem bt_stp_mono {mm : List Nat → Instr → List Value → ω → (List Value → ω → Prop) → (List Value → ω → Prop) → Prop} (hm : bt_Mono mm) {i : Instr} {len : Nat} {au : List Nat} {pc : Nat} {ll : bs_Lo} {st : List Value} {w : ω} {rt : Option FieldType} {K K' : Nat → bs_Lo → List Value → ω → Prop} {Qr Qr' : Option Value → ω → Prop} (h : ∀ pc ll st w, K pc ll st w → K' pc ll st w) (hq : ∀ v w, Qr v w → Qr' v w) (g : bt_stp mm i len au pc ll st w rt K Qr) : bt_stp mm i len au pc ll st w rt K' Qr' := by
  unfold bt_stp at *
  split at g
  all_goals first
    | exact h _ _ _ _ g
    | exact bs_i_mono (fun _ _ g => h _ _ _ _ g) g
    | exact bs_l_mono (fun _ _ g => h _ _ _ _ g) g
    | exact bs_r_mono (fun _ _ g => h _ _ _ _ g) g
    | exact bs_i_mono (fun _ _ g => ⟨fun e => h _ _ _ _ (g.1 e), fun e => h _ _ _ _ (g.2 e)⟩) g
    | exact bs_ii_mono (fun _ _ _ g => ⟨fun e => h _ _ _ _ (g.1 e), fun e => h _ _ _ _ (g.2 e)⟩) g
    | exact bs_i_mono (fun _ _ g => ⟨fun e => h _ _ _ _ (g.1 e), bs_swt_mono (fun _ g => h _ _ _ _ g) g.2⟩) g
    | exact bt_rt_mono (fun _ g => hq _ _ g) g
    | exact bs_i_mono (fun _ _ g => bt_lsw_mono (fun g => h _ _ _ _ g) (fun _ g => h _ _ _ _ g) g) g
    | exact hm _ _ _ _ _ _ _ _ (fun _ _ g => h _ _ _ _ g) (fun _ _ g => h _ _ _ _ g) g
    | (split at g
       · exact h _ _ _ _ g
       · exact h _ _ _ _ g
       · exact g)
    | (split at g
       · exact h _ _ _ _ g
       · exact g)
theorem bt_TC_step {mm : List Nat → Instr → List Value → ω → (List Value → ω → Prop) → (List Value → ω → Prop) → Prop} (hm : bt_Mono mm) {code : List bs_En} {rt : Option FieldType} {Qr : Option Value → ω → Prop} {pc : Nat} {ll : bs_Lo} {st : List Value} {w : ω} (g : bt_ST mm code rt Qr pc ll st w (bt_TC mm code rt Qr)) : bt_TC mm code rt Qr pc ll st w := by
  intro P hP
  refine hP pc ll st w ?_
  unfold bt_ST at *
  split at g
  · exact bt_stp_mono hm (fun pc ll st w k => k P hP) (fun _ _ k => k) g
  · exact g
theorem bt_TC_mono {mm : List Nat → Instr → List Value → ω → (List Value → ω → Prop) → (List Value → ω → Prop) → Prop} (hm : bt_Mono mm) {code : List bs_En} {rt : Option FieldType} {Qr Qr' : Option Value → ω → Prop} (hq : ∀ v w, Qr v w → Qr' v w) {pc : Nat} {ll : bs_Lo} {st : List Value} {w : ω} (g : bt_TC mm code rt Qr pc ll st w) : bt_TC mm code rt Qr' pc ll st w := by
  intro P hP
  refine g P (fun pc ll st w k => hP pc ll st w ?_)
  unfold bt_ST at *
  split at k
  · exact bt_stp_mono hm (fun _ _ _ _ k => k) hq k
  · exact k
/-- a region: from pc on, up to the places in stops -/
def bt_rg (mm : List Nat → Instr → List Value → ω → (List Value → ω → Prop) → (List Value → ω → Prop) → Prop) (code : List bs_En) (rt : Option FieldType) (Qr : Option Value → ω → Prop) (stops : List Nat) : Nat → Nat → bs_Lo → List Value → ω → (Nat → bs_Lo → List Value → ω → Prop) → Prop
  | 0, pc, ll, st, w, P => P pc ll st w
  | f + 1, pc, ll, st, w, P => bt_ST mm code rt Qr pc ll st w (fun pc' ll' st' w' => match stops.contains pc' with
    | true => P pc' ll' st' w'
    | false => bt_rg mm code rt Qr stops f pc' ll' st' w' P)
theorem bt_rg_ok {mm : List Nat → Instr → List Value → ω → (List Value → ω → Prop) → (List Value → ω → Prop) → Prop} (hm : bt_Mono mm) {code : List bs_En} {rt : Option FieldType} {Qr : Option Value → ω → Prop} (stops : List Nat) (f : Nat) {pc : Nat} {ll : bs_Lo} {st : List Value} {w : ω} (g : bt_rg mm code rt Qr stops f pc ll st w (bt_TC mm code rt Qr)) : bt_TC mm code rt Qr pc ll st w := by
  induction f generalizing pc ll st w with
  | zero => exact g
  | succ f ih =>
    refine bt_TC_step hm ?_
    unfold bt_rg at g
    unfold bt_ST at *
    split at g
    · refine bt_stp_mono hm (fun pc ll st w k => ?_) (fun _ _ k => k) g
      split at k
      · exact k
      · exact ih k
    · exact g
end BTM
