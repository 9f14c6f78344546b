/-! THE X LAYER's instructions without new cells -/
set_option maxRecDepth 100000
abbrev xV : Type := List Value → xw → (Option Value → xw → Prop) → Prop
/-- nothing is made, no shape altered, no room spent -/
def xSm (w w' : xw) : Prop := xN w' = xN w ∧ xS w' = xS w ∧ xB w' = xB w
theorem xSm.rf {w : xw} : xSm w w := ⟨rfl, rfl, rfl⟩
theorem xSm.tr {a b c : xw} (h : xSm a b) (g : xSm b c) : xSm a c := ⟨g.1.trans h.1, g.2.1.trans h.2.1, g.2.2.trans h.2.2⟩
/-- a call's targets: by the receiver's class -/
def xDsj (w : xw) (a : Nat) (as : List Value) (K : Option Value → xw → Prop) : List (Nat × xV) → Prop
  | [] => False
  | [q] => (xS w a).1 = q.1 + 1 ∧ q.2 (.ref a :: as) w K
  | q :: r => ((xS w a).1 = q.1 + 1 ∧ q.2 (.ref a :: as) w K) ∨ xDsj w a as K r
def xMem (x : Nat) : List Nat → Prop
  | [] => False
  | [c] => x = c
  | c :: r => x = c ∨ xMem x r
/-- calls: pool entry, arguments (without the receiver), how (0 static, 1 virtual, 2 interface, 3 a superclass's, 4 a constructor), targets -/
abbrev xCs : Type := List (Nat × Nat × Nat × List (Nat × xV))
def xLook : xCs → Nat → Option (Nat × Nat × List (Nat × xV))
  | [], _ => none
  | q :: r, i => match Nat.beq q.1 i with
    | true => some q.2
    | false => xLook r i
theorem xLook_mem {cs : xCs} {i : Nat} {x : Nat × Nat × List (Nat × xV)} (h : xLook cs i = some x) : (i, x) ∈ cs := by
  induction cs with
  | nil => cases h
  | cons q r ih =>
    unfold xLook at h
    cases hq : Nat.beq q.1 i with
    | true =>
      rw [hq] at h
      cases h
      have := Nat.eq_of_beq_eq_true hq
      subst this
      exact List.mem_cons_self
    | false =>
      rw [hq] at h
      exact List.mem_cons_of_mem _ (ih h)
def xCallV (okk : Nat → Bool) (cs : xCs) (ix : Nat) (st : List Value) (w : xw) (K : List Value → xw → Prop) : Prop := match xLook cs ix with
  | some (n, k, ts) => match okk k with
    | true => match bs_pop n st [] with
      | some (as, .ref a :: r) => match Nat.ble (bs_cats r) 8 with
        | true => xDsj w a as (fun v w' => K (v.toList ++ r) w') ts
        | false => False
      | _ => False
    | false => False
  | none => False
def xMm0 (ic sx : List (Nat × Value)) (lc : List (Nat × Int64)) (cs : xCs) (au : List Nat) (i : Instr) (st : List Value) (w : xw) (K J : List Value → xw → Prop) : Prop := match i with
  | .getfield _ => match st with
    | .ref a :: r => (xS w a).1 = au.headD 0 + 1 ∧ (match au.getD 2 0 with
      | 1 => K (.long (xL w a (au.getD 1 0)) :: r) w
      | 2 => ¬ xR w a (au.getD 1 0) = 0 ∧ K (.ref (xR w a (au.getD 1 0)) :: r) w
      | _ => K (.int (xI w a (au.getD 1 0)) :: r) w)
    | _ => False
  | .putfield _ => match au.getD 2 0 with
    | 0 => match st with
      | .int x :: .ref a :: r => (xS w a).1 = au.headD 0 + 1 ∧ 256 ≤ a ∧ K r (xUpI w a (au.getD 1 0) x)
      | _ => False
    | 1 => match st with
      | .long x :: .ref a :: r => (xS w a).1 = au.headD 0 + 1 ∧ 256 ≤ a ∧ K r (xUpL w a (au.getD 1 0) x)
      | _ => False
    | 2 => match st with
      | .ref x :: .ref a :: r => (xS w a).1 = au.headD 0 + 1 ∧ 256 ≤ a ∧ ¬ x = 0 ∧ K r (xUpR w a (au.getD 1 0) x)
      | .null :: .ref a :: r => (xS w a).1 = au.headD 0 + 1 ∧ 256 ≤ a ∧ K r (xUpR w a (au.getD 1 0) 0)
      | _ => False
    | _ => match st with
      | .int x :: .ref a :: r => (xS w a).1 = au.headD 0 + 1 ∧ 256 ≤ a ∧ (narrow (xTy (au.headD 0) (au.getD 1 0)) (.int x) = .int x ∧ fits (xTy (au.headD 0) (au.getD 1 0)) (.int x) = true) ∧ K r (xUpI w a (au.getD 1 0) x)
      | _ => False
  | .iaload => match st with
    | .int j :: .ref a :: r => (xS w a).1 = 51 ∧ vp_in j (xS w a).2 ∧ K (.int (xI w a j.toNatClampNeg) :: r) w
    | _ => False
  | .laload => match st with
    | .int j :: .ref a :: r => (xS w a).1 = 52 ∧ vp_in j (xS w a).2 ∧ K (.long (xL w a j.toNatClampNeg) :: r) w
    | _ => False
  | .caload => match st with
    | .int j :: .ref a :: r => (xS w a).1 = 53 ∧ vp_in j (xS w a).2 ∧ K (.int (xI w a j.toNatClampNeg) :: r) w
    | _ => False
  | .baload => match st with
    | .int j :: .ref a :: r => (xS w a).1 = 54 ∧ vp_in j (xS w a).2 ∧ K (.int (xI w a j.toNatClampNeg) :: r) w
    | _ => False
  | .aaload => match st with
    | .int j :: .ref a :: r => (55 ≤ (xS w a).1 ∧ (xS w a).1 ≤ 59) ∧ vp_in j (xS w a).2 ∧ ¬ xR w a j.toNatClampNeg = 0 ∧ K (.ref (xR w a j.toNatClampNeg) :: r) w
    | _ => False
  | .iastore => match st with
    | .int x :: .int j :: .ref a :: r => (xS w a).1 = 51 ∧ 256 ≤ a ∧ vp_in j (xS w a).2 ∧ K r (xUpI w a j.toNatClampNeg x)
    | _ => False
  | .lastore => match st with
    | .long x :: .int j :: .ref a :: r => (xS w a).1 = 52 ∧ 256 ≤ a ∧ vp_in j (xS w a).2 ∧ K r (xUpL w a j.toNatClampNeg x)
    | _ => False
  | .castore => match st with
    | .int x :: .int j :: .ref a :: r => (xS w a).1 = 53 ∧ 256 ≤ a ∧ vp_in j (xS w a).2 ∧ K r (xUpI w a j.toNatClampNeg (vp_nar .char x))
    | _ => False
  | .bastore => match st with
    | .int x :: .int j :: .ref a :: r => (xS w a).1 = 54 ∧ 256 ≤ a ∧ vp_in j (xS w a).2 ∧ K r (xUpI w a j.toNatClampNeg x.toInt8.toInt32)
    | _ => False
  | .aastore => match st with
    | .ref v :: .int j :: .ref a :: r => (xS w a).1 = 56 ∧ 256 ≤ a ∧ (xS w v).1 = 6 ∧ vp_in j (xS w a).2 ∧ K r (xUpR w a j.toNatClampNeg v)
    | _ => False
  | .arraylength => match st with
    | .ref a :: r => (51 ≤ (xS w a).1 ∧ (xS w a).1 ≤ 59) ∧ K (.int (Int32.ofNat (xS w a).2) :: r) w
    | _ => False
  | .ldc _ => K ((ic.getD (au.headD 0) (0, .null)).2 :: st) w
  | .ldc_w _ => K ((ic.getD (au.headD 0) (0, .null)).2 :: st) w
  | .ldc2_w _ => K (.long (lc.getD (au.headD 0) (0, 0)).2 :: st) w
  | .checkcast _ => match st with
    | .ref a :: r => xMem (xS w a).1 au ∧ K (.ref a :: r) w
    | _ => False
  | .getstatic _ => match au.getD 1 0 with
    | 1 => K ((sx.getD (au.headD 0) (0, .null)).2 :: st) w ∧ K (.null :: st) w
    | _ => K ((sx.getD (au.headD 0) (0, .null)).2 :: st) w
  | .instanceof _ => match st with
    | .ref a :: r => xMem (xS w a).1 au ∧ K (.int 1 :: r) w
    | _ => False
  | .if_acmp cd _ => match st with
    | .ref b :: .ref a :: r => (a = b ∨ 256 ≤ a ∨ 256 ≤ b) ∧ (match cd with
      | .eq => (a = b → J r w) ∧ (¬ a = b → K r w)
      | .ne => (¬ a = b → J r w) ∧ (a = b → K r w))
    | _ => False
  | .invokevirtual ix => xCallV (fun k => Nat.beq k 1) cs ix st w K
  | .invokeinterface ix _ => xCallV (fun k => Nat.beq k 2) cs ix st w K
  | .invokespecial ix => xCallV (fun k => Nat.ble 3 k) cs ix st w K
  | .invokestatic ix => match xLook cs ix with
    | some (n, 0, [t]) => match bs_pop n st [] with
      | some (as, r) => match Nat.ble (bs_cats r) 8 with
        | true => t.2 as w (fun v w' => K (v.toList ++ r) w')
        | false => False
      | _ => False
    | _ => False
  | i => bs_pur i st (fun st' => K st' w)
abbrev xMn (V : xV) : Prop := ∀ av w (Qr Qr' : Option Value → xw → Prop), (∀ v w, Qr v w → Qr' v w) → V av w Qr → V av w Qr'
abbrev xKp (V : xV) : Prop := ∀ av w (Qr : Option Value → xw → Prop), V av w Qr → V av w (fun v w' => Qr v w' ∧ xSm w w')
theorem xDsj_mono {w : xw} {a : Nat} {as : List Value} {K K' : Option Value → xw → Prop} (h : ∀ v w, K v w → K' v w) : ∀ (ts : List (Nat × xV)), (∀ q ∈ ts, xMn q.2) → xDsj w a as K ts → xDsj w a as K' ts
  | [], _, g => g
  | [q], hm, g => ⟨g.1, hm q List.mem_cons_self _ _ _ _ h g.2⟩
  | q :: q2 :: r, hm, g => by
    rcases g with g | g
    · exact Or.inl ⟨g.1, hm q List.mem_cons_self _ _ _ _ h g.2⟩
    · exact Or.inr (xDsj_mono h (q2 :: r) (fun q hq => hm q (List.mem_cons_of_mem _ hq)) g)
theorem xDsj_keep {w : xw} {a : Nat} {as : List Value} {K : Option Value → xw → Prop} : ∀ (ts : List (Nat × xV)), (∀ q ∈ ts, xKp q.2) → xDsj w a as K ts → xDsj w a as (fun v w' => K v w' ∧ xSm w w') ts
  | [], _, g => g
  | [q], hm, g => ⟨g.1, hm q List.mem_cons_self _ _ _ g.2⟩
  | q :: q2 :: r, hm, g => by
    rcases g with g | g
    · exact Or.inl ⟨g.1, hm q List.mem_cons_self _ _ _ g.2⟩
    · exact Or.inr (xDsj_keep (q2 :: r) (fun q hq => hm q (List.mem_cons_of_mem _ hq)) g)
/-- a callee of the list: which class, and what it does -/
theorem xDsj_inv {w : xw} {a : Nat} {as : List Value} {K : Option Value → xw → Prop} : ∀ (ts : List (Nat × xV)), xDsj w a as K ts → ∃ q ∈ ts, (xS w a).1 = q.1 + 1 ∧ q.2 (.ref a :: as) w K
  | [], g => g.elim
  | [q], g => ⟨q, List.mem_cons_self, g⟩
  | q :: q2 :: r, g => by
    rcases g with g | g
    · exact ⟨q, List.mem_cons_self, g⟩
    · obtain ⟨x, h1, h2⟩ := xDsj_inv (q2 :: r) g
      exact ⟨x, List.mem_cons_of_mem _ h1, h2⟩
theorem xMem_inv {x : Nat} : ∀ (l : List Nat), xMem x l → x ∈ l
  | [], g => g.elim
  | [c], g => by rw [show x = c from g]; exact List.mem_cons_self
  | c :: c2 :: r, g => by
    rcases g with g | g
    · rw [g]; exact List.mem_cons_self
    · exact List.mem_cons_of_mem _ (xMem_inv (c2 :: r) g)
section XM0
variable {ic sx : List (Nat × Value)} {lc : List (Nat × Int64)} {cs : xCs}
theorem xCallV_mono {okk : Nat → Bool} {ix : Nat} {st : List Value} {w : xw} {K K' : List Value → xw → Prop} (hcs : ∀ q ∈ cs, ∀ t ∈ q.2.2.2, xMn t.2) (h : ∀ st w, K st w → K' st w) (g : xCallV okk cs ix st w K) : xCallV okk cs ix st w K' := by
  unfold xCallV at *
  split at g
  · rename_i n k ts hl
    split at g
    · split at g
      · split at g
        · exact xDsj_mono (fun _ _ g => h _ _ g) ts (hcs _ (xLook_mem hl)) g
        · exact g
      · exact g
    · exact g
  · exact g
theorem xCallV_keep {okk : Nat → Bool} {ix : Nat} {st : List Value} {w : xw} {K : List Value → xw → Prop} (hcs : ∀ q ∈ cs, ∀ t ∈ q.2.2.2, xKp t.2) (g : xCallV okk cs ix st w K) : xCallV okk cs ix st w (fun st' w' => K st' w' ∧ xSm w w') := by
  unfold xCallV at *
  split at g
  · rename_i n k ts hl
    split at g
    · split at g
      · split at g
        · exact xDsj_keep ts (hcs _ (xLook_mem hl)) g
        · exact g
      · exact g
    · exact g
  · exact g
set_option maxHeartbeats 1000000 in
theorem xMm0_mono (hcs : ∀ q ∈ cs, ∀ t ∈ q.2.2.2, xMn t.2) : bt_Mono (xMm0 ic sx lc cs) := by
  intro au i st w K K' J J' h hj g
  unfold xMm0 at *
  split at g
  case h_25 => exact bs_pur_mono (fun _ g => h _ _ g) g
  case h_24 =>
    split at g
    · rename_i n t hl
      split at g
      · split at g
        · exact hcs _ (xLook_mem hl) t List.mem_cons_self _ _ _ _ (fun _ _ g => h _ _ g) g
        · exact g
      · exact g
    · exact g
  case h_1 =>
    split at g
    · refine ⟨g.1, ?_⟩
      have g := g.2
      split at g
      · exact h _ _ g
      · exact ⟨g.1, h _ _ g.2⟩
      · exact h _ _ g
    · exact g
  case h_2 =>
    split at g
    · split at g
      · exact ⟨g.1, g.2.1, h _ _ g.2.2⟩
      · exact g
    · split at g
      · exact ⟨g.1, g.2.1, h _ _ g.2.2⟩
      · exact g
    · split at g
      · exact ⟨g.1, g.2.1, g.2.2.1, h _ _ g.2.2.2⟩
      · exact ⟨g.1, g.2.1, h _ _ g.2.2⟩
      · exact g
    · split at g
      · exact ⟨g.1, g.2.1, g.2.2.1, h _ _ g.2.2.2⟩
      · exact g
  case h_18 =>
    split at g
    · exact ⟨h _ _ g.1, h _ _ g.2⟩
    · exact h _ _ g
  case h_20 =>
    split at g
    · refine ⟨g.1, ?_⟩
      have g := g.2
      split at g
      · exact ⟨fun e => hj _ _ (g.1 e), fun e => h _ _ (g.2 e)⟩
      · exact ⟨fun e => hj _ _ (g.1 e), fun e => h _ _ (g.2 e)⟩
    · exact g
  all_goals first
    | exact h _ _ g
    | exact xCallV_mono hcs h g
    | (split at g
       · exact ⟨g.1, h _ _ g.2⟩
       · exact g)
    | (split at g
       · exact ⟨g.1, g.2.1, h _ _ g.2.2⟩
       · exact g)
    | (split at g
       · exact ⟨g.1, g.2.1, g.2.2.1, h _ _ g.2.2.2⟩
       · exact g)
    | (split at g
       · exact ⟨g.1, g.2.1, g.2.2.1, g.2.2.2.1, h _ _ g.2.2.2.2⟩
       · exact g)
set_option maxHeartbeats 1000000 in
theorem xMm0_keep (hcs : ∀ q ∈ cs, ∀ t ∈ q.2.2.2, xKp t.2) (au : List Nat) (i : Instr) (st : List Value) (w : xw) (K J : List Value → xw → Prop) (g : xMm0 ic sx lc cs au i st w K J) : xMm0 ic sx lc cs au i st w (fun st' w' => K st' w' ∧ xSm w w') (fun st' w' => J st' w' ∧ xSm w w') := by
  unfold xMm0 at *
  split at g
  case h_25 => exact bs_pur_mono (fun _ g => ⟨g, xSm.rf⟩) g
  case h_24 =>
    split at g
    · rename_i n t hl
      split at g
      · split at g
        · exact hcs _ (xLook_mem hl) t List.mem_cons_self _ _ _ g
        · exact g
      · exact g
    · exact g
  case h_1 =>
    split at g
    · refine ⟨g.1, ?_⟩
      have g := g.2
      split at g
      · exact ⟨g, xSm.rf⟩
      · exact ⟨g.1, g.2, xSm.rf⟩
      · exact ⟨g, xSm.rf⟩
    · exact g
  case h_2 =>
    split at g
    · split at g
      · exact ⟨g.1, g.2.1, g.2.2, rfl, rfl, rfl⟩
      · exact g
    · split at g
      · exact ⟨g.1, g.2.1, g.2.2, rfl, rfl, rfl⟩
      · exact g
    · split at g
      · exact ⟨g.1, g.2.1, g.2.2.1, g.2.2.2, rfl, rfl, rfl⟩
      · exact ⟨g.1, g.2.1, g.2.2, rfl, rfl, rfl⟩
      · exact g
    · split at g
      · exact ⟨g.1, g.2.1, g.2.2.1, g.2.2.2, rfl, rfl, rfl⟩
      · exact g
  case h_18 =>
    split at g
    · exact ⟨⟨g.1, xSm.rf⟩, ⟨g.2, xSm.rf⟩⟩
    · exact ⟨g, xSm.rf⟩
  case h_20 =>
    split at g
    · refine ⟨g.1, ?_⟩
      have g := g.2
      split at g
      · exact ⟨fun e => ⟨g.1 e, xSm.rf⟩, fun e => ⟨g.2 e, xSm.rf⟩⟩
      · exact ⟨fun e => ⟨g.1 e, xSm.rf⟩, fun e => ⟨g.2 e, xSm.rf⟩⟩
    · exact g
  all_goals first
    | exact ⟨g, rfl, rfl, rfl⟩
    | exact xCallV_keep hcs g
    | (split at g
       · exact ⟨g.1, g.2, rfl, rfl, rfl⟩
       · exact g)
    | (split at g
       · exact ⟨g.1, g.2.1, g.2.2, rfl, rfl, rfl⟩
       · exact g)
    | (split at g
       · exact ⟨g.1, g.2.1, g.2.2.1, g.2.2.2, rfl, rfl, rfl⟩
       · exact g)
    | (split at g
       · exact ⟨g.1, g.2.1, g.2.2.1, g.2.2.2.1, g.2.2.2.2, rfl, rfl, rfl⟩
       · exact g)
end XM0
/-- what a method of the X layer does, by its table -/
def xDo0 (ic sx : List (Nat × Value)) (lc : List (Nat × Int64)) (cs : xCs) (code : List bs_En) (rt : Option FieldType) (maxL : Nat) : xV := fun av w Qr => match Nat.ble (bs_en1 av).length maxL with
  | true => bt_TC (xMm0 ic sx lc cs) code rt Qr 0 (bs_ent maxL av) [] w
  | false => False
theorem xDo0_mn {ic sx : List (Nat × Value)} {lc : List (Nat × Int64)} {cs : xCs} {code : List bs_En} {rt : Option FieldType} {maxL : Nat} (hcs : ∀ q ∈ cs, ∀ t ∈ q.2.2.2, xMn t.2) : xMn (xDo0 ic sx lc cs code rt maxL) := by
  intro av w Qr Qr' h g
  unfold xDo0 at *
  split at g
  · exact bt_TC_mono (xMm0_mono hcs) h g
  · exact g
/-- steps keep what mm keeps -/
theorem bt_stp_keep {ω : Type} {mm : List Nat → Instr → List Value → ω → (List Value → ω → Prop) → (List Value → ω → Prop) → Prop} (hm : bt_Mono mm) {Sm : ω → ω → Prop} (hr : ∀ w, Sm w w) (hk : ∀ au i st w K J, mm au i st w K J → mm au i st w (fun st' w' => K st' w' ∧ Sm w w') (fun st' w' => J st' w' ∧ Sm w w')) {i : Instr} {len : Nat} {au : List Nat} {pc : Nat} {ll : bs_Lo} {st : List Value} {w : ω} {rt : Option FieldType} {K : Nat → bs_Lo → List Value → ω → Prop} {Qr : Option Value → ω → Prop} (g : bt_stp mm i len au pc ll st w rt K Qr) : bt_stp mm i len au pc ll st w rt (fun pc ll st w' => K pc ll st w' ∧ Sm w w') (fun v w' => Qr v w' ∧ Sm w w') := by
  unfold bt_stp at *
  split at g
  all_goals first
    | exact ⟨g, hr _⟩
    | exact bs_i_mono (fun _ _ g => ⟨g, hr _⟩) g
    | exact bs_l_mono (fun _ _ g => ⟨g, hr _⟩) g
    | exact bs_r_mono (fun _ _ g => ⟨g, hr _⟩) g
    | exact bs_i_mono (fun _ _ g => ⟨fun e => ⟨g.1 e, hr _⟩, fun e => ⟨g.2 e, hr _⟩⟩) g
    | exact bs_ii_mono (fun _ _ _ g => ⟨fun e => ⟨g.1 e, hr _⟩, fun e => ⟨g.2 e, hr _⟩⟩) g
    | exact bs_i_mono (fun _ _ g => ⟨fun e => ⟨g.1 e, hr _⟩, bs_swt_mono (fun _ g => ⟨g, hr _⟩) g.2⟩) g
    | exact bs_i_mono (fun _ _ g => bt_lsw_mono (fun g => ⟨g, hr _⟩) (fun _ g => ⟨g, hr _⟩) g) g
    | exact bt_rt_mono (fun _ g => ⟨g, hr _⟩) g
    | exact hk _ _ _ _ _ _ g
    | (split at g
       · exact ⟨g, hr _⟩
       · exact ⟨g, hr _⟩
       · exact g)
    | (split at g
       · exact ⟨g, hr _⟩
       · exact g)
theorem bt_TC_keep {ω : Type} {mm : List Nat → Instr → List Value → ω → (List Value → ω → Prop) → (List Value → ω → Prop) → Prop} (hm : bt_Mono mm) {Sm : ω → ω → Prop} (hr : ∀ w, Sm w w) (ht : ∀ a b c, Sm a b → Sm b c → Sm a c) (hk : ∀ au i st w K J, mm au i st w K J → mm au i st w (fun st' w' => K st' w' ∧ Sm w w') (fun st' w' => J st' w' ∧ Sm w w')) {code : List bs_En} {rt : Option FieldType} {Qr : Option Value → ω → Prop} {pc : Nat} {ll : bs_Lo} {st : List Value} {w : ω} (g : bt_TC mm code rt Qr pc ll st w) : bt_TC mm code rt (fun v w' => Qr v w' ∧ Sm w w') pc ll st w := by
  refine g (fun pc ll st w' => ∀ w0, Sm w0 w' → bt_TC mm code rt (fun v w1 => Qr v w1 ∧ Sm w0 w1) pc ll st w') (fun pc ll st w' k w0 h0 => ?_) w (hr w)
  refine bt_TC_step hm ?_
  unfold bt_ST at *
  split at k
  · refine bt_stp_mono hm (fun pc ll st w1 z => z.1 w0 (ht _ _ _ h0 z.2)) (fun v w1 z => ⟨z.1, ht _ _ _ h0 z.2⟩) (bt_stp_keep hm hr hk k)
  · exact k
theorem xDo0_kp {ic sx : List (Nat × Value)} {lc : List (Nat × Int64)} {cs : xCs} {code : List bs_En} {rt : Option FieldType} {maxL : Nat} (hcs : ∀ q ∈ cs, ∀ t ∈ q.2.2.2, xMn t.2 ∧ xKp t.2) : xKp (xDo0 ic sx lc cs code rt maxL) := by
  intro av w Qr g
  unfold xDo0 at *
  split at g
  · exact bt_TC_keep (xMm0_mono fun q hq t ht => (hcs q hq t ht).1) (fun _ => xSm.rf) (fun _ _ _ => xSm.tr) (fun au i st w K J => xMm0_keep (fun q hq t ht => (hcs q hq t ht).2) au i st w K J) g
  · exact g
