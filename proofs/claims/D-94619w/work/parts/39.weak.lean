/-! locals that are not looked at may hold anything -/
def bs_Le (ll ll' : bs_Lo) : Prop := ll.length = ll'.length ∧ ∀ (j : Nat) (v : Value), ll[j]? = some (some v) → ll'[j]? = some (some v)
theorem bs_Le_set {ll ll' : bs_Lo} (h : bs_Le ll ll') (i : Nat) (o : Option Value) : bs_Le (ll.set i o) (ll'.set i o) := by
  refine ⟨by simp [h.1], fun j v g => ?_⟩
  rw [List.getElem?_set] at *
  by_cases e : i = j
  · subst e
    simp only [if_true] at *
    rw [← h.1]; exact g
  · simp only [e, if_false] at *
    exact h.2 j v g
theorem bs_Le_clr {ll ll' : bs_Lo} (h : bs_Le ll ll') (i : Nat) : bs_Le (bs_clr ll i) (bs_clr ll' i) := by
  cases i with
  | zero => exact h
  | succ i =>
    unfold bs_clr
    dsimp only
    cases c : bs_c2 ll[i]? with
    | true =>
      have : bs_c2 ll'[i]? = true := by
        unfold bs_c2 at c
        split at c
        · rename_i x e; rw [h.2 i _ e]; rfl
        · rename_i x e; rw [h.2 i _ e]; rfl
        · cases c
      rw [this]
      exact bs_Le_set h i none
    | false =>
      cases c' : bs_c2 ll'[i]? with
      | false => exact h
      | true =>
        dsimp only
        refine ⟨by simp [h.1], fun j v g => ?_⟩
        rw [List.getElem?_set]
        by_cases e : i = j
        · subst e
          have q := h.2 _ v g
          rw [q, ← g, c] at c'
          cases c'
        · simp only [e, if_false]
          exact h.2 j v g
theorem bs_Le_st1 {ll ll' : bs_Lo} (h : bs_Le ll ll') (i : Nat) (v : Value) : bs_Le (bs_st1 ll i v) (bs_st1 ll' i v) := bs_Le_set (bs_Le_clr h i) i _
theorem bs_Le_st2 {ll ll' : bs_Lo} (h : bs_Le ll ll') (i : Nat) (v : Value) : bs_Le (bs_st2 ll i v) (bs_st2 ll' i v) := bs_Le_set (bs_Le_set (bs_Le_clr h i) i _) _ _
theorem bs_L0 : bs_Le [] [] := ⟨rfl, fun j v g => g⟩
theorem bs_Ln {r r' : bs_Lo} {o : Option Value} (h : bs_Le r r') : bs_Le (none :: r) (o :: r') := by
  refine ⟨by simp [h.1], fun j v g => ?_⟩
  cases j with
  | zero => simp at g
  | succ j => simp at g ⊢; exact h.2 j v g
theorem bs_Ls {r r' : bs_Lo} {v : Value} (h : bs_Le r r') : bs_Le (some v :: r) (some v :: r') := by
  refine ⟨by simp [h.1], fun j v g => ?_⟩
  cases j with
  | zero => exact g
  | succ j => simp at g ⊢; exact h.2 j v g
section WK
variable {ω : Type}
theorem bs_wk {mm : List Nat → Instr → List Value → ω → (List Value → ω → Prop) → Prop} (hm : bs_Mono mm) {code : List bs_En} {rt : Option FieldType} {Qr : Option Value → ω → Prop} {pc : Nat} {ll ll' : bs_Lo} {st : List Value} {w : ω} (hl : bs_Le ll ll') (g : bs_TC mm code rt Qr pc ll st w) : bs_TC mm code rt Qr pc ll' st w := by
  refine g (fun pc ll st w => ∀ ll', bs_Le ll ll' → bs_TC mm code rt Qr pc ll' st w) (fun pc ll st w g ll' hl => ?_) ll' hl
  have key : ∀ {pc : Nat} {ll ll' : bs_Lo} {st : List Value} {w : ω}, (∀ ll', bs_Le ll ll' → bs_TC mm code rt Qr pc ll' st w) → bs_Le ll ll' → bs_TC mm code rt Qr pc ll' st w := fun a b => a _ b
  refine bs_TC_step hm ?_
  unfold bs_ST at *
  split at g
  · unfold bs_stp at *
    split at g
    all_goals first
      | exact bs_i_mono (fun _ _ g => key g (bs_Le_st1 hl _ _)) g
      | exact bs_l_mono (fun _ _ g => key g (bs_Le_st2 hl _ _)) g
      | exact bs_r_mono (fun _ _ g => key g (bs_Le_st1 hl _ _)) g
      | exact bs_i_mono (fun _ _ g => ⟨fun e => key (g.1 e) hl, fun e => key (g.2 e) hl⟩) g
      | exact bs_ii_mono (fun _ _ _ g => ⟨fun e => key (g.1 e) hl, fun e => key (g.2 e) hl⟩) g
      | exact bs_i_mono (fun _ _ g => ⟨fun e => key (g.1 e) hl, bs_swt_mono (fun _ g => key g hl) g.2⟩) g
      | exact bs_rt_mono (fun _ g => g) g
      | exact key g hl
      | exact hm _ _ _ _ _ _ (fun _ _ g => key g hl) g
      | (split at g
         · rename_i e; rw [hl.2 _ _ e]; exact key g hl
         · rename_i e; rw [hl.2 _ _ e]; exact key g hl
         · exact g.elim)
      | (split at g
         · rename_i e; rw [hl.2 _ _ e]; exact key g (bs_Le_st1 hl _ _)
         · exact g.elim)
      | (split at g
         · rename_i e; rw [hl.2 _ _ e]; exact key g hl
         · exact g.elim)
  · exact g
theorem bt_wk {mm : List Nat → Instr → List Value → ω → (List Value → ω → Prop) → (List Value → ω → Prop) → Prop} (hm : bt_Mono mm) {code : List bs_En} {rt : Option FieldType} {Qr : Option Value → ω → Prop} {pc : Nat} {ll ll' : bs_Lo} {st : List Value} {w : ω} (hl : bs_Le ll ll') (g : bt_TC mm code rt Qr pc ll st w) : bt_TC mm code rt Qr pc ll' st w := by
  refine g (fun pc ll st w => ∀ ll', bs_Le ll ll' → bt_TC mm code rt Qr pc ll' st w) (fun pc ll st w g ll' hl => ?_) ll' hl
  have key : ∀ {pc : Nat} {ll ll' : bs_Lo} {st : List Value} {w : ω}, (∀ ll', bs_Le ll ll' → bt_TC mm code rt Qr pc ll' st w) → bs_Le ll ll' → bt_TC mm code rt Qr pc ll' st w := fun a b => a _ b
  refine bt_TC_step hm ?_
  unfold bt_ST at *
  split at g
  · unfold bt_stp at *
    split at g
    all_goals first
      | exact bs_i_mono (fun _ _ g => key g (bs_Le_st1 hl _ _)) g
      | exact bs_l_mono (fun _ _ g => key g (bs_Le_st2 hl _ _)) g
      | exact bs_r_mono (fun _ _ g => key g (bs_Le_st1 hl _ _)) g
      | exact bs_i_mono (fun _ _ g => ⟨fun e => key (g.1 e) hl, fun e => key (g.2 e) hl⟩) g
      | exact bs_ii_mono (fun _ _ _ g => ⟨fun e => key (g.1 e) hl, fun e => key (g.2 e) hl⟩) g
      | exact bs_i_mono (fun _ _ g => ⟨fun e => key (g.1 e) hl, bs_swt_mono (fun _ g => key g hl) g.2⟩) g
      | exact bs_i_mono (fun _ _ g => bt_lsw_mono (fun g => key g hl) (fun _ g => key g hl) g) g
      | exact bt_rt_mono (fun _ g => g) g
      | exact key g hl
      | exact hm _ _ _ _ _ _ _ _ (fun _ _ g => key g hl) (fun _ _ g => key g hl) g
      | (split at g
         · rename_i e; rw [hl.2 _ _ e]; exact key g hl
         · rename_i e; rw [hl.2 _ _ e]; exact key g hl
         · exact g.elim)
      | (split at g
         · rename_i e; rw [hl.2 _ _ e]; exact key g (bs_Le_st1 hl _ _)
         · exact g.elim)
      | (split at g
         · rename_i e; rw [hl.2 _ _ e]; exact key g hl
         · exact g.elim)
  · exact g
end WK
