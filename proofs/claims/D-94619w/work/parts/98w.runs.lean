/-! codes that were told do reckon -/
def cRst (c : List Nat) : Prop := ∀ x y e, x < 100 → y < 100 → e < 100 → ∀ v0, b6 v0 → ∃ v, b6 v ∧ ∀ s, runC x y e c (v0 :: s) = some (v :: s)
def tRst (c : List Nat) : Prop := ∀ x y e, x < 100 → y < 100 → e < 100 → ∀ v0 : Int, (v0 = 0 ∨ v0 = 1) → ∃ v : Int, (v = 0 ∨ v = 1) ∧ ∀ s, runC x y e c (v0 :: s) = some (v :: s)
theorem run_one {x y e c : Nat} {s s' : List Int} (h : stC x y e c s = some s') : runC x y e [c] s = some s' := by
  have e1 : runC x y e [c] s = match stC x y e c s with | none => none | some s' => runC x y e [] s' := rfl
  rw [e1, h]; rfl
theorem run_cons {x y e c : Nat} {l : List Nat} {s s' : List Int} (h : stC x y e c s = some s') : runC x y e (c :: l) s = runC x y e l s' := by
  have e1 : runC x y e (c :: l) s = match stC x y e c s with | none => none | some s' => runC x y e l s' := rfl
  rw [e1, h]
theorem run_2 {x y e : Nat} {l1 l2 : List Nat} {s s' : List Int} (h : runC x y e l1 s = some s') : runC x y e (l1 ++ l2) s = runC x y e l2 s' := by
  rw [run_app, h]
theorem stC_op {x y e c : Nat} {a b v : Int} {s : List Int} (h : opV c a b = some v) : stC x y e c (b :: a :: s) = some (v :: s) := by
  have hc := opV_in h
  unfold stC
  rw [if_neg (by omega), if_neg (by omega), if_neg (by omega), if_neg (by omega), if_neg (by omega), if_neg (by omega)]
  simp only [h, Option.map_some]
theorem rst_nil : cRst [] := fun _ _ _ _ _ _ v0 h => ⟨v0, h, fun _ => rfl⟩
theorem rst_nilT : tRst [] := fun _ _ _ _ _ _ v0 h => ⟨v0, h, fun _ => rfl⟩
theorem val_app {c1 c2 : List Nat} (h1 : cVal c1) (h2 : cRst c2) : cVal (c1 ++ c2) := fun x y e hx hy he => by
  obtain ⟨v, b, r⟩ := h1 x y e hx hy he
  obtain ⟨u, b2, r2⟩ := h2 x y e hx hy he v b
  exact ⟨u, b2, fun s => by rw [run_2 (r s)]; exact r2 s⟩
theorem tst_app {c1 c2 : List Nat} (h1 : cTst c1) (h2 : tRst c2) : cTst (c1 ++ c2) := fun x y e hx hy he => by
  obtain ⟨v, b, r⟩ := h1 x y e hx hy he
  obtain ⟨u, b2, r2⟩ := h2 x y e hx hy he v b
  exact ⟨u, b2, fun s => by rw [run_2 (r s)]; exact r2 s⟩
theorem op14 {k : Nat} (h : 1 ≤ k ∧ k ≤ 6) (a b : Int) : ∃ v, opV k a b = some v := by
  have : k = 1 ∨ k = 2 ∨ k = 3 ∨ k = 4 ∨ k = 5 ∨ k = 6 := by omega
  rcases this with g | g | g | g | g | g <;> subst g <;> exact ⟨_, rfl⟩
theorem rst_op {c1 c2 : List Nat} {k : Nat} (hk : 1 ≤ k ∧ k ≤ 6) (h1 : cVal c1) (h2 : cRst c2) : cRst (c1 ++ k :: c2) := fun x y e hx hy he v0 b0 => by
  obtain ⟨v, b, r⟩ := h1 x y e hx hy he
  obtain ⟨w, o⟩ := op14 hk v0 v
  obtain ⟨u, b2, r2⟩ := h2 x y e hx hy he w (opV_b b0 b o)
  exact ⟨u, b2, fun s => by rw [run_2 (r (v0 :: s)), run_cons (stC_op o)]; exact r2 s⟩
theorem val_op {c1 c2 : List Nat} {k : Nat} (hk : 1 ≤ k ∧ k ≤ 6) (h1 : cVal c1) (h2 : cVal c2) : cVal (c1 ++ c2 ++ [k]) := fun x y e hx hy he => by
  obtain ⟨v1, b1, r1⟩ := h1 x y e hx hy he
  obtain ⟨v2, b2, r2⟩ := h2 x y e hx hy he
  obtain ⟨w, o⟩ := op14 hk v1 v2
  exact ⟨w, opV_b b1 b2 o, fun s => by rw [List.append_assoc, run_2 (r1 s), run_2 (r2 _)]; exact run_one (stC_op o)⟩
theorem tst_cmp {c1 c2 : List Nat} {k : Nat} (hk : k = 11 ∨ k = 12 ∨ k = 13) (h1 : cVal c1) (h2 : cVal c2) : cTst (c1 ++ c2 ++ [k]) := fun x y e hx hy he => by
  obtain ⟨v1, b1, r1⟩ := h1 x y e hx hy he
  obtain ⟨v2, b2, r2⟩ := h2 x y e hx hy he
  have : ∃ w : Int, opV k v1 v2 = some w ∧ (w = 0 ∨ w = 1) := by
    rcases hk with g | g | g <;> subst g
    · refine ⟨_, rfl, ?_⟩; split <;> simp
    · refine ⟨_, rfl, ?_⟩; split <;> simp
    · refine ⟨_, rfl, ?_⟩; split <;> simp
  obtain ⟨w, o, w01⟩ := this
  exact ⟨w, w01, fun s => by rw [List.append_assoc, run_2 (r1 s), run_2 (r2 _)]; exact run_one (stC_op o)⟩
theorem tst_not {c : List Nat} (h : cTst c) : cTst (c ++ [16]) := fun x y e hx hy he => by
  obtain ⟨v, b, r⟩ := h x y e hx hy he
  refine ⟨1 - v, by omega, fun s => ?_⟩
  rw [run_2 (r s)]
  refine run_one ?_
  unfold stC
  rw [if_neg (by omega), if_neg (by omega), if_pos rfl]
  rcases b with g | g <;> subst g <;> rfl
theorem rst_opT {c1 c2 : List Nat} {k : Nat} (hk : k = 14 ∨ k = 15) (h1 : cTst c1) (h2 : tRst c2) : tRst (c1 ++ k :: c2) := fun x y e hx hy he v0 b0 => by
  obtain ⟨v, b, r⟩ := h1 x y e hx hy he
  have : ∃ w : Int, opV k v0 v = some w ∧ (w = 0 ∨ w = 1) := by
    rcases hk with g | g <;> subst g <;> rcases b with g | g <;> subst g <;> rcases b0 with g | g <;> subst g
    · exact ⟨0, by decide, by simp⟩
    · exact ⟨0, by decide, by simp⟩
    · exact ⟨0, by decide, by simp⟩
    · exact ⟨1, by decide, by simp⟩
    · exact ⟨0, by decide, by simp⟩
    · exact ⟨1, by decide, by simp⟩
    · exact ⟨1, by decide, by simp⟩
    · exact ⟨1, by decide, by simp⟩
  obtain ⟨w, o, w01⟩ := this
  obtain ⟨u, b2, r2⟩ := h2 x y e hx hy he w w01
  exact ⟨u, b2, fun s => by rw [run_2 (r (v0 :: s)), run_cons (stC_op o)]; exact r2 s⟩
theorem at_val {T : List Nat} {a : Nat} {c : List Nat} {a1 : Nat} (h : atP T a = .inr (c, a1)) : cVal c := by
  unfold atP at h
  split at h
  · cases h
    exact fun x y e hx hy he => ⟨x, by unfold b6; omega, fun s => run_one rfl⟩
  split at h
  · cases h
    exact fun x y e hx hy he => ⟨y, by unfold b6; omega, fun s => run_one rfl⟩
  split at h
  · cases h
    exact fun x y e hx hy he => ⟨e, by unfold b6; omega, fun s => run_one rfl⟩
  cases hn : numP T a 0 9999 with
  | inl z => simp only [hn] at h; cases h
  | inr z =>
    obtain ⟨v, e1⟩ := z
    simp only [hn] at h
    cases h
    have hv : v ≤ 9999 := by
      unfold numP at hn
      split at hn
      · split at hn
        · cases hn
        · split at hn
          · rename_i c3
            cases hn
            exact c3.2
          · cases hn
      · cases hn
    refine fun x y e hx hy he => ⟨v, by unfold b6; omega, fun s => run_one ?_⟩
    unfold stC
    rw [if_pos (by omega), if_pos (by omega), Nat.add_sub_cancel_left]
theorem pE_run (T : List Nat) (f : Nat) : ∀ tag a op c a1, pE T f tag a op = .inr (c, a1) → ((tag = 0 ∨ tag = 1 ∨ tag = 3) → cVal c) ∧ (¬ (tag = 0 ∨ tag = 1 ∨ tag = 3) → cRst c) := by
  induction f with
  | zero => intro tag a op c a1 h; cases h
  | succ f ih =>
    intro tag a op c a1 h
    unfold pE at h
    split at h
    · rename_i t0
      refine ⟨fun _ => ?_, fun z => by omega⟩
      split at h
      · split at h
        · cases h
        · obtain ⟨c1, b1, h1, h2⟩ := bnd_inv h
          split at h2
          · cases h2; exact (ih _ _ _ _ _ h1).1 (by omega)
          · cases h2
      · split at h
        · split at h
          · split at h
            · cases h
            · obtain ⟨c1, b1, h1, h2⟩ := bnd_inv h
              split at h2
              · obtain ⟨c2, b2, h3, h4⟩ := bnd_inv h2
                split at h4
                · cases h4
                  exact val_op (by split <;> omega) ((ih _ _ _ _ _ h1).1 (by omega)) ((ih _ _ _ _ _ h3).1 (by omega))
                · cases h4
              · cases h2
          · cases h
        · exact at_val h
    · rename_i t0
      split at h
      · rename_i t1
        refine ⟨fun _ => ?_, fun z => by omega⟩
        obtain ⟨c1, b1, h1, h2⟩ := bnd_inv h
        obtain ⟨c2, b2, h3, h4⟩ := bnd_inv h2
        cases h4
        exact val_app ((ih _ _ _ _ _ h1).1 (by omega)) ((ih _ _ _ _ _ h3).2 (by omega))
      · rename_i t1
        split at h
        · rename_i t2
          refine ⟨fun z => by omega, fun _ => ?_⟩
          split at h
          · obtain ⟨c1, b1, h1, h2⟩ := bnd_inv h
            obtain ⟨c2, b2, h3, h4⟩ := bnd_inv h2
            cases h4
            exact rst_op (by omega) ((ih _ _ _ _ _ h1).1 (by omega)) ((ih _ _ _ _ _ h3).2 (by omega))
          · split at h
            · obtain ⟨c1, b1, h1, h2⟩ := bnd_inv h
              obtain ⟨c2, b2, h3, h4⟩ := bnd_inv h2
              cases h4
              exact rst_op (by omega) ((ih _ _ _ _ _ h1).1 (by omega)) ((ih _ _ _ _ _ h3).2 (by omega))
            · cases h; exact rst_nil
        · rename_i t2
          split at h
          · refine ⟨fun _ => ?_, fun z => by omega⟩
            obtain ⟨c1, b1, h1, h2⟩ := bnd_inv h
            obtain ⟨c2, b2, h3, h4⟩ := bnd_inv h2
            cases h4
            exact val_app ((ih _ _ _ _ _ h1).1 (by omega)) ((ih _ _ _ _ _ h3).2 (by omega))
          · rename_i t3
            refine ⟨fun z => by omega, fun _ => ?_⟩
            split at h
            · obtain ⟨c1, b1, h1, h2⟩ := bnd_inv h
              obtain ⟨c2, b2, h3, h4⟩ := bnd_inv h2
              cases h4
              exact rst_op (by omega) ((ih _ _ _ _ _ h1).1 (by omega)) ((ih _ _ _ _ _ h3).2 (by omega))
            · split at h
              · obtain ⟨c1, b1, h1, h2⟩ := bnd_inv h
                obtain ⟨c2, b2, h3, h4⟩ := bnd_inv h2
                cases h4
                exact rst_op (by omega) ((ih _ _ _ _ _ h1).1 (by omega)) ((ih _ _ _ _ _ h3).2 (by omega))
              · cases h; exact rst_nil
theorem cm_tst {T : List Nat} {F a op : Nat} {c : List Nat} {a1 : Nat} (h : cmP T F a op = .inr (c, a1)) : cTst c := by
  unfold cmP at h
  split at h
  · cases h
    exact fun x y e hx hy he => ⟨1, by omega, fun s => run_one rfl⟩
  · obtain ⟨c1, b1, h1, h2⟩ := bnd_inv h
    split at h2
    · obtain ⟨c2, b2, h3, h4⟩ := bnd_inv h2
      cases h4
      refine tst_cmp ?_ ((pE_run _ _ _ _ _ _ _ h1).1 (by omega)) ((pE_run _ _ _ _ _ _ _ h3).1 (by omega))
      split
      · omega
      · split <;> omega
    · cases h2
theorem pT_run (T : List Nat) (F f : Nat) : ∀ tag a op c a1, pT T F f tag a op = .inr (c, a1) → ((tag = 0 ∨ tag = 1 ∨ tag = 3) → cTst c) ∧ (¬ (tag = 0 ∨ tag = 1 ∨ tag = 3) → tRst c) := by
  induction f with
  | zero => intro tag a op c a1 h; cases h
  | succ f ih =>
    intro tag a op c a1 h
    unfold pT at h
    split at h
    · rename_i t0
      refine ⟨fun _ => ?_, fun z => by omega⟩
      split at h
      · split at h
        · cases h
        · obtain ⟨c1, b1, h1, h2⟩ := bnd_inv h
          split at h2
          · cases h2; exact (ih _ _ _ _ _ h1).1 (by omega)
          · cases h2
      · split at h
        · split at h
          · cases h
          · obtain ⟨c1, b1, h1, h2⟩ := bnd_inv h
            cases h2
            exact tst_not ((ih _ _ _ _ _ h1).1 (by omega))
        · exact cm_tst h
    · rename_i t0
      split at h
      · rename_i t1
        refine ⟨fun _ => ?_, fun z => by omega⟩
        obtain ⟨c1, b1, h1, h2⟩ := bnd_inv h
        obtain ⟨c2, b2, h3, h4⟩ := bnd_inv h2
        cases h4
        exact tst_app ((ih _ _ _ _ _ h1).1 (by omega)) ((ih _ _ _ _ _ h3).2 (by omega))
      · rename_i t1
        split at h
        · rename_i t2
          refine ⟨fun z => by omega, fun _ => ?_⟩
          split at h
          · obtain ⟨c1, b1, h1, h2⟩ := bnd_inv h
            obtain ⟨c2, b2, h3, h4⟩ := bnd_inv h2
            cases h4
            exact rst_opT (by omega) ((ih _ _ _ _ _ h1).1 (by omega)) ((ih _ _ _ _ _ h3).2 (by omega))
          · cases h; exact rst_nilT
        · rename_i t2
          split at h
          · refine ⟨fun _ => ?_, fun z => by omega⟩
            obtain ⟨c1, b1, h1, h2⟩ := bnd_inv h
            obtain ⟨c2, b2, h3, h4⟩ := bnd_inv h2
            cases h4
            exact tst_app ((ih _ _ _ _ _ h1).1 (by omega)) ((ih _ _ _ _ _ h3).2 (by omega))
          · rename_i t3
            refine ⟨fun z => by omega, fun _ => ?_⟩
            split at h
            · obtain ⟨c1, b1, h1, h2⟩ := bnd_inv h
              obtain ⟨c2, b2, h3, h4⟩ := bnd_inv h2
              cases h4
              exact rst_opT (by omega) ((ih _ _ _ _ _ h1).1 (by omega)) ((ih _ _ _ _ _ h3).2 (by omega))
            · cases h; exact rst_nilT
theorem ru_rok {T : List Nat} {t : TB} {b a : Nat} (ht : rOk (tR t)) {t' : TB} {a1 : Nat} (h : ruP T t b a = .inr (t', a1)) : rOk (tR t') := by
  unfold ruP at h
  split at h
  · cases h
  cases hs : pE T FU 3 a 0 with
  | inl e => simp only [hs] at h; cases h
  | inr x =>
  obtain ⟨s, a2⟩ := x
  simp only [hs] at h
  split at h
  rotate_left
  · cases h
  cases hs2 : pT T FU FU 3 (sk T a2 + 4) 0 with
  | inl e => simp only [hs2] at h; cases h
  | inr x =>
  obtain ⟨s2, a3⟩ := x
  simp only [hs2] at h
  cases h
  intro r hr
  rcases List.mem_append.mp hr with g | g
  · exact ht r g
  · rw [List.mem_singleton.mp g]
    exact ⟨(pE_run _ _ _ _ _ _ _ hs).1 (by omega), (pT_run _ _ _ _ _ _ _ _ hs2).1 (by omega)⟩
theorem st_rok {T : List Nat} {wd hg : Nat} {t : TB} {a : Nat} (ho : tOk t) (ht : rOk (tR t)) (ha : a ≤ T.length) {t' : TB} {a1 : Nat} (h : stFP T wd hg t a = .inr (t', a1)) : rOk (tR t') := by
  unfold stFP at h
  have hl := fun k h1 h2 => here_le (T := T) (a := a) (k := k) h1 h2 ha
  cases hs : stP T wd hg t a with
  | inl e => simp only [hs] at h; cases h
  | inr x =>
  obtain ⟨t2, a2⟩ := x
  simp only [hs] at h
  split at h
  rotate_left
  · cases h
  cases h
  unfold stP at hs
  split at hs
  · rename_i c
    have := hl 11 (by omega) (by omega) c
    rw [(kind_ok ho this hs).2.2]; exact ht
  split at hs
  · rename_i c
    have := hl 16 (by omega) (by omega) c
    rw [(sto_ok ho this hs).2.2]; exact ht
  split at hs
  · rename_i c
    have := hl 20 (by omega) (by omega) c
    rw [(lan_ok ho this hs).2.2]; exact ht
  split at hs
  · exact ru_rok ht hs
  · cases hs
