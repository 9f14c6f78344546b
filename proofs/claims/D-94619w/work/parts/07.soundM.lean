/-! the M layer's instructions hold in the kit's W; a method's contract out of bs_TC -/
set_option maxRecDepth 100000
section MSND
variable {p : Program} {l : Launch} {e : Env} {s : State} {m : MethodId} {args : Array Value} {below : List Frame} {meth : Method} {c : Code} {H0 : Heap} {nL : Nat} {Q : State → Prop} {D : va_G} {cl : List vw_C} {ci : Nat} {ar : Nat → ClassId} {b : Nat} {cc : ByteArray} {cs : List (Nat × Nat × Bool × mM_V)} {fr0 lo0 : Nat}
def mM_Hw (D : va_G) (cl : List vw_C) (ci : Nat) (ar : Nat → ClassId) (b : Nat) (M : mw) (H : Heap) (k n : Nat) : Prop := va_P D cl (mM_ws ci ar b M) H ∧ k = 0 ∧ n = 0
theorem mM_pd0 : ∀ k, k < 86 → mM_kd k = 0 → parseFieldDescriptor (TX6 k).2.2.1 = some .int := by decide +kernel
theorem mM_T1 : ∀ k, k < 86 → (TX6 k).1 = RX6 := by decide +kernel
theorem mM_pd1 : ∀ k, k < 86 → mM_kd k = 1 → parseFieldDescriptor (TX6 k).2.2.1 = some .long := by decide +kernel
theorem mM_fs_at {M : mw} {b k : Nat} (h : k < 86) : ((List.range 86).map (fun k => bs_cv (mM_ad b) (mM_val M k)))[k]? = some (bs_cv (mM_ad b) (mM_val M k)) := by
  rw [List.getElem?_map, List.getElem?_range h]; rfl
theorem mM_run_go {H : Heap} {locs : List Loc} {pc : Nat} {ls : Array Slot} {st0 rest : List Value} {ll : bs_Lo} {K : Option Value → mw → Prop} {R : Room}
    (hr : va_Run p l e R s m args below meth c H locs 0 0 0 0 (F0 m pc ls st0) (rest.map (bs_cv (mM_ad b))) (fun st oc t => (∃ (r : Option Value) (M' : mw), oc = .returned (r.map (bs_cv (mM_ad b))) ∧ K r M' ∧ va_P D cl (mM_ws ci ar b M') t.heap) ∧ va_F (mM_A b) st t) (mM_A b))
    (hS : va_S (mM_A b) H0 H locs) (hl : bs_Lh (mM_ad b) ls nL ll)
    (hk : ∀ r M', K r M' → bs_Sim p l e R s m args below meth c (mM_A b) H0 (mM_ad b) (mM_Hw D cl ci ar b) nL Q (pc + 3) ll (r.toList ++ rest) M') : W p l e R s m args below meth c H locs 0 0 Q (F0 m pc ls st0) := by
  intro T hT X
  obtain ⟨v, st₀, t, T', L, h0, X', hL, e1, e2, ⟨⟨r, M', hv, hp, hb⟩, hz, hkk⟩, st⟩ := hr T hT X
  cases hv
  rw [h0] at hz hkk
  obtain ⟨t2, a1, b1⟩ := hk r M' hp T'.heap (locs ++ L) ls 0 0 ⟨by rw [e1]; exact hb, rfl, rfl⟩
    ⟨Nat.le_trans hS.1 (by rw [e1]; exact hz), fun q h1 h2 => by rw [e1, hkk q (Nat.lt_of_lt_of_le h1 hS.1) h2]; exact hS.2.1 q h1 h2, fun q hq => by
      rcases List.mem_append.mp hq with h | h
      · exact hS.2.2 q h
      · exact hL q h⟩ hl T' rfl X'
  refine ⟨t2, st t2 ?_, b1⟩
  have e3 : (r.toList ++ rest).map (bs_cv (mM_ad b)) = (r.map (bs_cv (mM_ad b))).toList ++ rest.map (bs_cv (mM_ad b)) := by
    cases r <;> simp
  rw [e3] at a1
  exact a1
set_option maxHeartbeats 2000000 in
theorem mM_mm_ok (hx : p.tables.exec = Jvm.exec) (hb : c.code = cc) (hml : c.maxLocals = nL) (hown : s.vm.findClass RX6 = some m.cls) (hts : ∀ w ∈ lw_all, w.before args s = true) (hcl : cl[ci]? = some (RX6, TX6, 86)) (hK : va_K D cl (mM_ty ar) s) (hcs : ∀ q ∈ cs, mM_Call fr0 lo0 l D cl ci ar b q) {q : bs_En} (hq : mM_okE q = true) (hd : decode cc q.1 = .ok (q.2.1, q.2.2.1)) (hlen : bs_lenOk q.2.1 q.2.2.1 = true) {ll : bs_Lo} {st : List Value} {M : mw} {K : List Value → mw → Prop} (h : mM_mm cs q.2.2.2 q.2.1 st M K)
    (hk : ∀ st' M', K st' M' → bs_Sim p l e ({ frames := fr0, cells := 0, slots := 0, locals := lo0 }) s m args below meth c (mM_A b) H0 (mM_ad b) (mM_Hw D cl ci ar b) nL Q (q.1 + q.2.2.1) ll st' M') : bs_Sim p l e ({ frames := fr0, cells := 0, slots := 0, locals := lo0 }) s m args below meth c (mM_A b) H0 (mM_ad b) (mM_Hw D cl ci ar b) nL Q q.1 ll st M := by
  obtain ⟨pc, i, len, au⟩ := q
  dsimp only at *
  unfold mM_mm at h
  split at h
  case h_1 ix =>
    obtain rfl : len = 3 := by simpa [bs_lenOk] using hlen
    simp only [mM_okE, Bool.and_eq_true] at hq
    obtain ⟨q1, q2⟩ := hq
    have q2 : au.headD 0 < 86 := by simpa using q2
    split at h
    · intro H locs ls k0 n0 hH hS hl
      exact va_get (D := D) (ci := ci) (C := RX6) (T := TX6) (N := 86) (v := bs_cv (mM_ad b) (mM_val M (au.headD 0))) hx hb hts in_X6 hown hK hH.1 0 rfl hcl (au.headD 0) q2 (hts _ (mM_fl_ok (ix, au.headD 0) (List.contains_iff_mem.mp q1))) (fun _ h9 => by rw [mM_T1 _ q2] at h9; exact h9) (mM_fs_at q2) hd (hk _ _ h H locs ls k0 n0 hH hS hl)
    · cases h
  case h_2 ix =>
    obtain rfl : len = 3 := by simpa [bs_lenOk] using hlen
    simp only [mM_okE, Bool.and_eq_true, Bool.not_eq_true'] at hq
    obtain ⟨⟨q1, q2⟩, q3⟩ := hq
    have q2 : au.headD 0 < 86 := by simpa using q2
    split at h
    · rename_i hkd
      split at h
      · rename_i x r
        intro H locs ls k0 n0 hH hS hl
        refine va_put (D := D) (ci := ci) (v := .int x) (ty := .int) (C := RX6) (T := TX6) (N := 86) hx hb hts in_X6 tyX6 tyX6_ok nmX6 hown hK hH.1 (mM_wsD ci ar b M) hS 0 rfl hcl (au.headD 0) q2 (hts _ (mM_fl_ok (ix, au.headD 0) (List.contains_iff_mem.mp q1))) (fun _ h9 => by rw [mM_T1 _ q2] at h9; exact h9) q3 (mM_pd0 _ q2 hkd) rfl rfl (by simpa using q2) hd (fun H1 locs1 hP1 _ hS1 => ?_)
        refine hk _ _ h H1 locs1 ls k0 n0 ⟨?_, hH.2⟩ hS1 hl
        rw [← mM_set_fld (M := M) q2 (by omega) (mM_up_ne M (au.headD 0) 0 x)]
        have e1 : mM_val (mM_up M (au.headD 0) 0 x) (au.headD 0) = .int x := by
          unfold mM_val
          rw [hkd]
          simp [mM_up]
        rw [e1]
        exact hP1
      · cases h
    · rename_i hkd
      split at h
      · rename_i x r
        intro H locs ls k0 n0 hH hS hl
        refine va_put (D := D) (ci := ci) (v := .long x) (ty := .long) (C := RX6) (T := TX6) (N := 86) hx hb hts in_X6 tyX6 tyX6_ok nmX6 hown hK hH.1 (mM_wsD ci ar b M) hS 0 rfl hcl (au.headD 0) q2 (hts _ (mM_fl_ok (ix, au.headD 0) (List.contains_iff_mem.mp q1))) (fun _ h9 => by rw [mM_T1 _ q2] at h9; exact h9) q3 (mM_pd1 _ q2 hkd) rfl rfl (by simpa using q2) hd (fun H1 locs1 hP1 _ hS1 => ?_)
        refine hk _ _ h H1 locs1 ls k0 n0 ⟨?_, hH.2⟩ hS1 hl
        rw [← mM_set_fld (M := M) q2 (by omega) (mM_upl_ne M (au.headD 0) 0 x)]
        have e1 : mM_val (mM_upl M (au.headD 0) 0 x) (au.headD 0) = .long x := by
          unfold mM_val
          rw [hkd]
          simp [mM_upl]
        rw [e1]
        exact hP1
      · cases h
    · cases h
  case h_3 =>
    obtain rfl : len = 1 := by simpa [bs_lenOk] using hlen
    split at h
    · rename_i j k r
      split at h
      · rename_i hkd
        intro H locs ls k0 n0 hH hS hl
        have ha := mM_arr_at (ci := ci) (ar := ar) (b := b) (M := M) (k := k) (by omega) (by omega)
        unfold mM_cell at ha
        rw [hkd] at ha
        exact va_iald hx hb hK hH.1 (mM_of k) 0 ha rfl h.1 hd (hk _ _ h.2 H locs ls k0 n0 hH hS hl)
      · cases h
    · cases h
  case h_4 =>
    obtain rfl : len = 1 := by simpa [bs_lenOk] using hlen
    split at h
    · rename_i j k r
      split at h
      · rename_i hkd
        intro H locs ls k0 n0 hH hS hl
        have ha := mM_arr_at (ci := ci) (ar := ar) (b := b) (M := M) (k := k) (by omega) (by omega)
        unfold mM_cell at ha
        rw [hkd] at ha
        exact va_lald hx hb hK hH.1 (mM_of k) 1 ha rfl h.1 hd (hk _ _ h.2 H locs ls k0 n0 hH hS hl)
      · cases h
    · cases h
  case h_5 =>
    obtain rfl : len = 1 := by simpa [bs_lenOk] using hlen
    split at h
    · rename_i j k r
      obtain ⟨hkd, h1, h2⟩ := h
      intro H locs ls k0 n0 hH hS hl
      have ha := mM_arr_at (ci := ci) (ar := ar) (b := b) (M := M) (k := k) (by omega) (by omega)
      unfold mM_cell at ha
      rw [hkd] at ha
      exact va_cald hx hb hK hH.1 (mM_of k) 2 ha rfl h1 hd (hk _ _ h2 H locs ls k0 n0 hH hS hl)
    · cases h
  case h_6 =>
    obtain rfl : len = 1 := by simpa [bs_lenOk] using hlen
    split at h
    · rename_i x j k r
      split at h
      · rename_i hkd
        intro H locs ls k0 n0 hH hS hl
        have ha := mM_arr_at (ci := ci) (ar := ar) (b := b) (M := M) (k := k) (by omega) (by omega)
        unfold mM_cell at ha
        rw [hkd] at ha
        refine va_iast hx hb hK hH.1 (mM_wsD ci ar b M) hS (mM_of k) 0 ha rfl h.1 hd (fun H1 locs1 hP1 _ hS1 => ?_)
        refine hk _ _ h.2 H1 locs1 ls k0 n0 ⟨?_, hH.2⟩ hS1 hl
        rw [← mM_set_arr (M := M) (k := k) (by omega) (by omega) (mM_up_ne M k j.toNatClampNeg x)]
        have e1 : mM_cell ar (mM_up M k j.toNatClampNeg x) k = .inl (ar 0, mM_ln k, .inl (upd (M.1 k) j.toNatClampNeg x)) := by
          unfold mM_cell
          rw [hkd, mM_up_k]
          rfl
        rw [e1]
        exact hP1
      · cases h
    · cases h
  case h_7 =>
    obtain rfl : len = 1 := by simpa [bs_lenOk] using hlen
    split at h
    · rename_i x j k r
      split at h
      · rename_i hkd
        intro H locs ls k0 n0 hH hS hl
        have ha := mM_arr_at (ci := ci) (ar := ar) (b := b) (M := M) (k := k) (by omega) (by omega)
        unfold mM_cell at ha
        rw [hkd] at ha
        refine va_last hx hb hK hH.1 (mM_wsD ci ar b M) hS (mM_of k) 1 ha rfl h.1 hd (fun H1 locs1 hP1 _ hS1 => ?_)
        refine hk _ _ h.2 H1 locs1 ls k0 n0 ⟨?_, hH.2⟩ hS1 hl
        rw [← mM_set_arr (M := M) (k := k) (by omega) (by omega) (mM_upl_ne M k j.toNatClampNeg x)]
        have e1 : mM_cell ar (mM_upl M k j.toNatClampNeg x) k = .inl (ar 1, mM_ln k, .inr (.inl (vp_updL (M.2 k) j.toNatClampNeg x))) := by
          unfold mM_cell
          rw [hkd, mM_upl_k]
          rfl
        rw [e1]
        exact hP1
      · cases h
    · cases h
  case h_8 =>
    obtain rfl : len = 1 := by simpa [bs_lenOk] using hlen
    split at h
    · rename_i k r
      obtain ⟨hkd, h2⟩ := h
      intro H locs ls k0 n0 hH hS hl
      have ha := mM_arr_at (ci := ci) (ar := ar) (b := b) (M := M) (k := k) (by omega) (by omega)
      unfold mM_cell at ha
      rw [hkd] at ha
      exact va_alen (v := Int32.ofNat (mM_ln k)) hx hb hK hH.1 (mM_of k) 2 ha rfl rfl hd (hk _ _ h2 H locs ls k0 n0 hH hS hl)
    · cases h
  case h_9 ix =>
    obtain rfl : len = 3 := by simpa [bs_lenOk] using hlen
    simp only [mM_okE, Bool.and_eq_true] at hq
    obtain ⟨q1, q2⟩ := hq
    have q1 : au.headD 0 < mM_ic.length := by simpa using q1
    have q2 := Nat.eq_of_beq_eq_true q2
    intro H locs ls k0 n0 hH hS hl
    have hc := hts _ (mM_ic_ok (mM_ic.getD (au.headD 0) (0, 0)) (by rw [List.getD_eq_getElem?_getD, List.getElem?_eq_getElem q1]; exact List.getElem_mem q1))
    rw [q2] at hc
    exact lv_ldcw hx hb hown hc hd (hk _ _ h H locs ls k0 n0 hH hS hl)
  case h_10 ix =>
    obtain rfl : len = 3 := by simpa [bs_lenOk] using hlen
    simp only [mM_okE, Bool.and_eq_true] at hq
    obtain ⟨q1, q2⟩ := hq
    have q1 : au.headD 0 < mM_lc.length := by simpa using q1
    have q2 := Nat.eq_of_beq_eq_true q2
    intro H locs ls k0 n0 hH hS hl
    have hc := hts _ (mM_lc_ok (mM_lc.getD (au.headD 0) (0, 0)) (by rw [List.getD_eq_getElem?_getD, List.getElem?_eq_getElem q1]; exact List.getElem_mem q1))
    rw [q2] at hc
    exact lv_ldc2 hx hb hown hc hd (hk _ _ h H locs ls k0 n0 hH hS hl)
  case h_11 ix =>
    obtain rfl : len = 3 := by simpa [bs_lenOk] using hlen
    split at h
    · rename_i n V hlk
      split at h
      · rename_i as r hpop
        split at h
        · rename_i hcat
          have hcat := Nat.le_of_ble_eq_true hcat
          obtain ⟨xs, e1, e2, e3⟩ := bs_pop_spec _ _ _ _ _ hpop
          rw [List.append_nil] at e1
          subst e1
          obtain ⟨y, yc, maxL, rt, fr, lo, hM, hR, hy, hl1, hl2, -, hl4, -⟩ := hcs _ (mM_look_mem hlk)
          obtain ⟨hl4, hl5⟩ := hl4 rfl
          intro H locs ls k0 n0 hH hS hl
          obtain ⟨hP, rfl, rfl⟩ := hH
          rw [e2, List.map_append, List.map_reverse]
          refine mM_run_go (rest := r) (va_runV (As := as.map (bs_cv (mM_ad b))) (rest := r.map (bs_cv (mM_ad b))) (b := b) (C := RX6) (Ts := lw_all) ⟨hx, hb, hml, hown, hts⟩ (hM (.ref 0 :: as) M (fun v M' => K (v.toList ++ r) M')) (cwV n hts (lw_V hl1 hl4 hl5 q154 hl2) rfl rfl rfl hy hR) ⟨?_, ?_, ?_⟩ rfl (by rw [List.length_map]; exact e3) hl.1 rfl ?_ hd ⟨Nat.le_refl _, Nat.le_refl _⟩) hS hl (fun v M' hv => hk _ _ hv)
          · intro a U g mk hq0
            obtain ⟨z1, z2, z3, z4⟩ := hq0
            exact ⟨z1, z2, z3, va_K.moved (u := U) (U := U.calling g mk a) (Vm.Alike.refl U.vm) z4⟩
          · exact va_recv hK hP (ci := ci) (q0 := 0) hcl rfl
          · intro U hU hW
            exact ⟨rfl, h, by rw [hU]; exact hP, va_K.moved hW.alike hK⟩
          · refine lv_room ?_
            rw [List.map_map]
            have : ((fun v : Value => v.category) ∘ bs_cv (mM_ad b)) = fun v : Value => v.category := funext fun v => bs_cv_cat _ v
            rw [this]
            exact hcat
        · cases h
      · cases h
    · cases h
  case h_12 ix =>
    obtain rfl : len = 3 := by simpa [bs_lenOk] using hlen
    split at h
    · rename_i n V hlk
      split at h
      · rename_i as r hpop
        split at h
        · rename_i hcat
          have hcat := Nat.le_of_ble_eq_true hcat
          obtain ⟨xs, e1, e2, e3⟩ := bs_pop_spec _ _ _ _ _ hpop
          rw [List.append_nil] at e1
          subst e1
          obtain ⟨y, yc, maxL, rt, fr, lo, hM, hR, hy, hl1, hl2, hl3, -, -⟩ := hcs _ (mM_look_mem hlk)
          have hl3 := hl3 rfl
          intro H locs ls k0 n0 hH hS hl
          obtain ⟨hP, rfl, rfl⟩ := hH
          rw [e2, List.map_append, List.map_reverse]
          refine mM_run_go (rest := r) (va_runS (As := as.map (bs_cv (mM_ad b))) (rest := r.map (bs_cv (mM_ad b))) (Ts := lw_all) ⟨hx, hb, hml, hown, hts⟩ (hM as M (fun v M' => K (v.toList ++ r) M')) (va_cwS n hts (lw_S hl1 hl3 (by rw [hy.1]; exact q154) hl2) rfl rfl rfl hy.2 hR) ⟨?_, ?_⟩ rfl (by rw [List.length_map]; exact e3) hl.1 rfl ?_ hd ⟨Nat.le_refl _, Nat.le_refl _⟩) hS hl (fun v M' hv => hk _ _ hv)
          · intro a U g mk hq0
            obtain ⟨z1, z2, z3, z4⟩ := hq0
            exact ⟨z1, z2, z3, va_K.moved (u := U) (U := U.calling g mk a) (Vm.Alike.refl U.vm) z4⟩
          · intro U hU hW
            exact ⟨rfl, h, by rw [hU]; exact hP, va_K.moved hW.alike hK⟩
          · refine lv_room ?_
            rw [List.map_map]
            have : ((fun v : Value => v.category) ∘ bs_cv (mM_ad b)) = fun v : Value => v.category := funext fun v => bs_cv_cat _ v
            rw [this]
            exact hcat
        · cases h
      · cases h
    · cases h
  case h_13 => exact bs_pur_ok hx hb hd hlen h (fun st' k => hk st' M k)
/-- what a method does, by its table of instructions -/
def mM_do (cs : List (Nat × Nat × Bool × mM_V)) (code : List bs_En) (rt : Option FieldType) (maxL : Nat) : mM_V := fun av M Qr => match Nat.ble (bs_en1 av).length maxL with
  | true => bs_TC (mM_mm cs) code rt Qr 0 (bs_ent maxL av) [] M
  | false => False
theorem mM_do_mono {cs : List (Nat × Nat × Bool × mM_V)} {code : List bs_En} {rt : Option FieldType} {maxL : Nat} (hcs : ∀ q ∈ cs, mM_Call fr0 lo0 l D cl ci ar b q) : ∀ av M (Qr Qr' : Option Value → mw → Prop), (∀ v M, Qr v M → Qr' v M) → mM_do cs code rt maxL av M Qr → mM_do cs code rt maxL av M Qr' := by
  intro av M Qr Qr' h g
  unfold mM_do at *
  split at g
  · exact bs_TC_mono (mM_mono fun q hq => by obtain ⟨y, yc, maxL, rt, fr, lo, -, -, -, -, -, -, -, h⟩ := hcs q hq; exact h) h g
  · exact g
set_option maxHeartbeats 1000000 in
theorem mM_ok {y : MethodName} {maxL : Nat} {rt : Option FieldType} (hy : y.cls = RX6) {code : List bs_En} (hcode : code.all (bs_okE cc maxL) = true) (hcode2 : code.all mM_okE = true) (hcl : cl[ci]? = some (RX6, TX6, 86)) (hcs : ∀ q ∈ cs, mM_Call fr0 lo0 l D cl ci ar b q) : mM_Met l D cl ci ar b y cc maxL rt fr0 lo0 (mM_do cs code rt maxL) := by
  intro av M Qr
  refine Met.ofW (cc := cc) (maxL := maxL) (ret := rt) (by rw [hy]; decide) rfl ?_
  intro p e s m args below meth c s₁ B hml hv
  obtain ⟨rfl, hV, hP, hK⟩ := hv
  have hx := B.exec
  have hb := B.bytes
  have hr := B.returns
  have hlocks := B.notSynchronized
  have hts := atoms_spec (ws := ws_ y cc maxL rt) B.pre
  have hts : ∀ w ∈ lw_all, w.before _ s = true := fun w h => hts w (List.mem_cons_of_mem _ h)
  have hown : s.vm.findClass RX6 = some m.cls := by rw [← hy]; exact findClass_of_methodNamed B.named
  unfold mM_do at hV
  split at hV
  · rename_i hle
    have hle := Nat.le_of_ble_eq_true hle
    rw [lg_entry_eq]
    refine bs_TC_ok (A := mM_A b) (H0 := s.heap) (ad := mM_ad b) (Hw := mM_Hw D cl ci ar b) (nL := maxL) hx hb hcode (fun q ll st w K hq h1 h2 h3 h4 => mM_mm_ok hx hb hml hown hts hcl hK hcs (List.all_eq_true.mp hcode2 q hq) h1 h2 h3 h4) ?_ hV s.heap [] _ 0 0 ⟨hP, rfl, rfl⟩ va_S.rf (bs_entry hle)
    intro q ll st w hq h1 h2 h3 H locs ls k0 n0 hH hS hl
    obtain ⟨pc, i, len, au⟩ := q
    dsimp only at *
    obtain ⟨hP', rfl, rfl⟩ := hH
    unfold bs_rt at h3
    split at h3
    · obtain rfl : len = 1 := by simpa [bs_lenOk] using h2
      split at h3
      · rename_i x
        obtain ⟨hn, hq'⟩ := h3
        unfold bs_nar at hn
        split at hn
        · exact W.iret (v := x) hx hb hr (fun t ht hW => ⟨⟨some (.int x), w, rfl, hq', by rw [ht]; exact hP'⟩, hS.F ht⟩) hS.2.2 h1
        · exact W.zret (v := x) hx hb hr hn (fun t ht hW => ⟨⟨some (.int x), w, rfl, hq', by rw [ht]; exact hP'⟩, hS.F ht⟩) hS.2.2 h1
        · cases hn
      · cases h3
    · obtain rfl : len = 1 := by simpa [bs_lenOk] using h2
      split at h3
      · rename_i x
        obtain ⟨rfl, hq'⟩ := h3
        exact W.lret (v := x) hx hb hr (fun t ht hW => ⟨⟨some (.long x), w, rfl, hq', by rw [ht]; exact hP'⟩, hS.F ht⟩) hS.2.2 h1
      · cases h3
    · obtain rfl : len = 1 := by simpa [bs_lenOk] using h2
      split at h3
      · obtain ⟨rfl, hq'⟩ := h3
        exact W.vret hx hb hr (fun t ht hW => ⟨⟨none, w, rfl, hq', by rw [ht]; exact hP'⟩, hS.F ht⟩) hS.2.2 h1
      · cases h3
    · cases h3
  · cases hV
end MSND
