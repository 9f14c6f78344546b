/-! the X layer's new cells and calls that make cells, in the kit's W -/
set_option maxRecDepth 100000
theorem arrV_cg {cA : ClassId} {n : Nat} {f g : Nat → Value} (h : ∀ j, j < n → f j = g j) : arrV cA n f = arrV cA n g := by
  unfold arrV
  congr 1
  apply Array.ext
  · simp
  · intro i h1 h2
    simp at h1
    simp [h i h1]
theorem xOuter (cA : ClassId) (N h0 : Nat) : ∀ i, i ≤ N → Jvm.Free.Multi.outerC cA N h0 i = arrV cA N (fun j => if j < i then .ref (h0 + 1 + j) else .null) := by
  intro i
  induction i with
  | zero =>
    intro _
    show ({ cls := cA, slots := Array.replicate N .null, vm := .none } : Cell) = _
    rw [arrV_new]
    exact arrV_cg (fun j _ => by simp)
  | succ i ih =>
    intro hi
    show (Jvm.Free.Multi.outerC cA N h0 i).setSlot i (.ref (h0 + 1 + i)) = _
    rw [ih (by omega), arrV_store]
    refine arrV_cg (fun j _ => ?_)
    unfold updV
    by_cases q : j = i
    · subst q; simp
    · by_cases q2 : j < i
      · rw [if_neg q]; dsimp only; rw [if_pos q2, if_pos (by omega)]
      · rw [if_neg q]; dsimp only; rw [if_neg q2, if_neg (by omega)]
theorem xNoFl : ∀ c, c < 20 → ∀ k, k < xNf c → (match xTy c k with | .float => false | .double => false | _ => true) = true := by decide +kernel
theorem xOb : ∀ c, c < 19 → ∃ q : vw_C, xCl[c]? = some q ∧ Cond.castable q.1 "java/lang/Object" ∈ xNs
  | 0, _ => ⟨(RX0, TX0, 23), rfl, xNs_in q2365 rfl⟩
  | 1, _ => ⟨(RX1, TX1, 13), rfl, xNs_in q2366 rfl⟩
  | 2, _ => ⟨(RX2, TX2, 7), rfl, xNs_in q2368 rfl⟩
  | 3, _ => ⟨(RX3, TX3, 8), rfl, xNs_in q2369 rfl⟩
  | 4, _ => ⟨(RX4, TX4, 1), rfl, xNs_in q2370 rfl⟩
  | 5, _ => ⟨(RX5, TX5, 14), rfl, xNs_in q2363 rfl⟩
  | 6, _ => ⟨(RX7, TX7, 3), rfl, xNs_in q2373 rfl⟩
  | 7, _ => ⟨(RX9, TX9, 2), rfl, xNs_in q2374 rfl⟩
  | 8, _ => ⟨(RX10, TX10, 3), rfl, xNs_in q2376 rfl⟩
  | 9, _ => ⟨(RX11, TX11, 1), rfl, xNs_in q2377 rfl⟩
  | 10, _ => ⟨(RX12, TX12, 1), rfl, xNs_in q2378 rfl⟩
  | 11, _ => ⟨(RX13, TX13, 2), rfl, xNs_in q2379 rfl⟩
  | 12, _ => ⟨(RX15, TX15, 2), rfl, xNs_in q2380 rfl⟩
  | 13, _ => ⟨(RX16, TX16, 1), rfl, xNs_in q2381 rfl⟩
  | 14, _ => ⟨(RX17, TX17, 0), rfl, xNs_in q2382 rfl⟩
  | 15, _ => ⟨(RX18, TX18, 3), rfl, xNs_in q2383 rfl⟩
  | 16, _ => ⟨(RJ2, TJ2, 3), rfl, xNs_in q2367 rfl⟩
  | 17, _ => ⟨(RJ6, TJ6, 4), rfl, xNs_in q2364 rfl⟩
  | 18, _ => ⟨(RJ15, TJ15, 4), rfl, xNs_in q2375 rfl⟩
  | c + 19, h => absurd h (by omega)
section XS1
variable {p : Program} {l : Launch} {e : Env} {R : Room} {s : State} {m : MethodId} {args : Array Value} {below : List Frame} {meth : Method} {c : Code} {nL : Nat} {Q : State → Prop} {D : va_G} {ar : Nat → ClassId} {od : Nat → Nat} {z : Nat} {A : Nat → Prop} {Ex : Heap → Prop} {cc : ByteArray} {own : String} {H : Heap} {locs : List Loc} {k n pc : Nat} {ls : Array Slot} {rest : List Value} {w : xw}
theorem xS_new {H' : Heap} (hS : va_S A s.heap H locs) (hs : H.size ≤ H'.size) (ho : ∀ q, q < H.size → H'[q]? = H[q]?) : va_S A s.heap H' locs := ⟨Nat.le_trans hS.1 hs, fun q h1 h2 => (ho q (Nat.lt_of_lt_of_le h1 hS.1)).trans (hS.2.1 q h1 h2), hS.2.2⟩
theorem xEx_new {H' : Heap} (hEx : xEx z Ex) (hP : xHp D ar od z A w H) (hE : Ex H) (ho : ∀ q, q < H.size → H'[q]? = H[q]?) : Ex H' := hEx H H' hE fun q hq => ho q (by have := hP.1; omega)
theorem xNewObj (hx : p.tables.exec = Jvm.exec) (hb : c.code = cc) (hts : ∀ w ∈ lw_all, w.before args s = true) (hown : s.vm.findClass own = some m.cls) (hK : va_K D xCl (xTys ar) s) (hP : xHp D ar od z A w H) (hS : va_S A s.heap H locs) (hA : A H.size) {cn ix : Nat} {q : vw_C} (hc : cn < 50) (hq : xCl[cn]? = some q) (hcl : Cond.classLink own ix q.1 ∈ lw_all) (hins : Cond.instantiable q.1 q.2.2 ∈ lw_all) (hini : Cond.initialized q.1 ∈ lw_all) (hcells : k + 1 ≤ R.cells) (hslots : n + xNf cn ≤ R.slots) (hdg : decode cc pc = .ok (.new ix, 3))
    (kk : ∀ H' : Heap, xHp D ar od z A (xNew1 w (cn + 1, 0) (xNf cn)) H' → va_S A s.heap H' locs → (∀ q, q < H.size → H'[q]? = H[q]?) → W p l e R s m args below meth c H' locs (k + 1) (n + xNf cn) Q (F0 m (pc + 3) ls (.ref (xAd od z (xN w)) :: rest))) : W p l e R s m args below meth c H locs k n Q (F0 m pc ls rest) := by
  obtain ⟨g1, g2, g3, g4⟩ := xCl_ok cn q hq
  have hKn := hK.1 cn _ hq
  rw [g4] at hslots
  refine W.newcK hx hb hown (hts _ hcl) (hts _ hins) (hts _ hini) rfl hdg hcells hslots hKn.2.1 rfl fun H1 kC hkC e1 z1 o1 => ?_
  have := kk H1 (xHp_new1 hP hA z1 o1 (fun e' he' => ?_)) (xS_new hS (by omega) o1) o1
  · rw [xAd_new hP, g4] at this
    exact this
  · have hcell : xCell0 (xAd od z) ar (cn + 1, 0) (fun _ => 0) (fun _ => 0) (fun _ => 0) = some (.inr (cn, (List.range (xNf cn)).map (fun j => xVal (xAd od z) (fun _ => 0) (fun _ => 0) (fun _ => 0) j (xKd (xTy cn j))))) := by
      unfold xCell0
      dsimp only
      split <;> first | omega | skip
      rename_i h1
      cases h1
      rfl
    rw [hcell] at he'
    cases he'
    refine ⟨q, hq, (u_born (xTy cn) hts g1 hKn hkC e1 g3).to (fun j hj => ?_)⟩
    unfold vp_V
    rw [List.getD_eq_getElem?_getD, List.getElem?_map, List.getElem?_range (by rw [g4]; exact hj)]
    show defaultValue (xTy cn j) = xVal (xAd od z) (fun _ => 0) (fun _ => 0) (fun _ => 0) j (xKd (xTy cn j))
    have hty := g3 j hj
    have hnf := xNoFl cn (by have := (List.getElem?_eq_some_iff.mp hq).1; exact this) j (by rw [g4]; exact hj)
    cases hh : xTy cn j <;> first | rfl | (rw [hh] at hnf; cases hnf)
theorem xNewArr (hx : p.tables.exec = Jvm.exec) (hb : c.code = cc) (hK : va_K D xCl (xTys ar) s) (hP : xHp D ar od z A w H) (hS : va_S A s.heap H locs) (hA : A H.size) {t : ArrayType} (harr : (Cond.arrayClass (newarray.typeOf t)).before args s = true) (ht : xAk t ≠ 0) {v : Int32} (hn : ¬ v < 0) (hm : v.toNatClampNeg ≤ 60000000) (hcells : k + 1 ≤ R.cells) (hslots : n + v.toNatClampNeg ≤ R.slots) (hdg : decode cc pc = .ok (.newarray t, 2))
    (kk : ∀ H' : Heap, xHp D ar od z A (xNew1 w (xAk t, v.toNatClampNeg) v.toNatClampNeg) H' → va_S A s.heap H' locs → (∀ q, q < H.size → H'[q]? = H[q]?) → W p l e R s m args below meth c H' locs (k + 1) (n + v.toNatClampNeg) Q (F0 m (pc + 2) ls (.ref (xAd od z (xN w)) :: rest))) : W p l e R s m args below meth c H locs k n Q (F0 m pc ls (.int v :: rest)) := by
  have hbytes : v.toNatClampNeg * componentBytes (newarray.typeOf t) ≤ 536870912 := by
    have : componentBytes (newarray.typeOf t) ≤ 8 := by cases t <;> decide
    calc v.toNatClampNeg * componentBytes (newarray.typeOf t) ≤ 60000000 * 8 := Nat.mul_le_mul hm this
      _ ≤ 536870912 := by decide
  refine va_newaK hx hb harr rfl hdg rfl hn rfl hbytes hcells hslots rfl fun H1 cA e1 z1 o1 hAr hNm => ?_
  have := kk H1 (xHp_new1 hP hA z1 o1 (fun e' he' => ?_)) (xS_new hS (by omega) o1) o1
  · rw [xAd_new hP] at this
    exact this
  · cases t with
    | int =>
      have hc : cA = ar 0 := Option.some.inj (hNm.symm.trans (hK.2 0 _ rfl).2)
      subst hc
      cases he'
      exact e1
    | long =>
      have hc : cA = ar 1 := Option.some.inj (hNm.symm.trans (hK.2 1 _ rfl).2)
      subst hc
      cases he'
      exact e1
    | char =>
      have hc : cA = ar 2 := Option.some.inj (hNm.symm.trans (hK.2 2 _ rfl).2)
      subst hc
      cases he'
      exact e1
    | byte =>
      have hc : cA = ar 3 := Option.some.inj (hNm.symm.trans (hK.2 3 _ rfl).2)
      subst hc
      cases he'
      exact e1
    | _ => exact absurd rfl ht
/-- a new array of references: kd 55 (Object), 56 (State) -/
theorem xNewRef (hx : p.tables.exec = Jvm.exec) (hb : c.code = cc) (hts : ∀ w ∈ lw_all, w.before args s = true) (hown : s.vm.findClass own = some m.cls) (hK : va_K D xCl (xTys ar) s) (hP : xHp D ar od z A w H) (hS : va_S A s.heap H locs) (hA : A H.size) {kd ix : Nat} {C : String} (hkd : (kd = 55 ∧ C = "java/lang/Object") ∨ (kd = 56 ∧ C = "BorderStones$State")) (hcl : Cond.classLink own ix C ∈ lw_all) (hao : va_AO C s) {v : Int32} (hn : ¬ v < 0) (hm : v.toNatClampNeg ≤ 60000000) (hcells : k + 1 ≤ R.cells) (hslots : n + v.toNatClampNeg ≤ R.slots) (hdg : decode cc pc = .ok (.anewarray ix, 3))
    (kk : ∀ H' : Heap, xHp D ar od z A (xNew1 w (kd, v.toNatClampNeg) v.toNatClampNeg) H' → va_S A s.heap H' locs → (∀ q, q < H.size → H'[q]? = H[q]?) → W p l e R s m args below meth c H' locs (k + 1) (n + v.toNatClampNeg) Q (F0 m (pc + 3) ls (.ref (xAd od z (xN w)) :: rest))) : W p l e R s m args below meth c H locs k n Q (F0 m pc ls (.int v :: rest)) := by
  refine W.anew hx hb hown (hts _ hcl) (va_AO.use hao) rfl hdg rfl hn (by omega) hcells hslots fun cA kA comp f1 f2 f3 f4 => ?_
  have z1 : (H.push ({ cls := cA, slots := Array.replicate v.toNatClampNeg .null, vm := .none } : Cell)).size = H.size + 1 := Array.size_push ..
  have e1 : (H.push ({ cls := cA, slots := Array.replicate v.toNatClampNeg .null, vm := .none } : Cell))[H.size]? = some (arrV cA v.toNatClampNeg (fun _ => .null)) := by rw [Array.getElem?_push_size, ← arrV_new]
  have o1 : ∀ q : Nat, q < H.size → (H.push ({ cls := cA, slots := Array.replicate v.toNatClampNeg .null, vm := .none } : Cell))[q]? = H[q]? := fun q hq => by rw [Array.getElem?_push, if_neg (Nat.ne_of_lt hq)]
  have := kk _ (xHp_new1 hP hA z1 o1 (fun e' he' => ?_)) (xS_new hS (by omega) o1) o1
  · rw [xAd_new hP] at this
    exact this
  · rcases hkd with ⟨rfl, rfl⟩ | ⟨rfl, rfl⟩
    · obtain ⟨kB, compB, b1, b2, b3, b4⟩ := (hK.2 4 _ rfl).2
      have hc : cA = ar 4 := Option.some.inj (f1.symm.trans b4)
      subst hc
      cases he'
      exact e1
    · obtain ⟨kB, compB, b1, b2, b3, b4⟩ := (hK.2 5 _ rfl).2
      have hc : cA = ar 5 := Option.some.inj (f1.symm.trans b4)
      subst hc
      cases he'
      exact e1
/-- an array of arrays: ko 58 of ki 51, ko 59 of ki 52 -/
theorem xNewMul (hx : p.tables.exec = Jvm.exec) (hb : c.code = cc) (hts : ∀ w ∈ lw_all, w.before args s = true) (hown : s.vm.findClass own = some m.cls) (hK : va_K D xCl (xTys ar) s) (hP : xHp D ar od z A w H) (hS : va_S A s.heap H locs) (hA : ∀ q, H.size ≤ q → A q) {ko ki ix : Nat} {ty : FieldType} (hkd : (ko = 58 ∧ ki = 51 ∧ ty = .int) ∨ (ko = 59 ∧ ki = 52 ∧ ty = .long)) (hcl : (Cond.classLink own ix ("[" ++ (FieldType.array ty).toString)).before args s = true) (hover : (Cond.arrayOver (.array ty)).before args s = true) (harr : (Cond.arrayClass ty).before args s = true) {v u : Int32} (hn : ¬ v < 0) (hn2 : ¬ u < 0) (hm : v.toNatClampNeg ≤ 60000) (hm2 : u.toNatClampNeg ≤ 60000) (hcells : k + (1 + v.toNatClampNeg) ≤ R.cells) (hslots : n + (v.toNatClampNeg + v.toNatClampNeg * u.toNatClampNeg) ≤ R.slots) (hdg : decode cc pc = .ok (.multianewarray ix 2, 4))
    (kk : ∀ H' : Heap, xHp D ar od z A (xNewM w ko ki v.toNatClampNeg u.toNatClampNeg) H' → va_S A s.heap H' locs → (∀ q, q < H.size → H'[q]? = H[q]?) → W p l e R s m args below meth c H' locs (k + 1 + v.toNatClampNeg) (n + v.toNatClampNeg + v.toNatClampNeg * u.toNatClampNeg) Q (F0 m (pc + 4) ls (.ref (xAd od z (xN w)) :: rest))) : W p l e R s m args below meth c H locs k n Q (F0 m pc ls (.int u :: .int v :: rest)) := by
  intro T hT X
  have hty : componentBytes ty ≤ 8 ∧ fits ty (defaultValue ty) = true ∧ (defaultValue ty).isDefault = true := by
    rcases hkd with ⟨-, -, rfl⟩ | ⟨-, -, rfl⟩ <;> decide
  obtain ⟨vm₁, cA, comp, hW, hfA, hfC, hO, hI, X1, step⟩ := X.multianewarray2F hx hown hcl hover harr (g := F0 m pc ls (.int u :: .int v :: rest)) rfl (by rw [hb]; exact hdg) rfl hn hn2 (by omega) (by
    calc u.toNatClampNeg * componentBytes ty ≤ 60000 * 8 := Nat.mul_le_mul hm2 hty.1
      _ ≤ 536870912 := by decide) (by omega) hty.2.1 hty.2.2 hcells hslots
  have hT' : (T.setVm vm₁).heap = H := hT
  have ff := Jvm.Free.Multi.fill_facts (T.setVm vm₁) cA comp v.toNatClampNeg u.toNatClampNeg (defaultValue ty) v.toNatClampNeg
  have fo : ∀ q, q < H.size → (Jvm.Free.Multi.fill (T.setVm vm₁) cA comp v.toNatClampNeg u.toNatClampNeg (defaultValue ty) v.toNatClampNeg).heap[q]? = H[q]? := fun q hq => by
    rw [← hT']; exact Jvm.Free.Multi.fill_old (T.setVm vm₁) cA comp _ _ _ (by rw [hT']; exact hq) _
  have fi := fun j (hj : j < v.toNatClampNeg) => Jvm.Free.Multi.fill_inner (T.setVm vm₁) cA comp v.toNatClampNeg u.toNatClampNeg (defaultValue ty) v.toNatClampNeg j hj
  rw [hT'] at ff fi
  obtain ⟨f1, f2, f3, -⟩ := ff
  rw [xOuter _ _ _ _ (Nat.le_refl _)] at f2
  have hin : Jvm.Free.Multi.innerC comp u.toNatClampNeg (defaultValue ty) = arrV comp u.toNatClampNeg (fun _ => defaultValue ty) := arrV_new ..
  have hxa : ∀ j, xAd od z (xN w + 1 + j) = H.size + 1 + j := fun j => by
    have := hP.2.1
    unfold xAd
    rw [if_neg (by omega), hP.1]
    omega
  have hHp : xHp D ar od z A (xNewM w ko ki v.toNatClampNeg u.toNatClampNeg) (Jvm.Free.Multi.fill (T.setVm vm₁) cA comp v.toNatClampNeg u.toNatClampNeg (defaultValue ty) v.toNatClampNeg).heap := by
    refine xHp_newM hP hA f1 fo (fun e' he' => ?_) (fun j hj e' he' => ?_)
    · rcases hkd with ⟨rfl, rfl, rfl⟩ | ⟨rfl, rfl, rfl⟩
      · have hc : cA = ar 7 := Option.some.inj (hfA.symm.trans (hK.2 7 _ rfl).2)
        subst hc
        cases he'
        show _ = some (vp_cell _ _)
        rw [f2, vp_cell_q]
        congr 1
        refine arrV_cg (fun j hj => ?_)
        rw [if_pos hj]
        show _ = va_rf (xRf _ (xN w + 1 + j))
        rw [show xN w + 1 + j = (xN w + j) + 1 by omega]
        show _ = Value.ref (xAd od z (xN w + j + 1))
        rw [show xN w + j + 1 = xN w + 1 + j by omega, hxa]
      · have hc : cA = ar 8 := Option.some.inj (hfA.symm.trans (hK.2 8 _ rfl).2)
        subst hc
        cases he'
        show _ = some (vp_cell _ _)
        rw [f2, vp_cell_q]
        congr 1
        refine arrV_cg (fun j hj => ?_)
        rw [if_pos hj]
        show _ = va_rf (xRf _ (xN w + 1 + j))
        rw [show xN w + 1 + j = (xN w + j) + 1 by omega]
        show _ = Value.ref (xAd od z (xN w + j + 1))
        rw [show xN w + j + 1 = xN w + 1 + j by omega, hxa]
    · rcases hkd with ⟨rfl, rfl, rfl⟩ | ⟨rfl, rfl, rfl⟩
      · have hc : comp = ar 0 := Option.some.inj (hfC.symm.trans (hK.2 0 _ rfl).2)
        subst hc
        cases he'
        show _ = some (vp_cell _ _)
        rw [fi j hj, hin]
        rfl
      · have hc : comp = ar 1 := Option.some.inj (hfC.symm.trans (hK.2 1 _ rfl).2)
        subst hc
        cases he'
        show _ = some (vp_cell _ _)
        rw [fi j hj, hin]
        rfl
  obtain ⟨t, a1, b1⟩ := kk _ hHp (xS_new hS (by rw [f1]; omega) fo) fo _ rfl X1
  refine ⟨t, step t ?_, b1⟩
  rw [xAd_new hP] at a1
  rw [hT]
  exact a1
/-! natives: arrays are copied -/
theorem xNn {v : Int32} (h : ¬ v < 0) : v.toInt = (v.toNatClampNeg : Int) := by
  have h0 : (0 : Int) ≤ v.toInt := by simpa using Int32.le_iff_toInt_le.mp (Int32.not_lt.mp h)
  show v.toInt = ((v.toInt.toNat : Nat) : Int)
  omega
theorem xCopyB (hx : p.tables.exec = Jvm.exec) (hb : c.code = cc) (hml : c.maxLocals = ls.size) (hown : s.vm.findClass own = some m.cls) {ix : Nat} (hlink : (Cond.methodLink own ix arraycopyName).before args s = true) (hnat : (Cond.native arraycopyName).before args s = true) (hstat : (Cond.static arraycopyName).before args s = true) (hini : (Cond.initialized "java/lang/System").before args s = true)
    (hK : va_K D xCl (xTys ar) s) (hod : ∀ i, i < 256 → od i < z) (hP : xHp D ar od z A w H) (hS : va_S A s.heap H locs) {a d : Nat} (ha : (xS w a).1 = 54) (hdd : (xS w d).1 = 54) (hd2 : 256 ≤ d) {sp dp v : Int32} (h1 : ¬ sp < 0) (h2 : ¬ dp < 0) (h3 : ¬ v < 0) (h4 : sp.toNatClampNeg + v.toNatClampNeg ≤ (xS w a).2) (h5 : dp.toNatClampNeg + v.toNatClampNeg ≤ (xS w d).2) (hfit : ∀ j, j < v.toNatClampNeg → fits .byte (.int (xI w a (sp.toNatClampNeg + j))) = true)
    (hframes : 1 ≤ R.frames) (hlocals : (rest.map fun v => v.category).sum + 32 ≤ R.locals) (hdg : decode cc pc = .ok (.invokestatic ix, 3))
    (kk : ∀ (H' : Heap) (locs' : List Loc), xHp D ar od z A (xCpI w d dp.toNatClampNeg a sp.toNatClampNeg v.toNatClampNeg) H' → va_S A s.heap H' locs' → (∀ q, q ≠ xAd od z d → H'[q]? = H[q]?) → W p l e R s m args below meth c H' locs' k n Q (F0 m (pc + 3) ls rest)) : W p l e R s m args below meth c H locs k n Q (F0 m pc ls (.int v :: .int dp :: .ref (xAd od z d) :: .int sp :: .ref (xAd od z a) :: rest)) := by
  have ca := (hP.2.2 a _ (xKnd ha)).1
  obtain ⟨cd0, hAd, -, -⟩ := hP.2.2 d _ (xKnd hdd)
  have ca : H[xAd od z a]? = some (vp_cell (ar 3) ((xS w a).2, .inl (xI w a))) := ca
  have cd : H[xAd od z d]? = some (vp_cell (ar 3) ((xS w d).2, .inl (xI w d))) := cd0
  have hAd := hAd hd2
  obtain ⟨-, k0, hk0, cm0, hkk0⟩ := (hK.2 3 _ rfl).1 (xS w a).2 (fun j => .int (xI w a j))
  obtain ⟨-, k1, hk1, cm1, hkk1⟩ := (hK.2 3 _ rfl).1 (xS w d).2 (fun j => .int (xI w d j))
  intro T hT X
  obtain ⟨vm', X', step⟩ := X.arraycopy hx hown hlink hnat hstat hini (src := xAd od z a) (dst := xAd od z d) (cs := vp_cell (ar 3) ((xS w a).2, .inl (xI w a))) (cd := vp_cell (ar 3) ((xS w d).2, .inl (xI w d))) (srcPos := sp) (destPos := dp) (n := v) (by rw [hT]; exact ca) (by rw [hT]; exact cd)
    (fun _ h => by cases h) (fun _ h => by cases h) (fun h => by cases h) (fun h => by cases h) hk0 hk1 hkk0 hkk1 (by rfl) h1 h2 h3
    (by rw [xNn h1, xNn h3]; show ¬ _ > ((arrV (ar 3) (xS w a).2 (fun j => .int (xI w a j))).slots.size : Int); rw [arrV_size]; omega)
    (by rw [xNn h2, xNn h3]; show ¬ _ > ((arrV (ar 3) (xS w d).2 (fun j => .int (xI w d j))).slots.size : Int); rw [arrV_size]; omega)
    (fun vm₁ _ j hj => by
      have e9 : (vp_cell (ar 3) ((xS w a).2, .inl (xI w a))).slots.getD (sp.toNatClampNeg + j) .null = .int (xI w a (sp.toNatClampNeg + j)) := by
        show (arrV (ar 3) (xS w a).2 (fun j => .int (xI w a j))).slots.getD _ _ = _
        rw [Array.getD_eq_getD_getElem?, arrV_read _ _ (by omega)]
        rfl
      rw [e9]
      exact ⟨hfit j hj, trivial⟩)
    (g := F0 m pc ls (.int v :: .int dp :: .ref (xAd od z d) :: .int sp :: .ref (xAd od z a) :: rest)) rfl (by rw [hml]) (rest := rest) rfl (by rw [hb]; exact hdg) hframes (by show 2 * 0 + _ + _ ≤ _; have hw : nativeFrameWords "java/lang/System" "arraycopy" 5 ≤ 20 := (by decide); omega)
  have e1 : copied (vp_cell (ar 3) ((xS w a).2, .inl (xI w a))) (vp_cell (ar 3) ((xS w d).2, .inl (xI w d))) sp dp v = vp_cell (ar 3) ((xS w d).2, .inl (va_cpy (xI w a) (xI w d) sp.toNatClampNeg dp.toNatClampNeg v.toNatClampNeg)) := va_copied (fun x => .int x) (ar 3) (ar 3) (xI w a) (xI w d) h4
  rw [e1] at X' step
  have hlt : xAd od z d < H.size := (Array.getElem?_eq_some_iff.mp cd).1
  have oq : ∀ q : Nat, q ≠ xAd od z d → (H.setIfInBounds (xAd od z d) (vp_cell (ar 3) ((xS w d).2, .inl (va_cpy (xI w a) (xI w d) sp.toNatClampNeg dp.toNatClampNeg v.toNatClampNeg))))[q]? = H[q]? := fun q hq => by simp [Array.getElem?_setIfInBounds, Ne.symm hq]
  have hP' : xHp D ar od z A (xCpI w d dp.toNatClampNeg a sp.toNatClampNeg v.toNatClampNeg) (H.setIfInBounds (xAd od z d) (vp_cell (ar 3) ((xS w d).2, .inl (va_cpy (xI w a) (xI w d) sp.toNatClampNeg dp.toNatClampNeg v.toNatClampNeg)))) := by
    refine xHp_set hod hP hd2 rfl rfl (fun i hi => ⟨by funext j; show (if i = d then _ else xI w i j) = _; rw [if_neg hi], rfl, rfl⟩) (by simp) oq (xKnd hdd) (fun e' he' => ?_)
    rw [xKnd (w := xCpI w d dp.toNatClampNeg a sp.toNatClampNeg v.toNatClampNeg) hdd] at he'
    cases he'
    have ef : xI (xCpI w d dp.toNatClampNeg a sp.toNatClampNeg v.toNatClampNeg) d = va_cpy (xI w a) (xI w d) sp.toNatClampNeg dp.toNatClampNeg v.toNatClampNeg := by
      funext j
      show (if d = d then _ else _) = _
      rw [if_pos rfl]
    show (H.setIfInBounds (xAd od z d) _)[xAd od z d]? = some (vp_cell _ _)
    rw [Array.getElem?_setIfInBounds_self_of_lt hlt, ef]
    rfl
  obtain ⟨t, a1, b1⟩ := kk _ _ hP' ⟨by simp; exact hS.1, fun q g1 g2 => by
      rw [oq q (fun e => g2 (by rw [e]; exact hAd))]
      exact hS.2.1 q g1 g2, fun q hq => by
      rcases List.mem_append.mp hq with h | h
      · exact hS.2.2 q h
      · obtain ⟨y, -, hy⟩ := List.mem_map.mp h
        rw [← hy]
        exact hAd⟩ oq ((T.setVm vm').setCell (xAd od z d) _) (by rw [← hT]; rfl) X'
  exact ⟨t, step t a1, b1⟩
/-- an object of a class of the list may stand for an Object -/
theorem xAnyO (hK : va_K D xCl (xTys ar) s) (hns : ∀ w ∈ xNs, va_Nw w s) (hP : xHp D ar od z A w H) {v : Nat} (hv : xIsO w v) : va_Any "java/lang/Object" s H (xAd od z v) ∧ 1 ≤ v := by
  obtain ⟨h1, h2⟩ := hv
  obtain ⟨c, hc⟩ : ∃ c, (xS w v).1 = c + 1 := ⟨(xS w v).1 - 1, by omega⟩
  have hlt : c < 19 := by omega
  obtain ⟨q, hq, hn⟩ := xOb c hlt
  have hcell := xCell_obj (ad := xAd od z) (ar := ar) (w := w) (i := v) (c := c) (by omega) hc
  refine ⟨va_rAny hK (xArr_P hP hcell) (q0 := 0) (ci := c) (r := q) rfl hq (fun comp c0 h1 h2 => vb_asgC (hns _ hn) comp c0 h1 h2), (hP.2.2 v _ hcell).2.2.2⟩
theorem xCopyR (hx : p.tables.exec = Jvm.exec) (hb : c.code = cc) (hml : c.maxLocals = ls.size) (hown : s.vm.findClass own = some m.cls) {ix : Nat} (hlink : (Cond.methodLink own ix arraycopyName).before args s = true) (hnat : (Cond.native arraycopyName).before args s = true) (hstat : (Cond.static arraycopyName).before args s = true) (hini : (Cond.initialized "java/lang/System").before args s = true)
    (hK : va_K D xCl (xTys ar) s) (hns : ∀ w ∈ xNs, va_Nw w s) (hod : ∀ i, i < 256 → od i < z) (hP : xHp D ar od z A w H) (hS : va_S A s.heap H locs) {a d : Nat} (ha : (xS w a).1 = 55) (hdd : (xS w d).1 = 55) (hd2 : 256 ≤ d) {sp dp v : Int32} (h1 : ¬ sp < 0) (h2 : ¬ dp < 0) (h3 : ¬ v < 0) (h4 : sp.toNatClampNeg + v.toNatClampNeg ≤ (xS w a).2) (h5 : dp.toNatClampNeg + v.toNatClampNeg ≤ (xS w d).2) (hel : ∀ j, j < v.toNatClampNeg → xR w a (sp.toNatClampNeg + j) = 0 ∨ xIsO w (xR w a (sp.toNatClampNeg + j)))
    (hframes : 1 ≤ R.frames) (hlocals : (rest.map fun v => v.category).sum + 32 ≤ R.locals) (hdg : decode cc pc = .ok (.invokestatic ix, 3))
    (kk : ∀ (H' : Heap) (locs' : List Loc), xHp D ar od z A (xCpR w d dp.toNatClampNeg a sp.toNatClampNeg v.toNatClampNeg) H' → va_S A s.heap H' locs' → (∀ q, q ≠ xAd od z d → H'[q]? = H[q]?) → W p l e R s m args below meth c H' locs' k n Q (F0 m (pc + 3) ls rest)) : W p l e R s m args below meth c H locs k n Q (F0 m pc ls (.int v :: .int dp :: .ref (xAd od z d) :: .int sp :: .ref (xAd od z a) :: rest)) := by
  have ca := (hP.2.2 a _ (xKnd ha)).1
  obtain ⟨cd0, hAd, -, -⟩ := hP.2.2 d _ (xKnd hdd)
  have ca : H[xAd od z a]? = some (vp_cell (ar 4) ((xS w a).2, .inr (.inr (.inr (.inr (fun j => xRf (xAd od z) (xR w a j))))))) := ca
  have cd : H[xAd od z d]? = some (vp_cell (ar 4) ((xS w d).2, .inr (.inr (.inr (.inr (fun j => xRf (xAd od z) (xR w d j))))))) := cd0
  have hAd := hAd hd2
  obtain ⟨-, k0, hk0, cm0, hkk0⟩ := (hK.2 4 _ rfl).1 (xS w a).2 (fun j => va_rf (xRf (xAd od z) (xR w a j)))
  obtain ⟨-, k1, hk1, cm1, hkk1⟩ := (hK.2 4 _ rfl).1 (xS w d).2 (fun j => va_rf (xRf (xAd od z) (xR w d j)))
  intro T hT X
  obtain ⟨vm', X', step⟩ := X.arraycopy hx hown hlink hnat hstat hini (src := xAd od z a) (dst := xAd od z d) (cs := vp_cell (ar 4) ((xS w a).2, .inr (.inr (.inr (.inr (fun j => xRf (xAd od z) (xR w a j))))))) (cd := vp_cell (ar 4) ((xS w d).2, .inr (.inr (.inr (.inr (fun j => xRf (xAd od z) (xR w d j))))))) (srcPos := sp) (destPos := dp) (n := v) (by rw [hT]; exact ca) (by rw [hT]; exact cd)
    (fun _ h => by cases h) (fun _ h => by cases h) (fun h => by cases h) (fun h => by cases h) hk0 hk1 hkk0 hkk1 rfl h1 h2 h3
    (by rw [xNn h1, xNn h3]; show ¬ _ > ((arrV (ar 4) (xS w a).2 (fun j => va_rf (xRf (xAd od z) (xR w a j)))).slots.size : Int); rw [arrV_size]; omega)
    (by rw [xNn h2, xNn h3]; show ¬ _ > ((arrV (ar 4) (xS w d).2 (fun j => va_rf (xRf (xAd od z) (xR w d j)))).slots.size : Int); rw [arrV_size]; omega)
    (fun vm₁ hal j hj => by
      have e9 : (vp_cell (ar 4) ((xS w a).2, .inr (.inr (.inr (.inr (fun j => xRf (xAd od z) (xR w a j))))))).slots.getD (sp.toNatClampNeg + j) .null = va_rf (xRf (xAd od z) (xR w a (sp.toNatClampNeg + j))) := by
        show (arrV (ar 4) (xS w a).2 (fun j => va_rf (xRf (xAd od z) (xR w a j)))).slots.getD _ _ = _
        rw [Array.getD_eq_getD_getElem?, arrV_read _ _ (by omega)]
        rfl
      rw [e9]
      rcases hel j hj with hy | hy
      · rw [hy]; exact ⟨rfl, trivial⟩
      · obtain ⟨hany, hpos⟩ := xAnyO hK hns hP hy
        generalize xR w a (sp.toNatClampNeg + j) = y at hany hpos
        obtain ⟨y, rfl⟩ : ∃ y', y = y' + 1 := ⟨y - 1, by omega⟩
        obtain ⟨cellV, g1, g2, ⟨kC, hkC⟩, hasg⟩ := hany
        obtain ⟨kA, comp, r1, r2, r3, -⟩ := (hK.2 4 _ rfl).2
        cases hk1.symm.trans r1
        cases hkk1.symm.trans r2
        obtain ⟨kE, hkE, -⟩ := Vm.findClass_spec r3
        obtain ⟨kC', hkC', -⟩ := hal.2.2 _ _ hkC
        obtain ⟨kE', hkE', -⟩ := hal.2.2 _ _ hkE
        refine ⟨rfl, cellV, (show T.heap[xAd od z (y + 1)]? = some cellV by rw [hT]; exact g1), (fun q h => by rw [h] at g2; cases g2), ⟨kC', hkC'⟩, ⟨kE', hkE'⟩, ?_⟩
        show vm₁.assignable _ _ = true
        rw [hal.assignable]
        exact hasg _ r3)
    (g := F0 m pc ls (.int v :: .int dp :: .ref (xAd od z d) :: .int sp :: .ref (xAd od z a) :: rest)) rfl (by rw [hml]) (rest := rest) rfl (by rw [hb]; exact hdg) hframes (by show 2 * 0 + _ + _ ≤ _; have hw : nativeFrameWords "java/lang/System" "arraycopy" 5 ≤ 20 := (by decide); omega)
  have e1 : copied (vp_cell (ar 4) ((xS w a).2, .inr (.inr (.inr (.inr (fun j => xRf (xAd od z) (xR w a j))))))) (vp_cell (ar 4) ((xS w d).2, .inr (.inr (.inr (.inr (fun j => xRf (xAd od z) (xR w d j))))))) sp dp v = vp_cell (ar 4) ((xS w d).2, .inr (.inr (.inr (.inr (va_cpy (fun j => xRf (xAd od z) (xR w a j)) (fun j => xRf (xAd od z) (xR w d j)) sp.toNatClampNeg dp.toNatClampNeg v.toNatClampNeg))))) := by
    rw [vp_cell_q, vp_cell_q, vp_cell_q]
    exact va_copied (fun x => va_rf x) (ar 4) (ar 4) _ _ h4
  rw [e1] at X' step
  have hlt : xAd od z d < H.size := (Array.getElem?_eq_some_iff.mp cd).1
  have oq : ∀ q : Nat, q ≠ xAd od z d → (H.setIfInBounds (xAd od z d) (vp_cell (ar 4) ((xS w d).2, .inr (.inr (.inr (.inr (va_cpy (fun j => xRf (xAd od z) (xR w a j)) (fun j => xRf (xAd od z) (xR w d j)) sp.toNatClampNeg dp.toNatClampNeg v.toNatClampNeg)))))))[q]? = H[q]? := fun q hq => by simp [Array.getElem?_setIfInBounds, Ne.symm hq]
  have hP' : xHp D ar od z A (xCpR w d dp.toNatClampNeg a sp.toNatClampNeg v.toNatClampNeg) (H.setIfInBounds (xAd od z d) (vp_cell (ar 4) ((xS w d).2, .inr (.inr (.inr (.inr (va_cpy (fun j => xRf (xAd od z) (xR w a j)) (fun j => xRf (xAd od z) (xR w d j)) sp.toNatClampNeg dp.toNatClampNeg v.toNatClampNeg))))))) := by
    refine xHp_set hod hP hd2 rfl rfl (fun i hi => ⟨rfl, rfl, by funext j; show (if i = d then _ else xR w i j) = _; rw [if_neg hi]⟩) (by simp) oq (xKnd hdd) (fun e' he' => ?_)
    rw [xKnd (w := xCpR w d dp.toNatClampNeg a sp.toNatClampNeg v.toNatClampNeg) hdd] at he'
    cases he'
    have ef : (fun j => xRf (xAd od z) (xR (xCpR w d dp.toNatClampNeg a sp.toNatClampNeg v.toNatClampNeg) d j)) = va_cpy (fun j => xRf (xAd od z) (xR w a j)) (fun j => xRf (xAd od z) (xR w d j)) sp.toNatClampNeg dp.toNatClampNeg v.toNatClampNeg := by
      funext j
      show xRf (xAd od z) (if d = d then _ else _) = _
      rw [if_pos rfl]
      unfold va_cpy
      split <;> rfl
    show (H.setIfInBounds (xAd od z d) _)[xAd od z d]? = some (vp_cell _ _)
    rw [Array.getElem?_setIfInBounds_self_of_lt hlt, ef]
    rfl
  obtain ⟨t, a1, b1⟩ := kk _ _ hP' ⟨by simp; exact hS.1, fun q g1 g2 => by
      rw [oq q (fun e => g2 (by rw [e]; exact hAd))]
      exact hS.2.1 q g1 g2, fun q hq => by
      rcases List.mem_append.mp hq with h | h
      · exact hS.2.2 q h
      · obtain ⟨y, -, hy⟩ := List.mem_map.mp h
        rw [← hy]
        exact hAd⟩ oq ((T.setVm vm').setCell (xAd od z d) _) (by rw [← hT]; rfl) X'
  exact ⟨t, step t a1, b1⟩
/-- an element into an Object[] -/
theorem xAastO (hx : p.tables.exec = Jvm.exec) (hb : c.code = cc) (hK : va_K D xCl (xTys ar) s) (hns : ∀ w ∈ xNs, va_Nw w s) (hod : ∀ i, i < 256 → od i < z) (hH : xHp D ar od z A w H) (hS0 : va_S A s.heap H locs) {a v : Nat} {j : Int32} (ha : (xS w a).1 = 55) (ha2 : 256 ≤ a) (hv : xIsO w v) (hin : vp_in j (xS w a).2) (hdg : decode cc pc = .ok (.aastore, 1))
    (kk : ∀ (H' : Heap) (locs' : List Loc), xHp D ar od z A (xUpR w a j.toNatClampNeg v) H' → va_S A s.heap H' locs' → (∀ q, q ≠ xAd od z a → H'[q]? = H[q]?) → W p l e R s m args below meth c H' locs' k n Q (F0 m (pc + 1) ls rest)) : W p l e R s m args below meth c H locs k n Q (F0 m pc ls (.ref (xAd od z v) :: .int j :: .ref (xAd od z a) :: rest)) := by
  have hcell := hH.2.2 a _ (xKnd ha)
  have hlt : j.toNatClampNeg < (xS w a).2 := Nat.not_le.mp fun q => hin (Or.inr q)
  have h0 : ¬ j < 0 := fun q => hin (Or.inl q)
  obtain ⟨⟨cellV, g1, g3, ⟨kC, hkC⟩, hasg⟩, hv1⟩ := xAnyO hK hns hH hv
  obtain ⟨kA, comp, k1, k2, k3, -⟩ := (hK.2 4 _ rfl).2
  obtain ⟨kE, hkE, -⟩ := Vm.findClass_spec k3
  refine W.aast hx hb hcell.1 (fun q h => by cases h) (fun h => by cases h) k1 k2 rfl hkE ⟨h0, by show _ < (arrV _ _ _).slots.size; rw [arrV_size]; exact hlt⟩ g1 (fun q h => by rw [h] at g3; cases g3) hkC (hasg _ k3) rfl rfl hdg fun H1 e9 z9 oq => kk H1 _ ?_ (hS0.put z9 oq (hcell.2.1 ha2)) oq
  refine xHp_set hod hH ha2 rfl rfl (xUpR_ne w a _ v) z9 oq (xKnd ha) (fun e' he' => ?_)
  rw [xKnd (w := xUpR w a j.toNatClampNeg v) ha] at he'
  cases he'
  show H1[_]? = some (vp_cell _ _)
  rw [e9, vp_cell_q, vp_cell_q, arrV_store]
  congr 2
  funext q
  rw [xUpR_at]
  by_cases hq : q = j.toNatClampNeg
  · subst hq
    obtain ⟨v', rfl⟩ : ∃ v', v = v' + 1 := ⟨v - 1, by omega⟩
    simp [updV, va_rf, xRf]
  · simp [updV, hq]
/-- the class of an Object[] -/
theorem xGetC (hx : p.tables.exec = Jvm.exec) (hb : c.code = cc) (hml : c.maxLocals = ls.size) (hts : ∀ w ∈ lw_all, w.before args s = true) (hns : ∀ w ∈ xNs, va_Nw w s) (hown : s.vm.findClass own = some m.cls) {ix mi : Nat} (hlink : (Cond.methodLink own ix ⟨"java/lang/Object", "getClass", "()Ljava/lang/Class;"⟩).before args s = true) (hK : va_K D xCl (xTys ar) s) (hM : va_Mi "[Ljava/lang/Object;" mi s) (hP : xHp D ar od z A w H) {a : Nat} (ha : (xS w a).1 = 55)
    (hframes : 1 ≤ R.frames) (hlocals : (rest.map fun v => v.category).sum + 14 ≤ R.locals) (hdg : decode cc pc = .ok (.invokevirtual ix, 3))
    (kk : W p l e R s m args below meth c H locs k n Q (F0 m (pc + 3) ls (.ref mi :: rest))) : W p l e R s m args below meth c H locs k n Q (F0 m pc ls (.ref (xAd od z a) :: rest)) := by
  have hcell := (hP.2.2 a _ (xKnd ha)).1
  obtain ⟨kB, compB, b1, b2, b3, b4⟩ := (hK.2 4 _ rfl).2
  exact va_getC (C := "[Ljava/lang/Object;") hx hb hml hown hlink (va_Nw.use rfl (hns _ (xNs_in q2387 rfl))) (hts _ q2386) (hts _ q883) (hts _ q906) hM ⟨_, hcell, rfl, b4⟩ hframes hlocals hdg kk
end XS1
