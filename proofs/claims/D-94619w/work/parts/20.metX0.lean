/-! contracts of the X layer's methods that make nothing -/
set_option maxRecDepth 100000
def xNg (w : Cond) : Bool := match w with
  | .fieldLinkNest .. => true
  | .methodLinkNest .. => true
  | .castable .. => true
  | .declares .. => true
  | _ => false
def xNs : List Cond := lw_tbl.filter xNg
theorem xNs_in {w : Cond} (h : w ∈ lw_tbl) (g : xNg w = true) : w ∈ xNs := List.mem_filter.mpr ⟨h, g⟩
theorem xNs_warm {s U : State} (hW : s.WarmedH U.vm) (h : ∀ w ∈ xNs, va_Nw w s) : ∀ w ∈ xNs, va_Nw w U := by
  intro w hw
  have h1 := h w hw
  have h2 := (List.mem_filter.mp hw).2
  unfold xNg at h2
  split at h2
  · exact va_Nw.warmF hW h1
  · exact va_Nw.warmM hW h1
  · exact va_Nw.warmC hW h1
  · exact va_Nw.warmD hW h1
  · cases h2
def xAL : String := "java/util/ArrayList"
def xFs : List (String × MethodName × MethodName) := [(xAL, ⟨"java/util/List", "get", "(I)Ljava/lang/Object;"⟩, ⟨xAL, "get", "(I)Ljava/lang/Object;"⟩), (xAL, ⟨"java/util/List", "size", "()I"⟩, ⟨xAL, "size", "()I"⟩), (xAL, ⟨"java/util/List", "isEmpty", "()Z"⟩, ⟨xAL, "isEmpty", "()Z"⟩), (xAL, ⟨"java/util/List", "add", "(Ljava/lang/Object;)Z"⟩, ⟨xAL, "add", "(Ljava/lang/Object;)Z"⟩)]
def xAs : List String := ["java/lang/Object", "BorderStones$State"]
def xEnv (D : va_G) (ar : Nat → ClassId) (U : State) : Prop := va_K D xCl (xTys ar) U ∧ (∀ w ∈ xNs, va_Nw w U) ∧ (∀ q ∈ xFs, va_Fw q.1 q.2.1 q.2.2 U) ∧ ∀ C ∈ xAs, va_AO C U
theorem xFs_ok : ∀ q ∈ xFs, q.2.1.cls ≠ "java/lang/invoke/MethodHandle" ∧ q.2.1.cls ≠ "java/lang/invoke/VarHandle" := by decide
theorem xEnv.moved {D : va_G} {ar : Nat → ClassId} {s U : State} (hW : s.WarmedH U.vm) (h : xEnv D ar s) : xEnv D ar U := ⟨va_K.moved hW.alike h.1, xNs_warm hW h.2.1, fun q hq => va_Fw.moved (xFs_ok q hq) hW.alike (h.2.2.1 q hq), fun C hC => va_AO.moved hW.alike (h.2.2.2 C hC)⟩
theorem xEnv.calling {D : va_G} {ar : Nat → ClassId} {U : State} {g : JFrame} {mk : MethodId} {a : Array Value} (h : xEnv D ar U) : xEnv D ar (U.calling g mk a) := by
  obtain ⟨h1, h2, h3, h4⟩ := h
  refine ⟨va_K.moved (u := U) (U := U.calling g mk a) (Vm.Alike.refl U.vm) h1, fun w hw => va_Nw.same ?_ (u := U) (U := U.calling g mk a) rfl (h2 w hw), fun q hq => va_Fw.moved (xFs_ok q hq) (u := U) (U := U.calling g mk a) (Vm.Alike.refl U.vm) (h3 q hq), fun C hC => va_AO.moved (u := U) (U := U.calling g mk a) (Vm.Alike.refl U.vm) (h4 C hC)⟩
  have h2 := (List.mem_filter.mp hw).2
  unfold xNg at h2
  split at h2 <;> first | rfl | cases h2
/-- statics that the code reads: the class, name, descriptor, and the value (a reference: the cell's number) -/
def xZl : List (String × String × String × Value) := [("java/lang/String", "COMPACT_STRINGS", "Z", .int 1), ("BorderStones", "ASKED", "[Ljava/lang/String;", .ref 1), ("BorderStones", "SIDES", "[Ljava/lang/String;", .ref 2), ("BorderStones", "MARKS", "[Ljava/lang/String;", .ref 3), ("BorderStones", "OWN", "[Ljava/lang/String;", .ref 4), ("java/util/ArrayList", "EMPTY_ELEMENTDATA", "[Ljava/lang/Object;", .ref 5), ("java/util/ArrayList", "DEFAULTCAPACITY_EMPTY_ELEMENTDATA", "[Ljava/lang/Object;", .ref 6)]
/-- String constants: class, pool entry, text, the cell's number -/
def xSl : List (String × Nat × String × Nat) := [("BorderStones", 387, "field", 10), ("BorderStones", 389, "kind", 11), ("BorderStones", 390, "reach", 12), ("BorderStones", 379, "high", 13), ("BorderStones", 380, "sunk", 14), ("BorderStones", 382, "child", 15), ("BorderStones", 391, "stone", 16), ("BorderStones", 372, "red", 17), ("BorderStones", 374, "blue", 18), ("BorderStones", 393, "at", 19), ("BorderStones", 395, "land", 20), ("BorderStones", 396, "worth", 21), ("BorderStones", 397, "when", 22), ("BorderStones", 399, "or", 23), ("BorderStones", 401, "and", 24), ("BorderStones", 403, "not", 25), ("BorderStones", 405, "all", 26), ("BorderStones", 363, "across", 27), ("BorderStones", 365, "down", 28), ("BorderStones", 367, "edge", 29), ("BorderStones", 406, "min", 30), ("BorderStones", 407, "max", 31), ("BorderStones$Reader", 127, "field", 10), ("BorderStones$Reader", 158, "kind", 11), ("BorderStones$Reader", 159, "stone", 16), ("BorderStones$Reader", 161, "land", 20), ("BorderStones$Reader", 163, "worth", 21), ("BorderStones$Reader", 208, "reach", 12), ("BorderStones$Reader", 227, "at", 19), ("BorderStones$Reader", 273, "min", 30), ("BorderStones$Reader", 274, "max", 31), ("BorderStones$Reader", 188, "when", 22), ("BorderStones$Reader", 298, "not", 25), ("BorderStones$Reader", 305, "all", 26), ("BorderStones$Reader", 296, "and", 24), ("BorderStones$Reader", 287, "or", 23)]
/-- private methods of a superclass -/
def xPl : List MethodName := [⟨"java/lang/AbstractStringBuilder", "newCapacity", "(I)I"⟩, ⟨"java/lang/AbstractStringBuilder", "ensureCapacityInternal", "(I)V"⟩]
theorem xPl_cls : ∀ y ∈ xPl, y.cls = "java/lang/AbstractStringBuilder" ∧ y.cls ≠ "java/lang/invoke/MethodHandle" ∧ y.cls ≠ "java/lang/invoke/VarHandle" := by decide
def xPm (U : State) : Prop := ∀ y ∈ xPl, (Cond.privateMethod y).before #[] U = true
theorem xPm.moved {u U : State} (hvm : u.vm.Alike U.vm) (h : xPm u) : xPm U := fun y hy => by
  have h1 : (Cond.privateMethod y).before #[] (u.setVm U.vm) = true := by
    rw [Cond.privateMethod_setVm hvm]
    exact h y hy
  have e := Cond.onTables_vm (A := #[]) (A' := #[]) (U := u) (U' := U) U.vm (Cond.privateMethod y) rfl
  have hU : U.setVm U.vm = U := rfl
  rw [hU] at e
  rw [← e]
  exact h1
theorem xSelNc {args : Array Value} {s : State} {y : MethodName} (hy : y ∈ xPl) (hp : xPm s) (hi : (Cond.instanceMethod y).before args s = true) (hs : (Cond.selects "java/lang/StringBuilder" ⟨"java/lang/AbstractStringBuilder", "isLatin1", "()Z"⟩ ⟨"java/lang/AbstractStringBuilder", "isLatin1", "()Z"⟩).before args s = true) : (Cond.selects "java/lang/StringBuilder" y y).before args s = true := by
  obtain ⟨c, r, m, hc, -, hm, -, k, hk, hki⟩ := Cond.selects_spec hs
  obtain ⟨mk, methM, hnamed, hmethM, -, -⟩ := Cond.instanceMethod_spec hi
  have hfound : s.methodFound? y.cls y.name y.desc = some mk := State.methodFound?_of_named hnamed (xPl_cls y hy).2
  have f1 : s.vm.findClass "java/lang/AbstractStringBuilder" = some mk.cls := by
    rw [← (xPl_cls y hy).1]; exact findClass_of_methodNamed hnamed
  have f2 : s.vm.findClass "java/lang/AbstractStringBuilder" = some m.cls := findClass_of_methodNamed hm
  have hcls : mk.cls = m.cls := Option.some.inj (f1.symm.trans f2)
  have hsel : selectMethod {} s.vm c mk = .method mk := selectMethod_private hmethM (Cond.privateMethod_at (hp y hy) mk methM hnamed hmethM)
  simp only [Cond.before, Cond.holds, Cond.value, hc, hfound, hnamed, hsel, hcls, hk]
  simp; exact hki
/-- statics that hold a reference or null -/
def xYl : List (String × String × String × Value) := [("java/lang/Throwable", "UNASSIGNED_STACK", "[Ljava/lang/StackTraceElement;", .ref 7), ("java/lang/Throwable", "SUPPRESSED_SENTINEL", "Ljava/util/List;", .ref 8), ("jdk/internal/util/Preconditions", "SIOOBE_FORMATTER", "Ljava/util/function/BiFunction;", .ref 251)]
def xEnz (D : va_G) (ar : Nat → ClassId) (od : Nat → Nat) (z : Nat) (A : Nat → Prop) (U : State) (H : Heap) : Prop := xEnv D ar U ∧ (∀ q ∈ xZl, va_Z q.1 q.2.1 q.2.2.1 (bs_cv (xAd od z) q.2.2.2) A U H) ∧ (∀ q ∈ xSl, vk_R q.1 q.2.1 q.2.2.1 (xAd od z q.2.2.2) U) ∧ (∀ q ∈ xYl, ∃ v, (v = bs_cv (xAd od z) q.2.2.2 ∨ v = .null) ∧ va_Z q.1 q.2.1 q.2.2.1 v A U H) ∧ va_Mi "[Ljava/lang/Object;" (xAd od z 9) U ∧ xPm U
theorem xEnz.moved {D : va_G} {ar : Nat → ClassId} {od : Nat → Nat} {z : Nat} {A : Nat → Prop} {s U : State} {H H1 : Heap} (hW : s.WarmedH U.vm) (h : xEnz D ar od z A s H) (hq : ∀ a : Nat, a < H.size → ¬ A a → H1[a]? = H[a]?) : xEnz D ar od z A U H1 := ⟨h.1.moved hW, fun q hm => va_Z.kept (va_Z.moved hW.alike (h.2.1 q hm)) hq, fun q hm => vk_R.warm hW (h.2.2.1 q hm), fun q hm => (h.2.2.2.1 q hm).elim fun v hv => ⟨v, hv.1, va_Z.kept (va_Z.moved hW.alike hv.2) hq⟩, va_Mi.moved hW.alike h.2.2.2.2.1, xPm.moved hW.alike h.2.2.2.2.2⟩
theorem xEnz.calling {D : va_G} {ar : Nat → ClassId} {od : Nat → Nat} {z : Nat} {A : Nat → Prop} {U : State} {H : Heap} {g : JFrame} {mk : MethodId} {a : Array Value} (h : xEnz D ar od z A U H) : xEnz D ar od z A (U.calling g mk a) H := ⟨h.1.calling, fun q hm => va_Z.moved (u := U) (U := U.calling g mk a) (Vm.Alike.refl U.vm) (h.2.1 q hm), fun q hm => vk_R.same (u := U) (U := U.calling g mk a) rfl (h.2.2.1 q hm), fun q hm => (h.2.2.2.1 q hm).elim fun v hv => ⟨v, hv.1, va_Z.moved (u := U) (U := U.calling g mk a) (Vm.Alike.refl U.vm) hv.2⟩, va_Mi.moved (u := U) (U := U.calling g mk a) (Vm.Alike.refl U.vm) h.2.2.2.2.1, xPm.moved (u := U) (U := U.calling g mk a) (Vm.Alike.refl U.vm) h.2.2.2.2.2⟩
/-- what a start gives of the heap beside the world: kept while no old cell changes -/
def xEx (z : Nat) (Ex : Heap → Prop) : Prop := ∀ H H' : Heap, Ex H → (∀ q, q < z → H'[q]? = H[q]?) → Ex H'
section XMET
def xMet0 (l : Launch) (D : va_G) (ar : Nat → ClassId) (od : Nat → Nat) (z : Nat) (A : Nat → Prop) (Ex : Heap → Prop) (y : MethodName) (cc : ByteArray) (maxL : Nat) (rt : Option FieldType) (fr lo : Nat) (V : xV) : Prop :=
  ∀ (av : List Value) (w : xw) (Qr : Option Value → xw → Prop), Met l y (ws_ y cc maxL rt) ({ frames := fr, cells := 0, slots := 0, locals := lo })
    (va_Pc (av.map (bs_cv (xAd od z))) (fun U => V av w Qr ∧ xHp D ar od z A w U.heap ∧ Ex U.heap ∧ xEnz D ar od z A U U.heap))
    (fun _ st oc t => (∃ (r : Option Value) (w' : xw), oc = .returned (r.map (bs_cv (xAd od z))) ∧ Qr r w' ∧ xHp D ar od z A w' t.heap ∧ Ex t.heap) ∧ va_F A st t) 0 0 A
def xLkS (own : String) (ix n : Nat) (y : MethodName) : Prop := (Cond.methodLink own ix y ∈ lw_all ∨ ∃ host, Cond.methodLinkNest own ix y host ∈ xNs) ∧ Cond.static y ∈ lw_all ∧ y.cls ≠ "java/lang/invoke/MethodHandle" ∧ y.cls ≠ "java/lang/invoke/VarHandle" ∧ (parseMethodDescriptor y.desc).map (fun d => d.parameters.length) = some n
def xLkV (own : String) (ix n c : Nat) (y : MethodName) : Prop := ∃ q : vw_C, xCl[c]? = some q ∧ c < 50 ∧ Cond.instanceMethod y ∈ lw_all ∧
  ((y.cls = q.1 ∧ (Cond.methodLink own ix y ∈ lw_all ∨ ∃ host, Cond.methodLinkNest own ix y host ∈ xNs) ∧ Cond.selects q.1 y y ∈ lw_all ∧ Cond.initialized q.1 ∈ lw_all ∧ y.cls ≠ "java/lang/invoke/MethodHandle" ∧ y.cls ≠ "java/lang/invoke/VarHandle" ∧ (parseMethodDescriptor y.desc).map (fun d => d.parameters.length) = some n) ∨
   (∃ (x : MethodName) (owner : String), Cond.methodLink own ix x ∈ lw_all ∧ Cond.sameMethod x.cls owner x.name x.desc ∈ lw_all ∧ Cond.selects q.1 x y ∈ lw_all ∧ (y = ⟨owner, x.name, x.desc⟩ ∨ Cond.declares ⟨owner, x.name, x.desc⟩ ∈ xNs) ∧ owner ≠ "java/lang/invoke/MethodHandle" ∧ owner ≠ "java/lang/invoke/VarHandle" ∧ (parseMethodDescriptor x.desc).map (fun d => d.parameters.length) = some n) ∨
   (y ∈ xPl ∧ q.1 = "java/lang/StringBuilder" ∧ Cond.methodLink own ix y ∈ lw_all ∧ Cond.sameMethod y.cls y.cls y.name y.desc ∈ lw_all ∧ Cond.selects q.1 ⟨"java/lang/AbstractStringBuilder", "isLatin1", "()Z"⟩ ⟨"java/lang/AbstractStringBuilder", "isLatin1", "()Z"⟩ ∈ lw_all ∧ (parseMethodDescriptor y.desc).map (fun d => d.parameters.length) = some n))
def xLkF (own : String) (ix n c : Nat) (y : MethodName) : Prop := ∃ (q : vw_C) (x : MethodName), xCl[c]? = some q ∧ c < 50 ∧ Cond.instanceMethod y ∈ lw_all ∧ Cond.methodLink own ix x ∈ lw_all ∧ Cond.selects q.1 x y ∈ lw_all ∧ (q.1, x, y) ∈ xFs ∧ (parseMethodDescriptor x.desc).map (fun d => d.parameters.length) = some n
def xLkU (own : String) (ix n c : Nat) (y : MethodName) : Prop := ∃ q : vw_C, xCl[c]? = some q ∧ c < 50 ∧ Cond.instanceMethod y ∈ lw_all ∧ Cond.methodLink own ix y ∈ lw_all ∧ Cond.sameMethod y.cls y.cls y.name y.desc ∈ lw_all ∧ Cond.superclass own y.cls ∈ lw_all ∧ y.name ≠ "<init>" ∧ (parseMethodDescriptor y.desc).map (fun d => d.parameters.length) = some n
def xLkI (own : String) (ix n : Nat) (y : MethodName) (rt : Option FieldType) : Prop := (Cond.methodLink own ix y ∈ lw_all ∨ ∃ host, Cond.methodLinkNest own ix y host ∈ xNs) ∧ Cond.instanceMethod y ∈ lw_all ∧ y.name = "<init>" ∧ rt = none ∧ y.cls ≠ "java/lang/invoke/MethodHandle" ∧ y.cls ≠ "java/lang/invoke/VarHandle" ∧ (parseMethodDescriptor y.desc).map (fun d => d.parameters.length) = some n
def xCall0 (fr0 lo0 : Nat) (l : Launch) (D : va_G) (ar : Nat → ClassId) (od : Nat → Nat) (z : Nat) (A : Nat → Prop) (Ex : Heap → Prop) (own : String) (ix n kd : Nat) (t : Nat × xV) : Prop :=
  ∃ (y : MethodName) (cc : ByteArray) (maxL : Nat) (rt : Option FieldType) (fr lo : Nat), xMet0 l D ar od z A Ex y cc maxL rt fr lo t.2 ∧ (fr + 1 ≤ fr0 ∧ 8 + (maxL + 11) + lo ≤ lo0) ∧ Cond.code y cc maxL rt ∈ lw_all ∧ Cond.initialized y.cls ∈ lw_all ∧ (match kd with
    | 0 => xLkS own ix n y
    | 1 => xLkV own ix n t.1 y
    | 2 => xLkF own ix n t.1 y
    | 3 => xLkU own ix n t.1 y
    | _ => xLkI own ix n y rt)
end XMET
