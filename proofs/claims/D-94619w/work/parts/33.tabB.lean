/-! X layer: the classes' second tables -/
set_option maxRecDepth 100000
def flB_J0 : List (Nat × Nat × Nat) := []
def ctB_J0 : List (Nat × Nat) := []
def icB_J0 : List (Nat × Value) := []
def sxB_J0 : List (Nat × Value) := []
def lcB_J0 : List (Nat × Int64) := []
theorem tflB_J0 : ∀ q ∈ flB_J0, ∃ (x : vw_C) (ref : String), xCl[q.2.1]? = some x ∧ q.2.2 < x.2.2 ∧ (Cond.fieldLink RJ0 q.1 ref (x.2.1 q.2.2).2.1 (x.2.1 q.2.2).2.2.1 ∈ lw_all ∨ ∃ host, Cond.fieldLinkNest RJ0 q.1 ref (x.2.1 q.2.2).2.1 (x.2.1 q.2.2).2.2.1 host ∈ xNs) ∧ ((x.2.1 q.2.2).1 = ref ∨ Cond.sameField ref (x.2.1 q.2.2).1 (x.2.1 q.2.2).2.1 (x.2.1 q.2.2).2.2.1 ∈ lw_all) := fun _ h => absurd h List.not_mem_nil
theorem tctB_J0 : ∀ q ∈ ctB_J0, xCt RJ0 q.1 q.2 := fun _ h => absurd h List.not_mem_nil
theorem ticB_J0 : ∀ q ∈ icB_J0, xIc RJ0 q := fun _ h => absurd h List.not_mem_nil
theorem tsxB_J0 : ∀ q ∈ sxB_J0, xSx RJ0 q := fun _ h => absurd h List.not_mem_nil
theorem tlcB_J0 : ∀ q ∈ lcB_J0, Cond.constantLong RJ0 q.1 q.2 ∈ lw_all := fun _ h => absurd h List.not_mem_nil
def fpB_J0 : List (Nat × Nat × Nat) := []
theorem tbpB_J0 : xTb RJ0 flB_J0 fpB_J0 ctB_J0 icB_J0 sxB_J0 lcB_J0 false := ⟨tflB_J0, fun _ h => absurd h List.not_mem_nil, tctB_J0, ticB_J0, tsxB_J0, tlcB_J0⟩
def fiB_J0 : List (Nat × Nat × Nat) := []
theorem tbiB_J0 : xTb RJ0 flB_J0 fiB_J0 ctB_J0 icB_J0 sxB_J0 lcB_J0 true := ⟨tflB_J0, fun _ h => absurd h List.not_mem_nil, tctB_J0, ticB_J0, tsxB_J0, tlcB_J0⟩
def flB_J1 : List (Nat × Nat × Nat) := [(7, 16, 0)]
def ctB_J1 : List (Nat × Nat) := []
def icB_J1 : List (Nat × Value) := []
def sxB_J1 : List (Nat × Value) := []
def lcB_J1 : List (Nat × Int64) := []
theorem tflB_J1 : ∀ q ∈ flB_J1, ∃ (x : vw_C) (ref : String), xCl[q.2.1]? = some x ∧ q.2.2 < x.2.2 ∧ (Cond.fieldLink RJ1 q.1 ref (x.2.1 q.2.2).2.1 (x.2.1 q.2.2).2.2.1 ∈ lw_all ∨ ∃ host, Cond.fieldLinkNest RJ1 q.1 ref (x.2.1 q.2.2).2.1 (x.2.1 q.2.2).2.2.1 host ∈ xNs) ∧ ((x.2.1 q.2.2).1 = ref ∨ Cond.sameField ref (x.2.1 q.2.2).1 (x.2.1 q.2.2).2.1 (x.2.1 q.2.2).2.2.1 ∈ lw_all) := List.forall_mem_cons.mpr ⟨⟨(RJ2, TJ2, 3), "java/util/AbstractList", rfl, by decide, Or.inl q213, Or.inl rfl⟩, fun _ h => absurd h List.not_mem_nil⟩
theorem tctB_J1 : ∀ q ∈ ctB_J1, xCt RJ1 q.1 q.2 := fun _ h => absurd h List.not_mem_nil
theorem ticB_J1 : ∀ q ∈ icB_J1, xIc RJ1 q := fun _ h => absurd h List.not_mem_nil
theorem tsxB_J1 : ∀ q ∈ sxB_J1, xSx RJ1 q := fun _ h => absurd h List.not_mem_nil
theorem tlcB_J1 : ∀ q ∈ lcB_J1, Cond.constantLong RJ1 q.1 q.2 ∈ lw_all := fun _ h => absurd h List.not_mem_nil
def fpB_J1 : List (Nat × Nat × Nat) := [(7, 16, 0)]
theorem tbpB_J1 : xTb RJ1 flB_J1 fpB_J1 ctB_J1 icB_J1 sxB_J1 lcB_J1 false := ⟨tflB_J1, List.forall_mem_cons.mpr ⟨⟨by decide, (RJ2, TJ2, 3), rfl, Or.inl rfl⟩, fun _ h => absurd h List.not_mem_nil⟩, tctB_J1, ticB_J1, tsxB_J1, tlcB_J1⟩
def fiB_J1 : List (Nat × Nat × Nat) := [(7, 16, 0)]
theorem tbiB_J1 : xTb RJ1 flB_J1 fiB_J1 ctB_J1 icB_J1 sxB_J1 lcB_J1 true := ⟨tflB_J1, List.forall_mem_cons.mpr ⟨⟨by decide, (RJ2, TJ2, 3), rfl, Or.inl rfl⟩, fun _ h => absurd h List.not_mem_nil⟩, tctB_J1, ticB_J1, tsxB_J1, tlcB_J1⟩
def flB_J11 : List (Nat × Nat × Nat) := []
def ctB_J11 : List (Nat × Nat) := []
def icB_J11 : List (Nat × Value) := [(200, .int (2147483639))]
def sxB_J11 : List (Nat × Value) := []
def lcB_J11 : List (Nat × Int64) := []
theorem tflB_J11 : ∀ q ∈ flB_J11, ∃ (x : vw_C) (ref : String), xCl[q.2.1]? = some x ∧ q.2.2 < x.2.2 ∧ (Cond.fieldLink RJ11 q.1 ref (x.2.1 q.2.2).2.1 (x.2.1 q.2.2).2.2.1 ∈ lw_all ∨ ∃ host, Cond.fieldLinkNest RJ11 q.1 ref (x.2.1 q.2.2).2.1 (x.2.1 q.2.2).2.2.1 host ∈ xNs) ∧ ((x.2.1 q.2.2).1 = ref ∨ Cond.sameField ref (x.2.1 q.2.2).1 (x.2.1 q.2.2).2.1 (x.2.1 q.2.2).2.2.1 ∈ lw_all) := fun _ h => absurd h List.not_mem_nil
theorem tctB_J11 : ∀ q ∈ ctB_J11, xCt RJ11 q.1 q.2 := fun _ h => absurd h List.not_mem_nil
theorem ticB_J11 : ∀ q ∈ icB_J11, xIc RJ11 q := List.forall_mem_cons.mpr ⟨q875, fun _ h => absurd h List.not_mem_nil⟩
theorem tsxB_J11 : ∀ q ∈ sxB_J11, xSx RJ11 q := fun _ h => absurd h List.not_mem_nil
theorem tlcB_J11 : ∀ q ∈ lcB_J11, Cond.constantLong RJ11 q.1 q.2 ∈ lw_all := fun _ h => absurd h List.not_mem_nil
def fpB_J11 : List (Nat × Nat × Nat) := []
theorem tbpB_J11 : xTb RJ11 flB_J11 fpB_J11 ctB_J11 icB_J11 sxB_J11 lcB_J11 false := ⟨tflB_J11, fun _ h => absurd h List.not_mem_nil, tctB_J11, ticB_J11, tsxB_J11, tlcB_J11⟩
def fiB_J11 : List (Nat × Nat × Nat) := []
theorem tbiB_J11 : xTb RJ11 flB_J11 fiB_J11 ctB_J11 icB_J11 sxB_J11 lcB_J11 true := ⟨tflB_J11, fun _ h => absurd h List.not_mem_nil, tctB_J11, ticB_J11, tsxB_J11, tlcB_J11⟩
def flB_J13 : List (Nat × Nat × Nat) := []
def ctB_J13 : List (Nat × Nat) := []
def icB_J13 : List (Nat × Value) := []
def sxB_J13 : List (Nat × Value) := []
def lcB_J13 : List (Nat × Int64) := []
theorem tflB_J13 : ∀ q ∈ flB_J13, ∃ (x : vw_C) (ref : String), xCl[q.2.1]? = some x ∧ q.2.2 < x.2.2 ∧ (Cond.fieldLink RJ13 q.1 ref (x.2.1 q.2.2).2.1 (x.2.1 q.2.2).2.2.1 ∈ lw_all ∨ ∃ host, Cond.fieldLinkNest RJ13 q.1 ref (x.2.1 q.2.2).2.1 (x.2.1 q.2.2).2.2.1 host ∈ xNs) ∧ ((x.2.1 q.2.2).1 = ref ∨ Cond.sameField ref (x.2.1 q.2.2).1 (x.2.1 q.2.2).2.1 (x.2.1 q.2.2).2.2.1 ∈ lw_all) := fun _ h => absurd h List.not_mem_nil
theorem tctB_J13 : ∀ q ∈ ctB_J13, xCt RJ13 q.1 q.2 := fun _ h => absurd h List.not_mem_nil
theorem ticB_J13 : ∀ q ∈ icB_J13, xIc RJ13 q := fun _ h => absurd h List.not_mem_nil
theorem tsxB_J13 : ∀ q ∈ sxB_J13, xSx RJ13 q := fun _ h => absurd h List.not_mem_nil
theorem tlcB_J13 : ∀ q ∈ lcB_J13, Cond.constantLong RJ13 q.1 q.2 ∈ lw_all := fun _ h => absurd h List.not_mem_nil
def fpB_J13 : List (Nat × Nat × Nat) := []
theorem tbpB_J13 : xTb RJ13 flB_J13 fpB_J13 ctB_J13 icB_J13 sxB_J13 lcB_J13 false := ⟨tflB_J13, fun _ h => absurd h List.not_mem_nil, tctB_J13, ticB_J13, tsxB_J13, tlcB_J13⟩
def fiB_J13 : List (Nat × Nat × Nat) := []
theorem tbiB_J13 : xTb RJ13 flB_J13 fiB_J13 ctB_J13 icB_J13 sxB_J13 lcB_J13 true := ⟨tflB_J13, fun _ h => absurd h List.not_mem_nil, tctB_J13, ticB_J13, tsxB_J13, tlcB_J13⟩
def flB_J14 : List (Nat × Nat × Nat) := [(15, 18, 0), (22, 18, 1), (79, 18, 3)]
def ctB_J14 : List (Nat × Nat) := []
def icB_J14 : List (Nat × Value) := [(39, .int (2147483647))]
def sxB_J14 : List (Nat × Value) := [(18, .int 1)]
def lcB_J14 : List (Nat × Int64) := []
theorem tflB_J14 : ∀ q ∈ flB_J14, ∃ (x : vw_C) (ref : String), xCl[q.2.1]? = some x ∧ q.2.2 < x.2.2 ∧ (Cond.fieldLink RJ14 q.1 ref (x.2.1 q.2.2).2.1 (x.2.1 q.2.2).2.2.1 ∈ lw_all ∨ ∃ host, Cond.fieldLinkNest RJ14 q.1 ref (x.2.1 q.2.2).2.1 (x.2.1 q.2.2).2.2.1 host ∈ xNs) ∧ ((x.2.1 q.2.2).1 = ref ∨ Cond.sameField ref (x.2.1 q.2.2).1 (x.2.1 q.2.2).2.1 (x.2.1 q.2.2).2.2.1 ∈ lw_all) := List.forall_mem_cons.mpr ⟨⟨(RJ15, TJ15, 4), "java/lang/AbstractStringBuilder", rfl, by decide, Or.inl q958, Or.inl rfl⟩, List.forall_mem_cons.mpr ⟨⟨(RJ15, TJ15, 4), "java/lang/AbstractStringBuilder", rfl, by decide, Or.inl q959, Or.inl rfl⟩, List.forall_mem_cons.mpr ⟨⟨(RJ15, TJ15, 4), "java/lang/AbstractStringBuilder", rfl, by decide, Or.inl q960, Or.inl rfl⟩, fun _ h => absurd h List.not_mem_nil⟩⟩⟩
theorem tctB_J14 : ∀ q ∈ ctB_J14, xCt RJ14 q.1 q.2 := fun _ h => absurd h List.not_mem_nil
theorem ticB_J14 : ∀ q ∈ icB_J14, xIc RJ14 q := List.forall_mem_cons.mpr ⟨q1053, fun _ h => absurd h List.not_mem_nil⟩
theorem tsxB_J14 : ∀ q ∈ sxB_J14, xSx RJ14 q := List.forall_mem_cons.mpr ⟨⟨"java/lang/String", "COMPACT_STRINGS", "Z", Or.inl (by decide +kernel), Or.inl q956⟩, fun _ h => absurd h List.not_mem_nil⟩
theorem tlcB_J14 : ∀ q ∈ lcB_J14, Cond.constantLong RJ14 q.1 q.2 ∈ lw_all := fun _ h => absurd h List.not_mem_nil
def fpB_J14 : List (Nat × Nat × Nat) := [(15, 18, 0), (22, 18, 1), (79, 18, 3)]
theorem tbpB_J14 : xTb RJ14 flB_J14 fpB_J14 ctB_J14 icB_J14 sxB_J14 lcB_J14 false := ⟨tflB_J14, List.forall_mem_cons.mpr ⟨⟨by decide, (RJ15, TJ15, 4), rfl, Or.inl rfl⟩, List.forall_mem_cons.mpr ⟨⟨by decide, (RJ15, TJ15, 4), rfl, Or.inl rfl⟩, List.forall_mem_cons.mpr ⟨⟨by decide, (RJ15, TJ15, 4), rfl, Or.inl rfl⟩, fun _ h => absurd h List.not_mem_nil⟩⟩⟩, tctB_J14, ticB_J14, tsxB_J14, tlcB_J14⟩
def fiB_J14 : List (Nat × Nat × Nat) := [(15, 18, 0), (22, 18, 1), (79, 18, 3)]
theorem tbiB_J14 : xTb RJ14 flB_J14 fiB_J14 ctB_J14 icB_J14 sxB_J14 lcB_J14 true := ⟨tflB_J14, List.forall_mem_cons.mpr ⟨⟨by decide, (RJ15, TJ15, 4), rfl, Or.inl rfl⟩, List.forall_mem_cons.mpr ⟨⟨by decide, (RJ15, TJ15, 4), rfl, Or.inl rfl⟩, List.forall_mem_cons.mpr ⟨⟨by decide, (RJ15, TJ15, 4), rfl, Or.inl rfl⟩, fun _ h => absurd h List.not_mem_nil⟩⟩⟩, tctB_J14, ticB_J14, tsxB_J14, tlcB_J14⟩
def flB_J15 : List (Nat × Nat × Nat) := []
def ctB_J15 : List (Nat × Nat) := []
def icB_J15 : List (Nat × Value) := []
def sxB_J15 : List (Nat × Value) := []
def lcB_J15 : List (Nat × Int64) := []
theorem tflB_J15 : ∀ q ∈ flB_J15, ∃ (x : vw_C) (ref : String), xCl[q.2.1]? = some x ∧ q.2.2 < x.2.2 ∧ (Cond.fieldLink RJ15 q.1 ref (x.2.1 q.2.2).2.1 (x.2.1 q.2.2).2.2.1 ∈ lw_all ∨ ∃ host, Cond.fieldLinkNest RJ15 q.1 ref (x.2.1 q.2.2).2.1 (x.2.1 q.2.2).2.2.1 host ∈ xNs) ∧ ((x.2.1 q.2.2).1 = ref ∨ Cond.sameField ref (x.2.1 q.2.2).1 (x.2.1 q.2.2).2.1 (x.2.1 q.2.2).2.2.1 ∈ lw_all) := fun _ h => absurd h List.not_mem_nil
theorem tctB_J15 : ∀ q ∈ ctB_J15, xCt RJ15 q.1 q.2 := fun _ h => absurd h List.not_mem_nil
theorem ticB_J15 : ∀ q ∈ icB_J15, xIc RJ15 q := fun _ h => absurd h List.not_mem_nil
theorem tsxB_J15 : ∀ q ∈ sxB_J15, xSx RJ15 q := fun _ h => absurd h List.not_mem_nil
theorem tlcB_J15 : ∀ q ∈ lcB_J15, Cond.constantLong RJ15 q.1 q.2 ∈ lw_all := fun _ h => absurd h List.not_mem_nil
def fpB_J15 : List (Nat × Nat × Nat) := []
theorem tbpB_J15 : xTb RJ15 flB_J15 fpB_J15 ctB_J15 icB_J15 sxB_J15 lcB_J15 false := ⟨tflB_J15, fun _ h => absurd h List.not_mem_nil, tctB_J15, ticB_J15, tsxB_J15, tlcB_J15⟩
def fiB_J15 : List (Nat × Nat × Nat) := []
theorem tbiB_J15 : xTb RJ15 flB_J15 fiB_J15 ctB_J15 icB_J15 sxB_J15 lcB_J15 true := ⟨tflB_J15, fun _ h => absurd h List.not_mem_nil, tctB_J15, ticB_J15, tsxB_J15, tlcB_J15⟩
def flB_J2 : List (Nat × Nat × Nat) := [(9, 16, 1), (63, 16, 0), (48, 16, 2)]
def ctB_J2 : List (Nat × Nat) := []
def icB_J2 : List (Nat × Value) := []
def sxB_J2 : List (Nat × Value) := [(15, .ref 5), (39, .ref 6)]
def lcB_J2 : List (Nat × Int64) := []
theorem tflB_J2 : ∀ q ∈ flB_J2, ∃ (x : vw_C) (ref : String), xCl[q.2.1]? = some x ∧ q.2.2 < x.2.2 ∧ (Cond.fieldLink RJ2 q.1 ref (x.2.1 q.2.2).2.1 (x.2.1 q.2.2).2.2.1 ∈ lw_all ∨ ∃ host, Cond.fieldLinkNest RJ2 q.1 ref (x.2.1 q.2.2).2.1 (x.2.1 q.2.2).2.2.1 host ∈ xNs) ∧ ((x.2.1 q.2.2).1 = ref ∨ Cond.sameField ref (x.2.1 q.2.2).1 (x.2.1 q.2.2).2.1 (x.2.1 q.2.2).2.2.1 ∈ lw_all) := List.forall_mem_cons.mpr ⟨⟨(RJ2, TJ2, 3), "java/util/ArrayList", rfl, by decide, Or.inl q211, Or.inl rfl⟩, List.forall_mem_cons.mpr ⟨⟨(RJ2, TJ2, 3), "java/util/ArrayList", rfl, by decide, Or.inl q214, Or.inr q215⟩, List.forall_mem_cons.mpr ⟨⟨(RJ2, TJ2, 3), "java/util/ArrayList", rfl, by decide, Or.inl q212, Or.inl rfl⟩, fun _ h => absurd h List.not_mem_nil⟩⟩⟩
theorem tctB_J2 : ∀ q ∈ ctB_J2, xCt RJ2 q.1 q.2 := fun _ h => absurd h List.not_mem_nil
theorem ticB_J2 : ∀ q ∈ icB_J2, xIc RJ2 q := fun _ h => absurd h List.not_mem_nil
theorem tsxB_J2 : ∀ q ∈ sxB_J2, xSx RJ2 q := List.forall_mem_cons.mpr ⟨⟨"java/util/ArrayList", "EMPTY_ELEMENTDATA", "[Ljava/lang/Object;", Or.inl (by decide +kernel), Or.inl q209⟩, List.forall_mem_cons.mpr ⟨⟨"java/util/ArrayList", "DEFAULTCAPACITY_EMPTY_ELEMENTDATA", "[Ljava/lang/Object;", Or.inl (by decide +kernel), Or.inl q867⟩, fun _ h => absurd h List.not_mem_nil⟩⟩
theorem tlcB_J2 : ∀ q ∈ lcB_J2, Cond.constantLong RJ2 q.1 q.2 ∈ lw_all := fun _ h => absurd h List.not_mem_nil
def fpB_J2 : List (Nat × Nat × Nat) := [(9, 16, 1), (63, 16, 0), (48, 16, 2)]
theorem tbpB_J2 : xTb RJ2 flB_J2 fpB_J2 ctB_J2 icB_J2 sxB_J2 lcB_J2 false := ⟨tflB_J2, List.forall_mem_cons.mpr ⟨⟨by decide, (RJ2, TJ2, 3), rfl, Or.inl rfl⟩, List.forall_mem_cons.mpr ⟨⟨by decide, (RJ2, TJ2, 3), rfl, Or.inl rfl⟩, List.forall_mem_cons.mpr ⟨⟨by decide, (RJ2, TJ2, 3), rfl, Or.inl rfl⟩, fun _ h => absurd h List.not_mem_nil⟩⟩⟩, tctB_J2, ticB_J2, tsxB_J2, tlcB_J2⟩
def fiB_J2 : List (Nat × Nat × Nat) := [(9, 16, 1), (63, 16, 0), (48, 16, 2)]
theorem tbiB_J2 : xTb RJ2 flB_J2 fiB_J2 ctB_J2 icB_J2 sxB_J2 lcB_J2 true := ⟨tflB_J2, List.forall_mem_cons.mpr ⟨⟨by decide, (RJ2, TJ2, 3), rfl, Or.inl rfl⟩, List.forall_mem_cons.mpr ⟨⟨by decide, (RJ2, TJ2, 3), rfl, Or.inl rfl⟩, List.forall_mem_cons.mpr ⟨⟨by decide, (RJ2, TJ2, 3), rfl, Or.inl rfl⟩, fun _ h => absurd h List.not_mem_nil⟩⟩⟩, tctB_J2, ticB_J2, tsxB_J2, tlcB_J2⟩
def flB_J3 : List (Nat × Nat × Nat) := [(7, 3, 0), (17, 3, 1), (24, 3, 2), (31, 3, 3)]
def ctB_J3 : List (Nat × Nat) := []
def icB_J3 : List (Nat × Value) := []
def sxB_J3 : List (Nat × Value) := [(13, .ref 7), (20, .ref 8)]
def lcB_J3 : List (Nat × Int64) := []
theorem tflB_J3 : ∀ q ∈ flB_J3, ∃ (x : vw_C) (ref : String), xCl[q.2.1]? = some x ∧ q.2.2 < x.2.2 ∧ (Cond.fieldLink RJ3 q.1 ref (x.2.1 q.2.2).2.1 (x.2.1 q.2.2).2.2.1 ∈ lw_all ∨ ∃ host, Cond.fieldLinkNest RJ3 q.1 ref (x.2.1 q.2.2).2.1 (x.2.1 q.2.2).2.2.1 host ∈ xNs) ∧ ((x.2.1 q.2.2).1 = ref ∨ Cond.sameField ref (x.2.1 q.2.2).1 (x.2.1 q.2.2).2.1 (x.2.1 q.2.2).2.2.1 ∈ lw_all) := List.forall_mem_cons.mpr ⟨⟨(RX3, TX3, 8), "java/lang/Throwable", rfl, by decide, Or.inl q352, Or.inl rfl⟩, List.forall_mem_cons.mpr ⟨⟨(RX3, TX3, 8), "java/lang/Throwable", rfl, by decide, Or.inl q353, Or.inl rfl⟩, List.forall_mem_cons.mpr ⟨⟨(RX3, TX3, 8), "java/lang/Throwable", rfl, by decide, Or.inl q354, Or.inl rfl⟩, List.forall_mem_cons.mpr ⟨⟨(RX3, TX3, 8), "java/lang/Throwable", rfl, by decide, Or.inl q351, Or.inl rfl⟩, fun _ h => absurd h List.not_mem_nil⟩⟩⟩⟩
theorem tctB_J3 : ∀ q ∈ ctB_J3, xCt RJ3 q.1 q.2 := fun _ h => absurd h List.not_mem_nil
theorem ticB_J3 : ∀ q ∈ icB_J3, xIc RJ3 q := fun _ h => absurd h List.not_mem_nil
theorem tsxB_J3 : ∀ q ∈ sxB_J3, xSx RJ3 q := List.forall_mem_cons.mpr ⟨⟨"java/lang/Throwable", "UNASSIGNED_STACK", "[Ljava/lang/StackTraceElement;", Or.inr (by decide +kernel), Or.inl q321⟩, List.forall_mem_cons.mpr ⟨⟨"java/lang/Throwable", "SUPPRESSED_SENTINEL", "Ljava/util/List;", Or.inr (by decide +kernel), Or.inl q323⟩, fun _ h => absurd h List.not_mem_nil⟩⟩
theorem tlcB_J3 : ∀ q ∈ lcB_J3, Cond.constantLong RJ3 q.1 q.2 ∈ lw_all := fun _ h => absurd h List.not_mem_nil
def fpB_J3 : List (Nat × Nat × Nat) := [(7, 3, 0), (17, 3, 1), (24, 3, 2), (31, 3, 3)]
theorem tbpB_J3 : xTb RJ3 flB_J3 fpB_J3 ctB_J3 icB_J3 sxB_J3 lcB_J3 false := ⟨tflB_J3, List.forall_mem_cons.mpr ⟨⟨by decide, (RX3, TX3, 8), rfl, Or.inl rfl⟩, List.forall_mem_cons.mpr ⟨⟨by decide, (RX3, TX3, 8), rfl, Or.inl rfl⟩, List.forall_mem_cons.mpr ⟨⟨by decide, (RX3, TX3, 8), rfl, Or.inl rfl⟩, List.forall_mem_cons.mpr ⟨⟨by decide, (RX3, TX3, 8), rfl, Or.inl rfl⟩, fun _ h => absurd h List.not_mem_nil⟩⟩⟩⟩, tctB_J3, ticB_J3, tsxB_J3, tlcB_J3⟩
def fiB_J3 : List (Nat × Nat × Nat) := [(7, 3, 0), (17, 3, 1), (24, 3, 2), (31, 3, 3)]
theorem tbiB_J3 : xTb RJ3 flB_J3 fiB_J3 ctB_J3 icB_J3 sxB_J3 lcB_J3 true := ⟨tflB_J3, List.forall_mem_cons.mpr ⟨⟨by decide, (RX3, TX3, 8), rfl, Or.inl rfl⟩, List.forall_mem_cons.mpr ⟨⟨by decide, (RX3, TX3, 8), rfl, Or.inl rfl⟩, List.forall_mem_cons.mpr ⟨⟨by decide, (RX3, TX3, 8), rfl, Or.inl rfl⟩, List.forall_mem_cons.mpr ⟨⟨by decide, (RX3, TX3, 8), rfl, Or.inl rfl⟩, fun _ h => absurd h List.not_mem_nil⟩⟩⟩⟩, tctB_J3, ticB_J3, tsxB_J3, tlcB_J3⟩
def flB_J4 : List (Nat × Nat × Nat) := []
def ctB_J4 : List (Nat × Nat) := []
def icB_J4 : List (Nat × Value) := []
def sxB_J4 : List (Nat × Value) := []
def lcB_J4 : List (Nat × Int64) := []
theorem tflB_J4 : ∀ q ∈ flB_J4, ∃ (x : vw_C) (ref : String), xCl[q.2.1]? = some x ∧ q.2.2 < x.2.2 ∧ (Cond.fieldLink RJ4 q.1 ref (x.2.1 q.2.2).2.1 (x.2.1 q.2.2).2.2.1 ∈ lw_all ∨ ∃ host, Cond.fieldLinkNest RJ4 q.1 ref (x.2.1 q.2.2).2.1 (x.2.1 q.2.2).2.2.1 host ∈ xNs) ∧ ((x.2.1 q.2.2).1 = ref ∨ Cond.sameField ref (x.2.1 q.2.2).1 (x.2.1 q.2.2).2.1 (x.2.1 q.2.2).2.2.1 ∈ lw_all) := fun _ h => absurd h List.not_mem_nil
theorem tctB_J4 : ∀ q ∈ ctB_J4, xCt RJ4 q.1 q.2 := fun _ h => absurd h List.not_mem_nil
theorem ticB_J4 : ∀ q ∈ icB_J4, xIc RJ4 q := fun _ h => absurd h List.not_mem_nil
theorem tsxB_J4 : ∀ q ∈ sxB_J4, xSx RJ4 q := fun _ h => absurd h List.not_mem_nil
theorem tlcB_J4 : ∀ q ∈ lcB_J4, Cond.constantLong RJ4 q.1 q.2 ∈ lw_all := fun _ h => absurd h List.not_mem_nil
def fpB_J4 : List (Nat × Nat × Nat) := []
theorem tbpB_J4 : xTb RJ4 flB_J4 fpB_J4 ctB_J4 icB_J4 sxB_J4 lcB_J4 false := ⟨tflB_J4, fun _ h => absurd h List.not_mem_nil, tctB_J4, ticB_J4, tsxB_J4, tlcB_J4⟩
def fiB_J4 : List (Nat × Nat × Nat) := []
theorem tbiB_J4 : xTb RJ4 flB_J4 fiB_J4 ctB_J4 icB_J4 sxB_J4 lcB_J4 true := ⟨tflB_J4, fun _ h => absurd h List.not_mem_nil, tctB_J4, ticB_J4, tsxB_J4, tlcB_J4⟩
def flB_J5 : List (Nat × Nat × Nat) := []
def ctB_J5 : List (Nat × Nat) := []
def icB_J5 : List (Nat × Value) := []
def sxB_J5 : List (Nat × Value) := []
def lcB_J5 : List (Nat × Int64) := []
theorem tflB_J5 : ∀ q ∈ flB_J5, ∃ (x : vw_C) (ref : String), xCl[q.2.1]? = some x ∧ q.2.2 < x.2.2 ∧ (Cond.fieldLink RJ5 q.1 ref (x.2.1 q.2.2).2.1 (x.2.1 q.2.2).2.2.1 ∈ lw_all ∨ ∃ host, Cond.fieldLinkNest RJ5 q.1 ref (x.2.1 q.2.2).2.1 (x.2.1 q.2.2).2.2.1 host ∈ xNs) ∧ ((x.2.1 q.2.2).1 = ref ∨ Cond.sameField ref (x.2.1 q.2.2).1 (x.2.1 q.2.2).2.1 (x.2.1 q.2.2).2.2.1 ∈ lw_all) := fun _ h => absurd h List.not_mem_nil
theorem tctB_J5 : ∀ q ∈ ctB_J5, xCt RJ5 q.1 q.2 := fun _ h => absurd h List.not_mem_nil
theorem ticB_J5 : ∀ q ∈ icB_J5, xIc RJ5 q := fun _ h => absurd h List.not_mem_nil
theorem tsxB_J5 : ∀ q ∈ sxB_J5, xSx RJ5 q := fun _ h => absurd h List.not_mem_nil
theorem tlcB_J5 : ∀ q ∈ lcB_J5, Cond.constantLong RJ5 q.1 q.2 ∈ lw_all := fun _ h => absurd h List.not_mem_nil
def fpB_J5 : List (Nat × Nat × Nat) := []
theorem tbpB_J5 : xTb RJ5 flB_J5 fpB_J5 ctB_J5 icB_J5 sxB_J5 lcB_J5 false := ⟨tflB_J5, fun _ h => absurd h List.not_mem_nil, tctB_J5, ticB_J5, tsxB_J5, tlcB_J5⟩
def fiB_J5 : List (Nat × Nat × Nat) := []
theorem tbiB_J5 : xTb RJ5 flB_J5 fiB_J5 ctB_J5 icB_J5 sxB_J5 lcB_J5 true := ⟨tflB_J5, fun _ h => absurd h List.not_mem_nil, tctB_J5, ticB_J5, tsxB_J5, tlcB_J5⟩
def flB_J6 : List (Nat × Nat × Nat) := [(9, 17, 0), (15, 17, 1)]
def ctB_J6 : List (Nat × Nat) := []
def icB_J6 : List (Nat × Value) := []
def sxB_J6 : List (Nat × Value) := [(38, .int 1)]
def lcB_J6 : List (Nat × Int64) := []
theorem tflB_J6 : ∀ q ∈ flB_J6, ∃ (x : vw_C) (ref : String), xCl[q.2.1]? = some x ∧ q.2.2 < x.2.2 ∧ (Cond.fieldLink RJ6 q.1 ref (x.2.1 q.2.2).2.1 (x.2.1 q.2.2).2.2.1 ∈ lw_all ∨ ∃ host, Cond.fieldLinkNest RJ6 q.1 ref (x.2.1 q.2.2).2.1 (x.2.1 q.2.2).2.2.1 host ∈ xNs) ∧ ((x.2.1 q.2.2).1 = ref ∨ Cond.sameField ref (x.2.1 q.2.2).1 (x.2.1 q.2.2).2.1 (x.2.1 q.2.2).2.2.1 ∈ lw_all) := List.forall_mem_cons.mpr ⟨⟨(RJ6, TJ6, 4), "java/lang/String", rfl, by decide, Or.inl q654, Or.inl rfl⟩, List.forall_mem_cons.mpr ⟨⟨(RJ6, TJ6, 4), "java/lang/String", rfl, by decide, Or.inl q655, Or.inl rfl⟩, fun _ h => absurd h List.not_mem_nil⟩⟩
theorem tctB_J6 : ∀ q ∈ ctB_J6, xCt RJ6 q.1 q.2 := fun _ h => absurd h List.not_mem_nil
theorem ticB_J6 : ∀ q ∈ icB_J6, xIc RJ6 q := fun _ h => absurd h List.not_mem_nil
theorem tsxB_J6 : ∀ q ∈ sxB_J6, xSx RJ6 q := List.forall_mem_cons.mpr ⟨⟨"java/lang/String", "COMPACT_STRINGS", "Z", Or.inl (by decide +kernel), Or.inl q603⟩, fun _ h => absurd h List.not_mem_nil⟩
theorem tlcB_J6 : ∀ q ∈ lcB_J6, Cond.constantLong RJ6 q.1 q.2 ∈ lw_all := fun _ h => absurd h List.not_mem_nil
def fpB_J6 : List (Nat × Nat × Nat) := []
theorem tbpB_J6 : xTb RJ6 flB_J6 fpB_J6 ctB_J6 icB_J6 sxB_J6 lcB_J6 false := ⟨tflB_J6, fun _ h => absurd h List.not_mem_nil, tctB_J6, ticB_J6, tsxB_J6, tlcB_J6⟩
def fiB_J6 : List (Nat × Nat × Nat) := [(9, 17, 0), (15, 17, 1)]
theorem tbiB_J6 : xTb RJ6 flB_J6 fiB_J6 ctB_J6 icB_J6 sxB_J6 lcB_J6 true := ⟨tflB_J6, List.forall_mem_cons.mpr ⟨⟨by decide, (RJ6, TJ6, 4), rfl, Or.inr ⟨rfl, rfl, rfl, "java/lang/String", q654, rfl⟩⟩, List.forall_mem_cons.mpr ⟨⟨by decide, (RJ6, TJ6, 4), rfl, Or.inr ⟨rfl, rfl, rfl, "java/lang/String", q655, rfl⟩⟩, fun _ h => absurd h List.not_mem_nil⟩⟩, tctB_J6, ticB_J6, tsxB_J6, tlcB_J6⟩
def flB_J7 : List (Nat × Nat × Nat) := []
def ctB_J7 : List (Nat × Nat) := []
def icB_J7 : List (Nat × Value) := []
def sxB_J7 : List (Nat × Value) := []
def lcB_J7 : List (Nat × Int64) := []
theorem tflB_J7 : ∀ q ∈ flB_J7, ∃ (x : vw_C) (ref : String), xCl[q.2.1]? = some x ∧ q.2.2 < x.2.2 ∧ (Cond.fieldLink RJ7 q.1 ref (x.2.1 q.2.2).2.1 (x.2.1 q.2.2).2.2.1 ∈ lw_all ∨ ∃ host, Cond.fieldLinkNest RJ7 q.1 ref (x.2.1 q.2.2).2.1 (x.2.1 q.2.2).2.2.1 host ∈ xNs) ∧ ((x.2.1 q.2.2).1 = ref ∨ Cond.sameField ref (x.2.1 q.2.2).1 (x.2.1 q.2.2).2.1 (x.2.1 q.2.2).2.2.1 ∈ lw_all) := fun _ h => absurd h List.not_mem_nil
theorem tctB_J7 : ∀ q ∈ ctB_J7, xCt RJ7 q.1 q.2 := fun _ h => absurd h List.not_mem_nil
theorem ticB_J7 : ∀ q ∈ icB_J7, xIc RJ7 q := fun _ h => absurd h List.not_mem_nil
theorem tsxB_J7 : ∀ q ∈ sxB_J7, xSx RJ7 q := fun _ h => absurd h List.not_mem_nil
theorem tlcB_J7 : ∀ q ∈ lcB_J7, Cond.constantLong RJ7 q.1 q.2 ∈ lw_all := fun _ h => absurd h List.not_mem_nil
def fpB_J7 : List (Nat × Nat × Nat) := []
theorem tbpB_J7 : xTb RJ7 flB_J7 fpB_J7 ctB_J7 icB_J7 sxB_J7 lcB_J7 false := ⟨tflB_J7, fun _ h => absurd h List.not_mem_nil, tctB_J7, ticB_J7, tsxB_J7, tlcB_J7⟩
def fiB_J7 : List (Nat × Nat × Nat) := []
theorem tbiB_J7 : xTb RJ7 flB_J7 fiB_J7 ctB_J7 icB_J7 sxB_J7 lcB_J7 true := ⟨tflB_J7, fun _ h => absurd h List.not_mem_nil, tctB_J7, ticB_J7, tsxB_J7, tlcB_J7⟩
def flB_J9 : List (Nat × Nat × Nat) := []
def ctB_J9 : List (Nat × Nat) := []
def icB_J9 : List (Nat × Value) := []
def sxB_J9 : List (Nat × Value) := []
def lcB_J9 : List (Nat × Int64) := []
theorem tflB_J9 : ∀ q ∈ flB_J9, ∃ (x : vw_C) (ref : String), xCl[q.2.1]? = some x ∧ q.2.2 < x.2.2 ∧ (Cond.fieldLink RJ9 q.1 ref (x.2.1 q.2.2).2.1 (x.2.1 q.2.2).2.2.1 ∈ lw_all ∨ ∃ host, Cond.fieldLinkNest RJ9 q.1 ref (x.2.1 q.2.2).2.1 (x.2.1 q.2.2).2.2.1 host ∈ xNs) ∧ ((x.2.1 q.2.2).1 = ref ∨ Cond.sameField ref (x.2.1 q.2.2).1 (x.2.1 q.2.2).2.1 (x.2.1 q.2.2).2.2.1 ∈ lw_all) := fun _ h => absurd h List.not_mem_nil
theorem tctB_J9 : ∀ q ∈ ctB_J9, xCt RJ9 q.1 q.2 := fun _ h => absurd h List.not_mem_nil
theorem ticB_J9 : ∀ q ∈ icB_J9, xIc RJ9 q := fun _ h => absurd h List.not_mem_nil
theorem tsxB_J9 : ∀ q ∈ sxB_J9, xSx RJ9 q := fun _ h => absurd h List.not_mem_nil
theorem tlcB_J9 : ∀ q ∈ lcB_J9, Cond.constantLong RJ9 q.1 q.2 ∈ lw_all := fun _ h => absurd h List.not_mem_nil
def fpB_J9 : List (Nat × Nat × Nat) := []
theorem tbpB_J9 : xTb RJ9 flB_J9 fpB_J9 ctB_J9 icB_J9 sxB_J9 lcB_J9 false := ⟨tflB_J9, fun _ h => absurd h List.not_mem_nil, tctB_J9, ticB_J9, tsxB_J9, tlcB_J9⟩
def fiB_J9 : List (Nat × Nat × Nat) := []
theorem tbiB_J9 : xTb RJ9 flB_J9 fiB_J9 ctB_J9 icB_J9 sxB_J9 lcB_J9 true := ⟨tflB_J9, fun _ h => absurd h List.not_mem_nil, tctB_J9, ticB_J9, tsxB_J9, tlcB_J9⟩
def flB_X0 : List (Nat × Nat × Nat) := [(31, 0, 0), (35, 0, 1), (39, 0, 4), (48, 0, 5), (55, 0, 6), (62, 0, 7), (66, 0, 8), (70, 0, 9), (74, 0, 11), (77, 0, 12), (80, 0, 13), (84, 0, 14), (87, 0, 15), (90, 0, 16), (93, 0, 17), (96, 0, 20), (100, 0, 21)]
def ctB_X0 : List (Nat × Nat) := []
def icB_X0 : List (Nat × Value) := []
def sxB_X0 : List (Nat × Value) := []
def lcB_X0 : List (Nat × Int64) := []
theorem tflB_X0 : ∀ q ∈ flB_X0, ∃ (x : vw_C) (ref : String), xCl[q.2.1]? = some x ∧ q.2.2 < x.2.2 ∧ (Cond.fieldLink RX0 q.1 ref (x.2.1 q.2.2).2.1 (x.2.1 q.2.2).2.2.1 ∈ lw_all ∨ ∃ host, Cond.fieldLinkNest RX0 q.1 ref (x.2.1 q.2.2).2.1 (x.2.1 q.2.2).2.2.1 host ∈ xNs) ∧ ((x.2.1 q.2.2).1 = ref ∨ Cond.sameField ref (x.2.1 q.2.2).1 (x.2.1 q.2.2).2.1 (x.2.1 q.2.2).2.2.1 ∈ lw_all) := List.forall_mem_cons.mpr ⟨⟨(RX0, TX0, 23), "BorderStones", rfl, by decide, Or.inl q461, Or.inl rfl⟩, List.forall_mem_cons.mpr ⟨⟨(RX0, TX0, 23), "BorderStones", rfl, by decide, Or.inl q463, Or.inl rfl⟩, List.forall_mem_cons.mpr ⟨⟨(RX0, TX0, 23), "BorderStones", rfl, by decide, Or.inl q466, Or.inl rfl⟩, List.forall_mem_cons.mpr ⟨⟨(RX0, TX0, 23), "BorderStones", rfl, by decide, Or.inl q467, Or.inl rfl⟩, List.forall_mem_cons.mpr ⟨⟨(RX0, TX0, 23), "BorderStones", rfl, by decide, Or.inl q468, Or.inl rfl⟩, List.forall_mem_cons.mpr ⟨⟨(RX0, TX0, 23), "BorderStones", rfl, by decide, Or.inl q469, Or.inl rfl⟩, List.forall_mem_cons.mpr ⟨⟨(RX0, TX0, 23), "BorderStones", rfl, by decide, Or.inl q470, Or.inl rfl⟩, List.forall_mem_cons.mpr ⟨⟨(RX0, TX0, 23), "BorderStones", rfl, by decide, Or.inl q471, Or.inl rfl⟩, List.forall_mem_cons.mpr ⟨⟨(RX0, TX0, 23), "BorderStones", rfl, by decide, Or.inl q473, Or.inl rfl⟩, List.forall_mem_cons.mpr ⟨⟨(RX0, TX0, 23), "BorderStones", rfl, by decide, Or.inl q474, Or.inl rfl⟩, List.forall_mem_cons.mpr ⟨⟨(RX0, TX0, 23), "BorderStones", rfl, by decide, Or.inl q475, Or.inl rfl⟩, List.forall_mem_cons.mpr ⟨⟨(RX0, TX0, 23), "BorderStones", rfl, by decide, Or.inl q476, Or.inl rfl⟩, List.forall_mem_cons.mpr ⟨⟨(RX0, TX0, 23), "BorderStones", rfl, by decide, Or.inl q477, Or.inl rfl⟩, List.forall_mem_cons.mpr ⟨⟨(RX0, TX0, 23), "BorderStones", rfl, by decide, Or.inl q478, Or.inl rfl⟩, List.forall_mem_cons.mpr ⟨⟨(RX0, TX0, 23), "BorderStones", rfl, by decide, Or.inl q479, Or.inl rfl⟩, List.forall_mem_cons.mpr ⟨⟨(RX0, TX0, 23), "BorderStones", rfl, by decide, Or.inl q482, Or.inl rfl⟩, List.forall_mem_cons.mpr ⟨⟨(RX0, TX0, 23), "BorderStones", rfl, by decide, Or.inl q483, Or.inl rfl⟩, fun _ h => absurd h List.not_mem_nil⟩⟩⟩⟩⟩⟩⟩⟩⟩⟩⟩⟩⟩⟩⟩⟩⟩
theorem tctB_X0 : ∀ q ∈ ctB_X0, xCt RX0 q.1 q.2 := fun _ h => absurd h List.not_mem_nil
theorem ticB_X0 : ∀ q ∈ icB_X0, xIc RX0 q := fun _ h => absurd h List.not_mem_nil
theorem tsxB_X0 : ∀ q ∈ sxB_X0, xSx RX0 q := fun _ h => absurd h List.not_mem_nil
theorem tlcB_X0 : ∀ q ∈ lcB_X0, Cond.constantLong RX0 q.1 q.2 ∈ lw_all := fun _ h => absurd h List.not_mem_nil
def fpB_X0 : List (Nat × Nat × Nat) := [(31, 0, 0), (39, 0, 4), (96, 0, 20)]
theorem tbpB_X0 : xTb RX0 flB_X0 fpB_X0 ctB_X0 icB_X0 sxB_X0 lcB_X0 false := ⟨tflB_X0, List.forall_mem_cons.mpr ⟨⟨by decide, (RX0, TX0, 23), rfl, Or.inl rfl⟩, List.forall_mem_cons.mpr ⟨⟨by decide, (RX0, TX0, 23), rfl, Or.inl rfl⟩, List.forall_mem_cons.mpr ⟨⟨by decide, (RX0, TX0, 23), rfl, Or.inl rfl⟩, fun _ h => absurd h List.not_mem_nil⟩⟩⟩, tctB_X0, ticB_X0, tsxB_X0, tlcB_X0⟩
def fiB_X0 : List (Nat × Nat × Nat) := [(31, 0, 0), (35, 0, 1), (39, 0, 4), (48, 0, 5), (55, 0, 6), (62, 0, 7), (66, 0, 8), (70, 0, 9), (74, 0, 11), (77, 0, 12), (80, 0, 13), (84, 0, 14), (87, 0, 15), (90, 0, 16), (93, 0, 17), (96, 0, 20), (100, 0, 21)]
theorem tbiB_X0 : xTb RX0 flB_X0 fiB_X0 ctB_X0 icB_X0 sxB_X0 lcB_X0 true := ⟨tflB_X0, List.forall_mem_cons.mpr ⟨⟨by decide, (RX0, TX0, 23), rfl, Or.inl rfl⟩, List.forall_mem_cons.mpr ⟨⟨by decide, (RX0, TX0, 23), rfl, Or.inr ⟨rfl, rfl, rfl, "BorderStones", q463, rfl⟩⟩, List.forall_mem_cons.mpr ⟨⟨by decide, (RX0, TX0, 23), rfl, Or.inl rfl⟩, List.forall_mem_cons.mpr ⟨⟨by decide, (RX0, TX0, 23), rfl, Or.inr ⟨rfl, rfl, rfl, "BorderStones", q467, rfl⟩⟩, List.forall_mem_cons.mpr ⟨⟨by decide, (RX0, TX0, 23), rfl, Or.inr ⟨rfl, rfl, rfl, "BorderStones", q468, rfl⟩⟩, List.forall_mem_cons.mpr ⟨⟨by decide, (RX0, TX0, 23), rfl, Or.inr ⟨rfl, rfl, rfl, "BorderStones", q469, rfl⟩⟩, List.forall_mem_cons.mpr ⟨⟨by decide, (RX0, TX0, 23), rfl, Or.inr ⟨rfl, rfl, rfl, "BorderStones", q470, rfl⟩⟩, List.forall_mem_cons.mpr ⟨⟨by decide, (RX0, TX0, 23), rfl, Or.inr ⟨rfl, rfl, rfl, "BorderStones", q471, rfl⟩⟩, List.forall_mem_cons.mpr ⟨⟨by decide, (RX0, TX0, 23), rfl, Or.inr ⟨rfl, rfl, rfl, "BorderStones", q473, rfl⟩⟩, List.forall_mem_cons.mpr ⟨⟨by decide, (RX0, TX0, 23), rfl, Or.inr ⟨rfl, rfl, rfl, "BorderStones", q474, rfl⟩⟩, List.forall_mem_cons.mpr ⟨⟨by decide, (RX0, TX0, 23), rfl, Or.inr ⟨rfl, rfl, rfl, "BorderStones", q475, rfl⟩⟩, List.forall_mem_cons.mpr ⟨⟨by decide, (RX0, TX0, 23), rfl, Or.inr ⟨rfl, rfl, rfl, "BorderStones", q476, rfl⟩⟩, List.forall_mem_cons.mpr ⟨⟨by decide, (RX0, TX0, 23), rfl, Or.inr ⟨rfl, rfl, rfl, "BorderStones", q477, rfl⟩⟩, List.forall_mem_cons.mpr ⟨⟨by decide, (RX0, TX0, 23), rfl, Or.inr ⟨rfl, rfl, rfl, "BorderStones", q478, rfl⟩⟩, List.forall_mem_cons.mpr ⟨⟨by decide, (RX0, TX0, 23), rfl, Or.inr ⟨rfl, rfl, rfl, "BorderStones", q479, rfl⟩⟩, List.forall_mem_cons.mpr ⟨⟨by decide, (RX0, TX0, 23), rfl, Or.inl rfl⟩, List.forall_mem_cons.mpr ⟨⟨by decide, (RX0, TX0, 23), rfl, Or.inr ⟨rfl, rfl, rfl, "BorderStones", q483, rfl⟩⟩, fun _ h => absurd h List.not_mem_nil⟩⟩⟩⟩⟩⟩⟩⟩⟩⟩⟩⟩⟩⟩⟩⟩⟩, tctB_X0, ticB_X0, tsxB_X0, tlcB_X0⟩
def flB_X1 : List (Nat × Nat × Nat) := [(14, 1, 4), (20, 1, 5), (23, 1, 6), (27, 1, 7), (30, 1, 8), (33, 1, 9), (38, 1, 10), (43, 1, 11)]
def ctB_X1 : List (Nat × Nat) := []
def icB_X1 : List (Nat × Value) := []
def sxB_X1 : List (Nat × Value) := []
def lcB_X1 : List (Nat × Int64) := []
theorem tflB_X1 : ∀ q ∈ flB_X1, ∃ (x : vw_C) (ref : String), xCl[q.2.1]? = some x ∧ q.2.2 < x.2.2 ∧ (Cond.fieldLink RX1 q.1 ref (x.2.1 q.2.2).2.1 (x.2.1 q.2.2).2.2.1 ∈ lw_all ∨ ∃ host, Cond.fieldLinkNest RX1 q.1 ref (x.2.1 q.2.2).2.1 (x.2.1 q.2.2).2.2.1 host ∈ xNs) ∧ ((x.2.1 q.2.2).1 = ref ∨ Cond.sameField ref (x.2.1 q.2.2).1 (x.2.1 q.2.2).2.1 (x.2.1 q.2.2).2.2.1 ∈ lw_all) := List.forall_mem_cons.mpr ⟨⟨(RX1, TX1, 13), "BorderStones$Border", rfl, by decide, Or.inl q236, Or.inl rfl⟩, List.forall_mem_cons.mpr ⟨⟨(RX1, TX1, 13), "BorderStones$Border", rfl, by decide, Or.inl q239, Or.inl rfl⟩, List.forall_mem_cons.mpr ⟨⟨(RX1, TX1, 13), "BorderStones$Border", rfl, by decide, Or.inl q242, Or.inl rfl⟩, List.forall_mem_cons.mpr ⟨⟨(RX1, TX1, 13), "BorderStones$Border", rfl, by decide, Or.inl q245, Or.inl rfl⟩, List.forall_mem_cons.mpr ⟨⟨(RX1, TX1, 13), "BorderStones$Border", rfl, by decide, Or.inl q248, Or.inl rfl⟩, List.forall_mem_cons.mpr ⟨⟨(RX1, TX1, 13), "BorderStones$Border", rfl, by decide, Or.inl q251, Or.inl rfl⟩, List.forall_mem_cons.mpr ⟨⟨(RX1, TX1, 13), "BorderStones$Border", rfl, by decide, Or.inl q254, Or.inl rfl⟩, List.forall_mem_cons.mpr ⟨⟨(RX1, TX1, 13), "BorderStones$Border", rfl, by decide, Or.inl q256, Or.inl rfl⟩, fun _ h => absurd h List.not_mem_nil⟩⟩⟩⟩⟩⟩⟩⟩
theorem tctB_X1 : ∀ q ∈ ctB_X1, xCt RX1 q.1 q.2 := fun _ h => absurd h List.not_mem_nil
theorem ticB_X1 : ∀ q ∈ icB_X1, xIc RX1 q := fun _ h => absurd h List.not_mem_nil
theorem tsxB_X1 : ∀ q ∈ sxB_X1, xSx RX1 q := fun _ h => absurd h List.not_mem_nil
theorem tlcB_X1 : ∀ q ∈ lcB_X1, Cond.constantLong RX1 q.1 q.2 ∈ lw_all := fun _ h => absurd h List.not_mem_nil
def fpB_X1 : List (Nat × Nat × Nat) := []
theorem tbpB_X1 : xTb RX1 flB_X1 fpB_X1 ctB_X1 icB_X1 sxB_X1 lcB_X1 false := ⟨tflB_X1, fun _ h => absurd h List.not_mem_nil, tctB_X1, ticB_X1, tsxB_X1, tlcB_X1⟩
def fiB_X1 : List (Nat × Nat × Nat) := [(14, 1, 4), (20, 1, 5), (23, 1, 6), (27, 1, 7), (30, 1, 8), (33, 1, 9), (38, 1, 10), (43, 1, 11)]
theorem tbiB_X1 : xTb RX1 flB_X1 fiB_X1 ctB_X1 icB_X1 sxB_X1 lcB_X1 true := ⟨tflB_X1, List.forall_mem_cons.mpr ⟨⟨by decide, (RX1, TX1, 13), rfl, Or.inr ⟨rfl, rfl, rfl, "BorderStones$Border", q236, rfl⟩⟩, List.forall_mem_cons.mpr ⟨⟨by decide, (RX1, TX1, 13), rfl, Or.inr ⟨rfl, rfl, rfl, "BorderStones$Border", q239, rfl⟩⟩, List.forall_mem_cons.mpr ⟨⟨by decide, (RX1, TX1, 13), rfl, Or.inr ⟨rfl, rfl, rfl, "BorderStones$Border", q242, rfl⟩⟩, List.forall_mem_cons.mpr ⟨⟨by decide, (RX1, TX1, 13), rfl, Or.inr ⟨rfl, rfl, rfl, "BorderStones$Border", q245, rfl⟩⟩, List.forall_mem_cons.mpr ⟨⟨by decide, (RX1, TX1, 13), rfl, Or.inr ⟨rfl, rfl, rfl, "BorderStones$Border", q248, rfl⟩⟩, List.forall_mem_cons.mpr ⟨⟨by decide, (RX1, TX1, 13), rfl, Or.inr ⟨rfl, rfl, rfl, "BorderStones$Border", q251, rfl⟩⟩, List.forall_mem_cons.mpr ⟨⟨by decide, (RX1, TX1, 13), rfl, Or.inr ⟨rfl, rfl, rfl, "BorderStones$Border", q254, rfl⟩⟩, List.forall_mem_cons.mpr ⟨⟨by decide, (RX1, TX1, 13), rfl, Or.inr ⟨rfl, rfl, rfl, "BorderStones$Border", q256, rfl⟩⟩, fun _ h => absurd h List.not_mem_nil⟩⟩⟩⟩⟩⟩⟩⟩, tctB_X1, ticB_X1, tsxB_X1, tlcB_X1⟩
def flB_X10 : List (Nat × Nat × Nat) := [(7, 8, 0), (13, 8, 1), (17, 8, 2)]
def ctB_X10 : List (Nat × Nat) := []
def icB_X10 : List (Nat × Value) := []
def sxB_X10 : List (Nat × Value) := []
def lcB_X10 : List (Nat × Int64) := []
theorem tflB_X10 : ∀ q ∈ flB_X10, ∃ (x : vw_C) (ref : String), xCl[q.2.1]? = some x ∧ q.2.2 < x.2.2 ∧ (Cond.fieldLink RX10 q.1 ref (x.2.1 q.2.2).2.1 (x.2.1 q.2.2).2.2.1 ∈ lw_all ∨ ∃ host, Cond.fieldLinkNest RX10 q.1 ref (x.2.1 q.2.2).2.1 (x.2.1 q.2.2).2.2.1 host ∈ xNs) ∧ ((x.2.1 q.2.2).1 = ref ∨ Cond.sameField ref (x.2.1 q.2.2).1 (x.2.1 q.2.2).2.1 (x.2.1 q.2.2).2.2.1 ∈ lw_all) := List.forall_mem_cons.mpr ⟨⟨(RX10, TX10, 3), "BorderStones$Pair", rfl, by decide, Or.inl q999, Or.inl rfl⟩, List.forall_mem_cons.mpr ⟨⟨(RX10, TX10, 3), "BorderStones$Pair", rfl, by decide, Or.inl q1000, Or.inl rfl⟩, List.forall_mem_cons.mpr ⟨⟨(RX10, TX10, 3), "BorderStones$Pair", rfl, by decide, Or.inl q1001, Or.inl rfl⟩, fun _ h => absurd h List.not_mem_nil⟩⟩⟩
theorem tctB_X10 : ∀ q ∈ ctB_X10, xCt RX10 q.1 q.2 := fun _ h => absurd h List.not_mem_nil
theorem ticB_X10 : ∀ q ∈ icB_X10, xIc RX10 q := fun _ h => absurd h List.not_mem_nil
theorem tsxB_X10 : ∀ q ∈ sxB_X10, xSx RX10 q := fun _ h => absurd h List.not_mem_nil
theorem tlcB_X10 : ∀ q ∈ lcB_X10, Cond.constantLong RX10 q.1 q.2 ∈ lw_all := fun _ h => absurd h List.not_mem_nil
def fpB_X10 : List (Nat × Nat × Nat) := []
theorem tbpB_X10 : xTb RX10 flB_X10 fpB_X10 ctB_X10 icB_X10 sxB_X10 lcB_X10 false := ⟨tflB_X10, fun _ h => absurd h List.not_mem_nil, tctB_X10, ticB_X10, tsxB_X10, tlcB_X10⟩
def fiB_X10 : List (Nat × Nat × Nat) := [(7, 8, 0), (13, 8, 1), (17, 8, 2)]
theorem tbiB_X10 : xTb RX10 flB_X10 fiB_X10 ctB_X10 icB_X10 sxB_X10 lcB_X10 true := ⟨tflB_X10, List.forall_mem_cons.mpr ⟨⟨by decide, (RX10, TX10, 3), rfl, Or.inr ⟨rfl, rfl, rfl, "BorderStones$Pair", q999, rfl⟩⟩, List.forall_mem_cons.mpr ⟨⟨by decide, (RX10, TX10, 3), rfl, Or.inr ⟨rfl, rfl, rfl, "BorderStones$Pair", q1000, rfl⟩⟩, List.forall_mem_cons.mpr ⟨⟨by decide, (RX10, TX10, 3), rfl, Or.inr ⟨rfl, rfl, rfl, "BorderStones$Pair", q1001, rfl⟩⟩, fun _ h => absurd h List.not_mem_nil⟩⟩⟩, tctB_X10, ticB_X10, tsxB_X10, tlcB_X10⟩
def flB_X11 : List (Nat × Nat × Nat) := [(7, 9, 0)]
def ctB_X11 : List (Nat × Nat) := []
def icB_X11 : List (Nat × Value) := []
def sxB_X11 : List (Nat × Value) := []
def lcB_X11 : List (Nat × Int64) := []
theorem tflB_X11 : ∀ q ∈ flB_X11, ∃ (x : vw_C) (ref : String), xCl[q.2.1]? = some x ∧ q.2.2 < x.2.2 ∧ (Cond.fieldLink RX11 q.1 ref (x.2.1 q.2.2).2.1 (x.2.1 q.2.2).2.2.1 ∈ lw_all ∨ ∃ host, Cond.fieldLinkNest RX11 q.1 ref (x.2.1 q.2.2).2.1 (x.2.1 q.2.2).2.2.1 host ∈ xNs) ∧ ((x.2.1 q.2.2).1 = ref ∨ Cond.sameField ref (x.2.1 q.2.2).1 (x.2.1 q.2.2).2.1 (x.2.1 q.2.2).2.2.1 ∈ lw_all) := List.forall_mem_cons.mpr ⟨⟨(RX11, TX11, 1), "BorderStones$Fixed", rfl, by decide, Or.inl q1015, Or.inl rfl⟩, fun _ h => absurd h List.not_mem_nil⟩
theorem tctB_X11 : ∀ q ∈ ctB_X11, xCt RX11 q.1 q.2 := fun _ h => absurd h List.not_mem_nil
theorem ticB_X11 : ∀ q ∈ icB_X11, xIc RX11 q := fun _ h => absurd h List.not_mem_nil
theorem tsxB_X11 : ∀ q ∈ sxB_X11, xSx RX11 q := fun _ h => absurd h List.not_mem_nil
theorem tlcB_X11 : ∀ q ∈ lcB_X11, Cond.constantLong RX11 q.1 q.2 ∈ lw_all := fun _ h => absurd h List.not_mem_nil
def fpB_X11 : List (Nat × Nat × Nat) := []
theorem tbpB_X11 : xTb RX11 flB_X11 fpB_X11 ctB_X11 icB_X11 sxB_X11 lcB_X11 false := ⟨tflB_X11, fun _ h => absurd h List.not_mem_nil, tctB_X11, ticB_X11, tsxB_X11, tlcB_X11⟩
def fiB_X11 : List (Nat × Nat × Nat) := [(7, 9, 0)]
theorem tbiB_X11 : xTb RX11 flB_X11 fiB_X11 ctB_X11 icB_X11 sxB_X11 lcB_X11 true := ⟨tflB_X11, List.forall_mem_cons.mpr ⟨⟨by decide, (RX11, TX11, 1), rfl, Or.inr ⟨rfl, rfl, rfl, "BorderStones$Fixed", q1015, rfl⟩⟩, fun _ h => absurd h List.not_mem_nil⟩, tctB_X11, ticB_X11, tsxB_X11, tlcB_X11⟩
def flB_X12 : List (Nat × Nat × Nat) := [(7, 10, 0)]
def ctB_X12 : List (Nat × Nat) := []
def icB_X12 : List (Nat × Value) := []
def sxB_X12 : List (Nat × Value) := []
def lcB_X12 : List (Nat × Int64) := []
theorem tflB_X12 : ∀ q ∈ flB_X12, ∃ (x : vw_C) (ref : String), xCl[q.2.1]? = some x ∧ q.2.2 < x.2.2 ∧ (Cond.fieldLink RX12 q.1 ref (x.2.1 q.2.2).2.1 (x.2.1 q.2.2).2.2.1 ∈ lw_all ∨ ∃ host, Cond.fieldLinkNest RX12 q.1 ref (x.2.1 q.2.2).2.1 (x.2.1 q.2.2).2.2.1 host ∈ xNs) ∧ ((x.2.1 q.2.2).1 = ref ∨ Cond.sameField ref (x.2.1 q.2.2).1 (x.2.1 q.2.2).2.1 (x.2.1 q.2.2).2.2.1 ∈ lw_all) := List.forall_mem_cons.mpr ⟨⟨(RX12, TX12, 1), "BorderStones$Asked", rfl, by decide, Or.inl q1027, Or.inl rfl⟩, fun _ h => absurd h List.not_mem_nil⟩
theorem tctB_X12 : ∀ q ∈ ctB_X12, xCt RX12 q.1 q.2 := fun _ h => absurd h List.not_mem_nil
theorem ticB_X12 : ∀ q ∈ icB_X12, xIc RX12 q := fun _ h => absurd h List.not_mem_nil
theorem tsxB_X12 : ∀ q ∈ sxB_X12, xSx RX12 q := fun _ h => absurd h List.not_mem_nil
theorem tlcB_X12 : ∀ q ∈ lcB_X12, Cond.constantLong RX12 q.1 q.2 ∈ lw_all := fun _ h => absurd h List.not_mem_nil
def fpB_X12 : List (Nat × Nat × Nat) := []
theorem tbpB_X12 : xTb RX12 flB_X12 fpB_X12 ctB_X12 icB_X12 sxB_X12 lcB_X12 false := ⟨tflB_X12, fun _ h => absurd h List.not_mem_nil, tctB_X12, ticB_X12, tsxB_X12, tlcB_X12⟩
def fiB_X12 : List (Nat × Nat × Nat) := [(7, 10, 0)]
theorem tbiB_X12 : xTb RX12 flB_X12 fiB_X12 ctB_X12 icB_X12 sxB_X12 lcB_X12 true := ⟨tflB_X12, List.forall_mem_cons.mpr ⟨⟨by decide, (RX12, TX12, 1), rfl, Or.inr ⟨rfl, rfl, rfl, "BorderStones$Asked", q1027, rfl⟩⟩, fun _ h => absurd h List.not_mem_nil⟩, tctB_X12, ticB_X12, tsxB_X12, tlcB_X12⟩
def flB_X13 : List (Nat × Nat × Nat) := [(7, 11, 0), (13, 11, 1)]
def ctB_X13 : List (Nat × Nat) := []
def icB_X13 : List (Nat × Value) := []
def sxB_X13 : List (Nat × Value) := []
def lcB_X13 : List (Nat × Int64) := []
theorem tflB_X13 : ∀ q ∈ flB_X13, ∃ (x : vw_C) (ref : String), xCl[q.2.1]? = some x ∧ q.2.2 < x.2.2 ∧ (Cond.fieldLink RX13 q.1 ref (x.2.1 q.2.2).2.1 (x.2.1 q.2.2).2.2.1 ∈ lw_all ∨ ∃ host, Cond.fieldLinkNest RX13 q.1 ref (x.2.1 q.2.2).2.1 (x.2.1 q.2.2).2.2.1 host ∈ xNs) ∧ ((x.2.1 q.2.2).1 = ref ∨ Cond.sameField ref (x.2.1 q.2.2).1 (x.2.1 q.2.2).2.1 (x.2.1 q.2.2).2.2.1 ∈ lw_all) := List.forall_mem_cons.mpr ⟨⟨(RX13, TX13, 2), "BorderStones$Rule", rfl, by decide, Or.inl q1177, Or.inl rfl⟩, List.forall_mem_cons.mpr ⟨⟨(RX13, TX13, 2), "BorderStones$Rule", rfl, by decide, Or.inl q1179, Or.inl rfl⟩, fun _ h => absurd h List.not_mem_nil⟩⟩
theorem tctB_X13 : ∀ q ∈ ctB_X13, xCt RX13 q.1 q.2 := fun _ h => absurd h List.not_mem_nil
theorem ticB_X13 : ∀ q ∈ icB_X13, xIc RX13 q := fun _ h => absurd h List.not_mem_nil
theorem tsxB_X13 : ∀ q ∈ sxB_X13, xSx RX13 q := fun _ h => absurd h List.not_mem_nil
theorem tlcB_X13 : ∀ q ∈ lcB_X13, Cond.constantLong RX13 q.1 q.2 ∈ lw_all := fun _ h => absurd h List.not_mem_nil
def fpB_X13 : List (Nat × Nat × Nat) := []
theorem tbpB_X13 : xTb RX13 flB_X13 fpB_X13 ctB_X13 icB_X13 sxB_X13 lcB_X13 false := ⟨tflB_X13, fun _ h => absurd h List.not_mem_nil, tctB_X13, ticB_X13, tsxB_X13, tlcB_X13⟩
def fiB_X13 : List (Nat × Nat × Nat) := [(7, 11, 0), (13, 11, 1)]
theorem tbiB_X13 : xTb RX13 flB_X13 fiB_X13 ctB_X13 icB_X13 sxB_X13 lcB_X13 true := ⟨tflB_X13, List.forall_mem_cons.mpr ⟨⟨by decide, (RX13, TX13, 2), rfl, Or.inr ⟨rfl, rfl, rfl, "BorderStones$Rule", q1177, rfl⟩⟩, List.forall_mem_cons.mpr ⟨⟨by decide, (RX13, TX13, 2), rfl, Or.inr ⟨rfl, rfl, rfl, "BorderStones$Rule", q1179, rfl⟩⟩, fun _ h => absurd h List.not_mem_nil⟩⟩, tctB_X13, ticB_X13, tsxB_X13, tlcB_X13⟩
def flB_X14 : List (Nat × Nat × Nat) := []
def ctB_X14 : List (Nat × Nat) := []
def icB_X14 : List (Nat × Value) := []
def sxB_X14 : List (Nat × Value) := []
def lcB_X14 : List (Nat × Int64) := []
theorem tflB_X14 : ∀ q ∈ flB_X14, ∃ (x : vw_C) (ref : String), xCl[q.2.1]? = some x ∧ q.2.2 < x.2.2 ∧ (Cond.fieldLink RX14 q.1 ref (x.2.1 q.2.2).2.1 (x.2.1 q.2.2).2.2.1 ∈ lw_all ∨ ∃ host, Cond.fieldLinkNest RX14 q.1 ref (x.2.1 q.2.2).2.1 (x.2.1 q.2.2).2.2.1 host ∈ xNs) ∧ ((x.2.1 q.2.2).1 = ref ∨ Cond.sameField ref (x.2.1 q.2.2).1 (x.2.1 q.2.2).2.1 (x.2.1 q.2.2).2.2.1 ∈ lw_all) := fun _ h => absurd h List.not_mem_nil
theorem tctB_X14 : ∀ q ∈ ctB_X14, xCt RX14 q.1 q.2 := fun _ h => absurd h List.not_mem_nil
theorem ticB_X14 : ∀ q ∈ icB_X14, xIc RX14 q := fun _ h => absurd h List.not_mem_nil
theorem tsxB_X14 : ∀ q ∈ sxB_X14, xSx RX14 q := fun _ h => absurd h List.not_mem_nil
theorem tlcB_X14 : ∀ q ∈ lcB_X14, Cond.constantLong RX14 q.1 q.2 ∈ lw_all := fun _ h => absurd h List.not_mem_nil
def fpB_X14 : List (Nat × Nat × Nat) := []
theorem tbpB_X14 : xTb RX14 flB_X14 fpB_X14 ctB_X14 icB_X14 sxB_X14 lcB_X14 false := ⟨tflB_X14, fun _ h => absurd h List.not_mem_nil, tctB_X14, ticB_X14, tsxB_X14, tlcB_X14⟩
def fiB_X14 : List (Nat × Nat × Nat) := []
theorem tbiB_X14 : xTb RX14 flB_X14 fiB_X14 ctB_X14 icB_X14 sxB_X14 lcB_X14 true := ⟨tflB_X14, fun _ h => absurd h List.not_mem_nil, tctB_X14, ticB_X14, tsxB_X14, tlcB_X14⟩
def flB_X15 : List (Nat × Nat × Nat) := [(12, 12, 0), (18, 12, 1)]
def ctB_X15 : List (Nat × Nat) := []
def icB_X15 : List (Nat × Value) := []
def sxB_X15 : List (Nat × Value) := []
def lcB_X15 : List (Nat × Int64) := []
theorem tflB_X15 : ∀ q ∈ flB_X15, ∃ (x : vw_C) (ref : String), xCl[q.2.1]? = some x ∧ q.2.2 < x.2.2 ∧ (Cond.fieldLink RX15 q.1 ref (x.2.1 q.2.2).2.1 (x.2.1 q.2.2).2.2.1 ∈ lw_all ∨ ∃ host, Cond.fieldLinkNest RX15 q.1 ref (x.2.1 q.2.2).2.1 (x.2.1 q.2.2).2.2.1 host ∈ xNs) ∧ ((x.2.1 q.2.2).1 = ref ∨ Cond.sameField ref (x.2.1 q.2.2).1 (x.2.1 q.2.2).2.1 (x.2.1 q.2.2).2.2.1 ∈ lw_all) := List.forall_mem_cons.mpr ⟨⟨(RX15, TX15, 2), "BorderStones$Facts", rfl, by decide, Or.inl q1116, Or.inl rfl⟩, List.forall_mem_cons.mpr ⟨⟨(RX15, TX15, 2), "BorderStones$Facts", rfl, by decide, Or.inl q1118, Or.inl rfl⟩, fun _ h => absurd h List.not_mem_nil⟩⟩
theorem tctB_X15 : ∀ q ∈ ctB_X15, xCt RX15 q.1 q.2 := fun _ h => absurd h List.not_mem_nil
theorem ticB_X15 : ∀ q ∈ icB_X15, xIc RX15 q := fun _ h => absurd h List.not_mem_nil
theorem tsxB_X15 : ∀ q ∈ sxB_X15, xSx RX15 q := fun _ h => absurd h List.not_mem_nil
theorem tlcB_X15 : ∀ q ∈ lcB_X15, Cond.constantLong RX15 q.1 q.2 ∈ lw_all := fun _ h => absurd h List.not_mem_nil
def fpB_X15 : List (Nat × Nat × Nat) := []
theorem tbpB_X15 : xTb RX15 flB_X15 fpB_X15 ctB_X15 icB_X15 sxB_X15 lcB_X15 false := ⟨tflB_X15, fun _ h => absurd h List.not_mem_nil, tctB_X15, ticB_X15, tsxB_X15, tlcB_X15⟩
def fiB_X15 : List (Nat × Nat × Nat) := [(12, 12, 0), (18, 12, 1)]
theorem tbiB_X15 : xTb RX15 flB_X15 fiB_X15 ctB_X15 icB_X15 sxB_X15 lcB_X15 true := ⟨tflB_X15, List.forall_mem_cons.mpr ⟨⟨by decide, (RX15, TX15, 2), rfl, Or.inr ⟨rfl, rfl, rfl, "BorderStones$Facts", q1116, rfl⟩⟩, List.forall_mem_cons.mpr ⟨⟨by decide, (RX15, TX15, 2), rfl, Or.inr ⟨rfl, rfl, rfl, "BorderStones$Facts", q1118, rfl⟩⟩, fun _ h => absurd h List.not_mem_nil⟩⟩, tctB_X15, ticB_X15, tsxB_X15, tlcB_X15⟩
def flB_X16 : List (Nat × Nat × Nat) := [(7, 13, 0)]
def ctB_X16 : List (Nat × Nat) := []
def icB_X16 : List (Nat × Value) := []
def sxB_X16 : List (Nat × Value) := []
def lcB_X16 : List (Nat × Int64) := []
theorem tflB_X16 : ∀ q ∈ flB_X16, ∃ (x : vw_C) (ref : String), xCl[q.2.1]? = some x ∧ q.2.2 < x.2.2 ∧ (Cond.fieldLink RX16 q.1 ref (x.2.1 q.2.2).2.1 (x.2.1 q.2.2).2.2.1 ∈ lw_all ∨ ∃ host, Cond.fieldLinkNest RX16 q.1 ref (x.2.1 q.2.2).2.1 (x.2.1 q.2.2).2.2.1 host ∈ xNs) ∧ ((x.2.1 q.2.2).1 = ref ∨ Cond.sameField ref (x.2.1 q.2.2).1 (x.2.1 q.2.2).2.1 (x.2.1 q.2.2).2.2.1 ∈ lw_all) := List.forall_mem_cons.mpr ⟨⟨(RX16, TX16, 1), "BorderStones$Not", rfl, by decide, Or.inl q1143, Or.inl rfl⟩, fun _ h => absurd h List.not_mem_nil⟩
theorem tctB_X16 : ∀ q ∈ ctB_X16, xCt RX16 q.1 q.2 := fun _ h => absurd h List.not_mem_nil
theorem ticB_X16 : ∀ q ∈ icB_X16, xIc RX16 q := fun _ h => absurd h List.not_mem_nil
theorem tsxB_X16 : ∀ q ∈ sxB_X16, xSx RX16 q := fun _ h => absurd h List.not_mem_nil
theorem tlcB_X16 : ∀ q ∈ lcB_X16, Cond.constantLong RX16 q.1 q.2 ∈ lw_all := fun _ h => absurd h List.not_mem_nil
def fpB_X16 : List (Nat × Nat × Nat) := []
theorem tbpB_X16 : xTb RX16 flB_X16 fpB_X16 ctB_X16 icB_X16 sxB_X16 lcB_X16 false := ⟨tflB_X16, fun _ h => absurd h List.not_mem_nil, tctB_X16, ticB_X16, tsxB_X16, tlcB_X16⟩
def fiB_X16 : List (Nat × Nat × Nat) := [(7, 13, 0)]
theorem tbiB_X16 : xTb RX16 flB_X16 fiB_X16 ctB_X16 icB_X16 sxB_X16 lcB_X16 true := ⟨tflB_X16, List.forall_mem_cons.mpr ⟨⟨by decide, (RX16, TX16, 1), rfl, Or.inr ⟨rfl, rfl, rfl, "BorderStones$Not", q1143, rfl⟩⟩, fun _ h => absurd h List.not_mem_nil⟩, tctB_X16, ticB_X16, tsxB_X16, tlcB_X16⟩
def flB_X17 : List (Nat × Nat × Nat) := []
def ctB_X17 : List (Nat × Nat) := []
def icB_X17 : List (Nat × Value) := []
def sxB_X17 : List (Nat × Value) := []
def lcB_X17 : List (Nat × Int64) := []
theorem tflB_X17 : ∀ q ∈ flB_X17, ∃ (x : vw_C) (ref : String), xCl[q.2.1]? = some x ∧ q.2.2 < x.2.2 ∧ (Cond.fieldLink RX17 q.1 ref (x.2.1 q.2.2).2.1 (x.2.1 q.2.2).2.2.1 ∈ lw_all ∨ ∃ host, Cond.fieldLinkNest RX17 q.1 ref (x.2.1 q.2.2).2.1 (x.2.1 q.2.2).2.2.1 host ∈ xNs) ∧ ((x.2.1 q.2.2).1 = ref ∨ Cond.sameField ref (x.2.1 q.2.2).1 (x.2.1 q.2.2).2.1 (x.2.1 q.2.2).2.2.1 ∈ lw_all) := fun _ h => absurd h List.not_mem_nil
theorem tctB_X17 : ∀ q ∈ ctB_X17, xCt RX17 q.1 q.2 := fun _ h => absurd h List.not_mem_nil
theorem ticB_X17 : ∀ q ∈ icB_X17, xIc RX17 q := fun _ h => absurd h List.not_mem_nil
theorem tsxB_X17 : ∀ q ∈ sxB_X17, xSx RX17 q := fun _ h => absurd h List.not_mem_nil
theorem tlcB_X17 : ∀ q ∈ lcB_X17, Cond.constantLong RX17 q.1 q.2 ∈ lw_all := fun _ h => absurd h List.not_mem_nil
def fpB_X17 : List (Nat × Nat × Nat) := []
theorem tbpB_X17 : xTb RX17 flB_X17 fpB_X17 ctB_X17 icB_X17 sxB_X17 lcB_X17 false := ⟨tflB_X17, fun _ h => absurd h List.not_mem_nil, tctB_X17, ticB_X17, tsxB_X17, tlcB_X17⟩
def fiB_X17 : List (Nat × Nat × Nat) := []
theorem tbiB_X17 : xTb RX17 flB_X17 fiB_X17 ctB_X17 icB_X17 sxB_X17 lcB_X17 true := ⟨tflB_X17, fun _ h => absurd h List.not_mem_nil, tctB_X17, ticB_X17, tsxB_X17, tlcB_X17⟩
def flB_X18 : List (Nat × Nat × Nat) := [(7, 15, 0), (13, 15, 2), (17, 15, 1)]
def ctB_X18 : List (Nat × Nat) := []
def icB_X18 : List (Nat × Value) := []
def sxB_X18 : List (Nat × Value) := []
def lcB_X18 : List (Nat × Int64) := []
theorem tflB_X18 : ∀ q ∈ flB_X18, ∃ (x : vw_C) (ref : String), xCl[q.2.1]? = some x ∧ q.2.2 < x.2.2 ∧ (Cond.fieldLink RX18 q.1 ref (x.2.1 q.2.2).2.1 (x.2.1 q.2.2).2.2.1 ∈ lw_all ∨ ∃ host, Cond.fieldLinkNest RX18 q.1 ref (x.2.1 q.2.2).2.1 (x.2.1 q.2.2).2.2.1 host ∈ xNs) ∧ ((x.2.1 q.2.2).1 = ref ∨ Cond.sameField ref (x.2.1 q.2.2).1 (x.2.1 q.2.2).2.1 (x.2.1 q.2.2).2.2.1 ∈ lw_all) := List.forall_mem_cons.mpr ⟨⟨(RX18, TX18, 3), "BorderStones$Than", rfl, by decide, Or.inl q1161, Or.inl rfl⟩, List.forall_mem_cons.mpr ⟨⟨(RX18, TX18, 3), "BorderStones$Than", rfl, by decide, Or.inl q1163, Or.inl rfl⟩, List.forall_mem_cons.mpr ⟨⟨(RX18, TX18, 3), "BorderStones$Than", rfl, by decide, Or.inl q1162, Or.inl rfl⟩, fun _ h => absurd h List.not_mem_nil⟩⟩⟩
theorem tctB_X18 : ∀ q ∈ ctB_X18, xCt RX18 q.1 q.2 := fun _ h => absurd h List.not_mem_nil
theorem ticB_X18 : ∀ q ∈ icB_X18, xIc RX18 q := fun _ h => absurd h List.not_mem_nil
theorem tsxB_X18 : ∀ q ∈ sxB_X18, xSx RX18 q := fun _ h => absurd h List.not_mem_nil
theorem tlcB_X18 : ∀ q ∈ lcB_X18, Cond.constantLong RX18 q.1 q.2 ∈ lw_all := fun _ h => absurd h List.not_mem_nil
def fpB_X18 : List (Nat × Nat × Nat) := []
theorem tbpB_X18 : xTb RX18 flB_X18 fpB_X18 ctB_X18 icB_X18 sxB_X18 lcB_X18 false := ⟨tflB_X18, fun _ h => absurd h List.not_mem_nil, tctB_X18, ticB_X18, tsxB_X18, tlcB_X18⟩
def fiB_X18 : List (Nat × Nat × Nat) := [(7, 15, 0), (13, 15, 2), (17, 15, 1)]
theorem tbiB_X18 : xTb RX18 flB_X18 fiB_X18 ctB_X18 icB_X18 sxB_X18 lcB_X18 true := ⟨tflB_X18, List.forall_mem_cons.mpr ⟨⟨by decide, (RX18, TX18, 3), rfl, Or.inr ⟨rfl, rfl, rfl, "BorderStones$Than", q1161, rfl⟩⟩, List.forall_mem_cons.mpr ⟨⟨by decide, (RX18, TX18, 3), rfl, Or.inr ⟨rfl, rfl, rfl, "BorderStones$Than", q1163, rfl⟩⟩, List.forall_mem_cons.mpr ⟨⟨by decide, (RX18, TX18, 3), rfl, Or.inr ⟨rfl, rfl, rfl, "BorderStones$Than", q1162, rfl⟩⟩, fun _ h => absurd h List.not_mem_nil⟩⟩⟩, tctB_X18, ticB_X18, tsxB_X18, tlcB_X18⟩
def flB_X2 : List (Nat × Nat × Nat) := [(3, 2, 6), (18, 2, 0), (29, 2, 1), (32, 0, 1), (36, 2, 2), (22, 3, 6), (26, 3, 7), (100, 2, 5), (104, 1, 4), (117, 6, 0), (61, 2, 3), (221, 6, 2), (129, 1, 0), (137, 1, 1), (228, 1, 6), (231, 1, 7), (167, 1, 3), (124, 2, 4), (175, 1, 8), (181, 1, 5), (281, 12, 0), (144, 1, 2)]
def ctB_X2 : List (Nat × Nat) := []
def icB_X2 : List (Nat × Value) := [(208, .ref 12), (227, .ref 19), (158, .ref 11), (159, .ref 16), (161, .ref 20), (163, .ref 21), (188, .ref 22), (273, .ref 30), (274, .ref 31), (287, .ref 23), (296, .ref 24), (298, .ref 25), (305, .ref 26), (127, .ref 10)]
def sxB_X2 : List (Nat × Value) := [(78, .ref 4), (215, .ref 3), (224, .ref 2), (266, .ref 1)]
def lcB_X2 : List (Nat × Int64) := []
theorem tflB_X2 : ∀ q ∈ flB_X2, ∃ (x : vw_C) (ref : String), xCl[q.2.1]? = some x ∧ q.2.2 < x.2.2 ∧ (Cond.fieldLink RX2 q.1 ref (x.2.1 q.2.2).2.1 (x.2.1 q.2.2).2.2.1 ∈ lw_all ∨ ∃ host, Cond.fieldLinkNest RX2 q.1 ref (x.2.1 q.2.2).2.1 (x.2.1 q.2.2).2.2.1 host ∈ xNs) ∧ ((x.2.1 q.2.2).1 = ref ∨ Cond.sameField ref (x.2.1 q.2.2).1 (x.2.1 q.2.2).2.1 (x.2.1 q.2.2).2.2.1 ∈ lw_all) := List.forall_mem_cons.mpr ⟨⟨(RX2, TX2, 7), "BorderStones$Reader", rfl, by decide, Or.inl q374, Or.inl rfl⟩, List.forall_mem_cons.mpr ⟨⟨(RX2, TX2, 7), "BorderStones$Reader", rfl, by decide, Or.inl q368, Or.inl rfl⟩, List.forall_mem_cons.mpr ⟨⟨(RX2, TX2, 7), "BorderStones$Reader", rfl, by decide, Or.inl q369, Or.inl rfl⟩, List.forall_mem_cons.mpr ⟨⟨(RX0, TX0, 23), "BorderStones", rfl, by decide, Or.inr ⟨"BorderStones", xNs_in q462 rfl⟩, Or.inl rfl⟩, List.forall_mem_cons.mpr ⟨⟨(RX2, TX2, 7), "BorderStones$Reader", rfl, by decide, Or.inl q370, Or.inl rfl⟩, List.forall_mem_cons.mpr ⟨⟨(RX3, TX3, 8), "BorderStones$Fault", rfl, by decide, Or.inr ⟨"BorderStones", xNs_in q346 rfl⟩, Or.inl rfl⟩, List.forall_mem_cons.mpr ⟨⟨(RX3, TX3, 8), "BorderStones$Fault", rfl, by decide, Or.inr ⟨"BorderStones", xNs_in q348 rfl⟩, Or.inl rfl⟩, List.forall_mem_cons.mpr ⟨⟨(RX2, TX2, 7), "BorderStones$Reader", rfl, by decide, Or.inl q373, Or.inl rfl⟩, List.forall_mem_cons.mpr ⟨⟨(RX1, TX1, 13), "BorderStones$Border", rfl, by decide, Or.inr ⟨"BorderStones", xNs_in q237 rfl⟩, Or.inl rfl⟩, List.forall_mem_cons.mpr ⟨⟨(RX7, TX7, 3), "BorderStones$Kind", rfl, by decide, Or.inr ⟨"BorderStones", xNs_in q826 rfl⟩, Or.inl rfl⟩, List.forall_mem_cons.mpr ⟨⟨(RX2, TX2, 7), "BorderStones$Reader", rfl, by decide, Or.inl q371, Or.inl rfl⟩, List.forall_mem_cons.mpr ⟨⟨(RX7, TX7, 3), "BorderStones$Kind", rfl, by decide, Or.inr ⟨"BorderStones", xNs_in q831 rfl⟩, Or.inl rfl⟩, List.forall_mem_cons.mpr ⟨⟨(RX1, TX1, 13), "BorderStones$Border", rfl, by decide, Or.inr ⟨"BorderStones", xNs_in q228 rfl⟩, Or.inl rfl⟩, List.forall_mem_cons.mpr ⟨⟨(RX1, TX1, 13), "BorderStones$Border", rfl, by decide, Or.inr ⟨"BorderStones", xNs_in q231 rfl⟩, Or.inl rfl⟩, List.forall_mem_cons.mpr ⟨⟨(RX1, TX1, 13), "BorderStones$Border", rfl, by decide, Or.inr ⟨"BorderStones", xNs_in q244 rfl⟩, Or.inl rfl⟩, List.forall_mem_cons.mpr ⟨⟨(RX1, TX1, 13), "BorderStones$Border", rfl, by decide, Or.inr ⟨"BorderStones", xNs_in q247 rfl⟩, Or.inl rfl⟩, List.forall_mem_cons.mpr ⟨⟨(RX1, TX1, 13), "BorderStones$Border", rfl, by decide, Or.inr ⟨"BorderStones", xNs_in q235 rfl⟩, Or.inl rfl⟩, List.forall_mem_cons.mpr ⟨⟨(RX2, TX2, 7), "BorderStones$Reader", rfl, by decide, Or.inl q372, Or.inl rfl⟩, List.forall_mem_cons.mpr ⟨⟨(RX1, TX1, 13), "BorderStones$Border", rfl, by decide, Or.inr ⟨"BorderStones", xNs_in q250 rfl⟩, Or.inl rfl⟩, List.forall_mem_cons.mpr ⟨⟨(RX1, TX1, 13), "BorderStones$Border", rfl, by decide, Or.inr ⟨"BorderStones", xNs_in q240 rfl⟩, Or.inl rfl⟩, List.forall_mem_cons.mpr ⟨⟨(RX15, TX15, 2), "BorderStones$Facts", rfl, by decide, Or.inr ⟨"BorderStones", xNs_in q1117 rfl⟩, Or.inl rfl⟩, List.forall_mem_cons.mpr ⟨⟨(RX1, TX1, 13), "BorderStones$Border", rfl, by decide, Or.inr ⟨"BorderStones", xNs_in q234 rfl⟩, Or.inl rfl⟩, fun _ h => absurd h List.not_mem_nil⟩⟩⟩⟩⟩⟩⟩⟩⟩⟩⟩⟩⟩⟩⟩⟩⟩⟩⟩⟩⟩⟩
theorem tctB_X2 : ∀ q ∈ ctB_X2, xCt RX2 q.1 q.2 := fun _ h => absurd h List.not_mem_nil
theorem ticB_X2 : ∀ q ∈ icB_X2, xIc RX2 q := List.forall_mem_cons.mpr ⟨⟨"reach", by decide +kernel⟩, List.forall_mem_cons.mpr ⟨⟨"at", by decide +kernel⟩, List.forall_mem_cons.mpr ⟨⟨"kind", by decide +kernel⟩, List.forall_mem_cons.mpr ⟨⟨"stone", by decide +kernel⟩, List.forall_mem_cons.mpr ⟨⟨"land", by decide +kernel⟩, List.forall_mem_cons.mpr ⟨⟨"worth", by decide +kernel⟩, List.forall_mem_cons.mpr ⟨⟨"when", by decide +kernel⟩, List.forall_mem_cons.mpr ⟨⟨"min", by decide +kernel⟩, List.forall_mem_cons.mpr ⟨⟨"max", by decide +kernel⟩, List.forall_mem_cons.mpr ⟨⟨"or", by decide +kernel⟩, List.forall_mem_cons.mpr ⟨⟨"and", by decide +kernel⟩, List.forall_mem_cons.mpr ⟨⟨"not", by decide +kernel⟩, List.forall_mem_cons.mpr ⟨⟨"all", by decide +kernel⟩, List.forall_mem_cons.mpr ⟨⟨"field", by decide +kernel⟩, fun _ h => absurd h List.not_mem_nil⟩⟩⟩⟩⟩⟩⟩⟩⟩⟩⟩⟩⟩⟩
theorem tsxB_X2 : ∀ q ∈ sxB_X2, xSx RX2 q := List.forall_mem_cons.mpr ⟨⟨"BorderStones", "OWN", "[Ljava/lang/String;", Or.inl (by decide +kernel), Or.inr ⟨"BorderStones", xNs_in q772 rfl⟩⟩, List.forall_mem_cons.mpr ⟨⟨"BorderStones", "MARKS", "[Ljava/lang/String;", Or.inl (by decide +kernel), Or.inr ⟨"BorderStones", xNs_in q840 rfl⟩⟩, List.forall_mem_cons.mpr ⟨⟨"BorderStones", "SIDES", "[Ljava/lang/String;", Or.inl (by decide +kernel), Or.inr ⟨"BorderStones", xNs_in q925 rfl⟩⟩, List.forall_mem_cons.mpr ⟨⟨"BorderStones", "ASKED", "[Ljava/lang/String;", Or.inl (by decide +kernel), Or.inr ⟨"BorderStones", xNs_in q1019 rfl⟩⟩, fun _ h => absurd h List.not_mem_nil⟩⟩⟩⟩
theorem tlcB_X2 : ∀ q ∈ lcB_X2, Cond.constantLong RX2 q.1 q.2 ∈ lw_all := fun _ h => absurd h List.not_mem_nil
def fpB_X2 : List (Nat × Nat × Nat) := [(36, 2, 2), (22, 3, 6), (26, 3, 7), (61, 2, 3), (221, 6, 2), (167, 1, 3), (124, 2, 4), (100, 2, 5), (29, 2, 1), (129, 1, 0), (137, 1, 1), (144, 1, 2)]
theorem tbpB_X2 : xTb RX2 flB_X2 fpB_X2 ctB_X2 icB_X2 sxB_X2 lcB_X2 false := ⟨tflB_X2, List.forall_mem_cons.mpr ⟨⟨by decide, (RX2, TX2, 7), rfl, Or.inl rfl⟩, List.forall_mem_cons.mpr ⟨⟨by decide, (RX3, TX3, 8), rfl, Or.inl rfl⟩, List.forall_mem_cons.mpr ⟨⟨by decide, (RX3, TX3, 8), rfl, Or.inl rfl⟩, List.forall_mem_cons.mpr ⟨⟨by decide, (RX2, TX2, 7), rfl, Or.inl rfl⟩, List.forall_mem_cons.mpr ⟨⟨by decide, (RX7, TX7, 3), rfl, Or.inl rfl⟩, List.forall_mem_cons.mpr ⟨⟨by decide, (RX1, TX1, 13), rfl, Or.inl rfl⟩, List.forall_mem_cons.mpr ⟨⟨by decide, (RX2, TX2, 7), rfl, Or.inl rfl⟩, List.forall_mem_cons.mpr ⟨⟨by decide, (RX2, TX2, 7), rfl, Or.inl rfl⟩, List.forall_mem_cons.mpr ⟨⟨by decide, (RX2, TX2, 7), rfl, Or.inl rfl⟩, List.forall_mem_cons.mpr ⟨⟨by decide, (RX1, TX1, 13), rfl, Or.inl rfl⟩, List.forall_mem_cons.mpr ⟨⟨by decide, (RX1, TX1, 13), rfl, Or.inl rfl⟩, List.forall_mem_cons.mpr ⟨⟨by decide, (RX1, TX1, 13), rfl, Or.inl rfl⟩, fun _ h => absurd h List.not_mem_nil⟩⟩⟩⟩⟩⟩⟩⟩⟩⟩⟩⟩, tctB_X2, ticB_X2, tsxB_X2, tlcB_X2⟩
def fiB_X2 : List (Nat × Nat × Nat) := [(3, 2, 6), (18, 2, 0), (36, 2, 2), (22, 3, 6), (26, 3, 7), (61, 2, 3), (221, 6, 2), (167, 1, 3), (124, 2, 4), (100, 2, 5), (29, 2, 1), (129, 1, 0), (137, 1, 1), (144, 1, 2)]
theorem tbiB_X2 : xTb RX2 flB_X2 fiB_X2 ctB_X2 icB_X2 sxB_X2 lcB_X2 true := ⟨tflB_X2, List.forall_mem_cons.mpr ⟨⟨by decide, (RX2, TX2, 7), rfl, Or.inr ⟨rfl, rfl, rfl, "BorderStones$Reader", q374, rfl⟩⟩, List.forall_mem_cons.mpr ⟨⟨by decide, (RX2, TX2, 7), rfl, Or.inr ⟨rfl, rfl, rfl, "BorderStones$Reader", q368, rfl⟩⟩, List.forall_mem_cons.mpr ⟨⟨by decide, (RX2, TX2, 7), rfl, Or.inl rfl⟩, List.forall_mem_cons.mpr ⟨⟨by decide, (RX3, TX3, 8), rfl, Or.inl rfl⟩, List.forall_mem_cons.mpr ⟨⟨by decide, (RX3, TX3, 8), rfl, Or.inl rfl⟩, List.forall_mem_cons.mpr ⟨⟨by decide, (RX2, TX2, 7), rfl, Or.inl rfl⟩, List.forall_mem_cons.mpr ⟨⟨by decide, (RX7, TX7, 3), rfl, Or.inl rfl⟩, List.forall_mem_cons.mpr ⟨⟨by decide, (RX1, TX1, 13), rfl, Or.inl rfl⟩, List.forall_mem_cons.mpr ⟨⟨by decide, (RX2, TX2, 7), rfl, Or.inl rfl⟩, List.forall_mem_cons.mpr ⟨⟨by decide, (RX2, TX2, 7), rfl, Or.inl rfl⟩, List.forall_mem_cons.mpr ⟨⟨by decide, (RX2, TX2, 7), rfl, Or.inl rfl⟩, List.forall_mem_cons.mpr ⟨⟨by decide, (RX1, TX1, 13), rfl, Or.inl rfl⟩, List.forall_mem_cons.mpr ⟨⟨by decide, (RX1, TX1, 13), rfl, Or.inl rfl⟩, List.forall_mem_cons.mpr ⟨⟨by decide, (RX1, TX1, 13), rfl, Or.inl rfl⟩, fun _ h => absurd h List.not_mem_nil⟩⟩⟩⟩⟩⟩⟩⟩⟩⟩⟩⟩⟩⟩, tctB_X2, ticB_X2, tsxB_X2, tlcB_X2⟩
def flB_X3 : List (Nat × Nat × Nat) := []
def ctB_X3 : List (Nat × Nat) := []
def icB_X3 : List (Nat × Value) := []
def sxB_X3 : List (Nat × Value) := []
def lcB_X3 : List (Nat × Int64) := []
theorem tflB_X3 : ∀ q ∈ flB_X3, ∃ (x : vw_C) (ref : String), xCl[q.2.1]? = some x ∧ q.2.2 < x.2.2 ∧ (Cond.fieldLink RX3 q.1 ref (x.2.1 q.2.2).2.1 (x.2.1 q.2.2).2.2.1 ∈ lw_all ∨ ∃ host, Cond.fieldLinkNest RX3 q.1 ref (x.2.1 q.2.2).2.1 (x.2.1 q.2.2).2.2.1 host ∈ xNs) ∧ ((x.2.1 q.2.2).1 = ref ∨ Cond.sameField ref (x.2.1 q.2.2).1 (x.2.1 q.2.2).2.1 (x.2.1 q.2.2).2.2.1 ∈ lw_all) := fun _ h => absurd h List.not_mem_nil
theorem tctB_X3 : ∀ q ∈ ctB_X3, xCt RX3 q.1 q.2 := fun _ h => absurd h List.not_mem_nil
theorem ticB_X3 : ∀ q ∈ icB_X3, xIc RX3 q := fun _ h => absurd h List.not_mem_nil
theorem tsxB_X3 : ∀ q ∈ sxB_X3, xSx RX3 q := fun _ h => absurd h List.not_mem_nil
theorem tlcB_X3 : ∀ q ∈ lcB_X3, Cond.constantLong RX3 q.1 q.2 ∈ lw_all := fun _ h => absurd h List.not_mem_nil
def fpB_X3 : List (Nat × Nat × Nat) := []
theorem tbpB_X3 : xTb RX3 flB_X3 fpB_X3 ctB_X3 icB_X3 sxB_X3 lcB_X3 false := ⟨tflB_X3, fun _ h => absurd h List.not_mem_nil, tctB_X3, ticB_X3, tsxB_X3, tlcB_X3⟩
def fiB_X3 : List (Nat × Nat × Nat) := []
theorem tbiB_X3 : xTb RX3 flB_X3 fiB_X3 ctB_X3 icB_X3 sxB_X3 lcB_X3 true := ⟨tflB_X3, fun _ h => absurd h List.not_mem_nil, tctB_X3, ticB_X3, tsxB_X3, tlcB_X3⟩
def flB_X4 : List (Nat × Nat × Nat) := [(7, 4, 0)]
def ctB_X4 : List (Nat × Nat) := []
def icB_X4 : List (Nat × Value) := []
def sxB_X4 : List (Nat × Value) := []
def lcB_X4 : List (Nat × Int64) := []
theorem tflB_X4 : ∀ q ∈ flB_X4, ∃ (x : vw_C) (ref : String), xCl[q.2.1]? = some x ∧ q.2.2 < x.2.2 ∧ (Cond.fieldLink RX4 q.1 ref (x.2.1 q.2.2).2.1 (x.2.1 q.2.2).2.2.1 ∈ lw_all ∨ ∃ host, Cond.fieldLinkNest RX4 q.1 ref (x.2.1 q.2.2).2.1 (x.2.1 q.2.2).2.2.1 host ∈ xNs) ∧ ((x.2.1 q.2.2).1 = ref ∨ Cond.sameField ref (x.2.1 q.2.2).1 (x.2.1 q.2.2).2.1 (x.2.1 q.2.2).2.2.1 ∈ lw_all) := List.forall_mem_cons.mpr ⟨⟨(RX4, TX4, 1), "BorderStones$Moment", rfl, by decide, Or.inl q396, Or.inl rfl⟩, fun _ h => absurd h List.not_mem_nil⟩
theorem tctB_X4 : ∀ q ∈ ctB_X4, xCt RX4 q.1 q.2 := fun _ h => absurd h List.not_mem_nil
theorem ticB_X4 : ∀ q ∈ icB_X4, xIc RX4 q := fun _ h => absurd h List.not_mem_nil
theorem tsxB_X4 : ∀ q ∈ sxB_X4, xSx RX4 q := fun _ h => absurd h List.not_mem_nil
theorem tlcB_X4 : ∀ q ∈ lcB_X4, Cond.constantLong RX4 q.1 q.2 ∈ lw_all := fun _ h => absurd h List.not_mem_nil
def fpB_X4 : List (Nat × Nat × Nat) := []
theorem tbpB_X4 : xTb RX4 flB_X4 fpB_X4 ctB_X4 icB_X4 sxB_X4 lcB_X4 false := ⟨tflB_X4, fun _ h => absurd h List.not_mem_nil, tctB_X4, ticB_X4, tsxB_X4, tlcB_X4⟩
def fiB_X4 : List (Nat × Nat × Nat) := [(7, 4, 0)]
theorem tbiB_X4 : xTb RX4 flB_X4 fiB_X4 ctB_X4 icB_X4 sxB_X4 lcB_X4 true := ⟨tflB_X4, List.forall_mem_cons.mpr ⟨⟨by decide, (RX4, TX4, 1), rfl, Or.inr ⟨rfl, rfl, rfl, "BorderStones$Moment", q396, rfl⟩⟩, fun _ h => absurd h List.not_mem_nil⟩, tctB_X4, ticB_X4, tsxB_X4, tlcB_X4⟩
def flB_X5 : List (Nat × Nat × Nat) := [(3, 5, 13), (15, 5, 2), (19, 5, 3), (22, 5, 7), (26, 5, 8), (29, 5, 9), (32, 5, 11), (35, 5, 12)]
def ctB_X5 : List (Nat × Nat) := []
def icB_X5 : List (Nat × Value) := []
def sxB_X5 : List (Nat × Value) := []
def lcB_X5 : List (Nat × Int64) := []
theorem tflB_X5 : ∀ q ∈ flB_X5, ∃ (x : vw_C) (ref : String), xCl[q.2.1]? = some x ∧ q.2.2 < x.2.2 ∧ (Cond.fieldLink RX5 q.1 ref (x.2.1 q.2.2).2.1 (x.2.1 q.2.2).2.2.1 ∈ lw_all ∨ ∃ host, Cond.fieldLinkNest RX5 q.1 ref (x.2.1 q.2.2).2.1 (x.2.1 q.2.2).2.2.1 host ∈ xNs) ∧ ((x.2.1 q.2.2).1 = ref ∨ Cond.sameField ref (x.2.1 q.2.2).1 (x.2.1 q.2.2).2.1 (x.2.1 q.2.2).2.2.1 ∈ lw_all) := List.forall_mem_cons.mpr ⟨⟨(RX5, TX5, 14), "BorderStones$State", rfl, by decide, Or.inl q429, Or.inl rfl⟩, List.forall_mem_cons.mpr ⟨⟨(RX5, TX5, 14), "BorderStones$State", rfl, by decide, Or.inl q412, Or.inl rfl⟩, List.forall_mem_cons.mpr ⟨⟨(RX5, TX5, 14), "BorderStones$State", rfl, by decide, Or.inl q414, Or.inl rfl⟩, List.forall_mem_cons.mpr ⟨⟨(RX5, TX5, 14), "BorderStones$State", rfl, by decide, Or.inl q419, Or.inl rfl⟩, List.forall_mem_cons.mpr ⟨⟨(RX5, TX5, 14), "BorderStones$State", rfl, by decide, Or.inl q421, Or.inl rfl⟩, List.forall_mem_cons.mpr ⟨⟨(RX5, TX5, 14), "BorderStones$State", rfl, by decide, Or.inl q423, Or.inl rfl⟩, List.forall_mem_cons.mpr ⟨⟨(RX5, TX5, 14), "BorderStones$State", rfl, by decide, Or.inl q427, Or.inl rfl⟩, List.forall_mem_cons.mpr ⟨⟨(RX5, TX5, 14), "BorderStones$State", rfl, by decide, Or.inl q428, Or.inl rfl⟩, fun _ h => absurd h List.not_mem_nil⟩⟩⟩⟩⟩⟩⟩⟩
theorem tctB_X5 : ∀ q ∈ ctB_X5, xCt RX5 q.1 q.2 := fun _ h => absurd h List.not_mem_nil
theorem ticB_X5 : ∀ q ∈ icB_X5, xIc RX5 q := fun _ h => absurd h List.not_mem_nil
theorem tsxB_X5 : ∀ q ∈ sxB_X5, xSx RX5 q := fun _ h => absurd h List.not_mem_nil
theorem tlcB_X5 : ∀ q ∈ lcB_X5, Cond.constantLong RX5 q.1 q.2 ∈ lw_all := fun _ h => absurd h List.not_mem_nil
def fpB_X5 : List (Nat × Nat × Nat) := []
theorem tbpB_X5 : xTb RX5 flB_X5 fpB_X5 ctB_X5 icB_X5 sxB_X5 lcB_X5 false := ⟨tflB_X5, fun _ h => absurd h List.not_mem_nil, tctB_X5, ticB_X5, tsxB_X5, tlcB_X5⟩
def fiB_X5 : List (Nat × Nat × Nat) := [(3, 5, 13), (15, 5, 2), (19, 5, 3), (22, 5, 7), (26, 5, 8), (29, 5, 9), (32, 5, 11), (35, 5, 12)]
theorem tbiB_X5 : xTb RX5 flB_X5 fiB_X5 ctB_X5 icB_X5 sxB_X5 lcB_X5 true := ⟨tflB_X5, List.forall_mem_cons.mpr ⟨⟨by decide, (RX5, TX5, 14), rfl, Or.inr ⟨rfl, rfl, rfl, "BorderStones$State", q429, rfl⟩⟩, List.forall_mem_cons.mpr ⟨⟨by decide, (RX5, TX5, 14), rfl, Or.inr ⟨rfl, rfl, rfl, "BorderStones$State", q412, rfl⟩⟩, List.forall_mem_cons.mpr ⟨⟨by decide, (RX5, TX5, 14), rfl, Or.inr ⟨rfl, rfl, rfl, "BorderStones$State", q414, rfl⟩⟩, List.forall_mem_cons.mpr ⟨⟨by decide, (RX5, TX5, 14), rfl, Or.inr ⟨rfl, rfl, rfl, "BorderStones$State", q419, rfl⟩⟩, List.forall_mem_cons.mpr ⟨⟨by decide, (RX5, TX5, 14), rfl, Or.inr ⟨rfl, rfl, rfl, "BorderStones$State", q421, rfl⟩⟩, List.forall_mem_cons.mpr ⟨⟨by decide, (RX5, TX5, 14), rfl, Or.inr ⟨rfl, rfl, rfl, "BorderStones$State", q423, rfl⟩⟩, List.forall_mem_cons.mpr ⟨⟨by decide, (RX5, TX5, 14), rfl, Or.inr ⟨rfl, rfl, rfl, "BorderStones$State", q427, rfl⟩⟩, List.forall_mem_cons.mpr ⟨⟨by decide, (RX5, TX5, 14), rfl, Or.inr ⟨rfl, rfl, rfl, "BorderStones$State", q428, rfl⟩⟩, fun _ h => absurd h List.not_mem_nil⟩⟩⟩⟩⟩⟩⟩⟩, tctB_X5, ticB_X5, tsxB_X5, tlcB_X5⟩
def flB_X7 : List (Nat × Nat × Nat) := [(7, 6, 0), (13, 6, 1)]
def ctB_X7 : List (Nat × Nat) := []
def icB_X7 : List (Nat × Value) := []
def sxB_X7 : List (Nat × Value) := []
def lcB_X7 : List (Nat × Int64) := []
theorem tflB_X7 : ∀ q ∈ flB_X7, ∃ (x : vw_C) (ref : String), xCl[q.2.1]? = some x ∧ q.2.2 < x.2.2 ∧ (Cond.fieldLink RX7 q.1 ref (x.2.1 q.2.2).2.1 (x.2.1 q.2.2).2.2.1 ∈ lw_all ∨ ∃ host, Cond.fieldLinkNest RX7 q.1 ref (x.2.1 q.2.2).2.1 (x.2.1 q.2.2).2.2.1 host ∈ xNs) ∧ ((x.2.1 q.2.2).1 = ref ∨ Cond.sameField ref (x.2.1 q.2.2).1 (x.2.1 q.2.2).2.1 (x.2.1 q.2.2).2.2.1 ∈ lw_all) := List.forall_mem_cons.mpr ⟨⟨(RX7, TX7, 3), "BorderStones$Kind", rfl, by decide, Or.inl q825, Or.inl rfl⟩, List.forall_mem_cons.mpr ⟨⟨(RX7, TX7, 3), "BorderStones$Kind", rfl, by decide, Or.inl q827, Or.inl rfl⟩, fun _ h => absurd h List.not_mem_nil⟩⟩
theorem tctB_X7 : ∀ q ∈ ctB_X7, xCt RX7 q.1 q.2 := fun _ h => absurd h List.not_mem_nil
theorem ticB_X7 : ∀ q ∈ icB_X7, xIc RX7 q := fun _ h => absurd h List.not_mem_nil
theorem tsxB_X7 : ∀ q ∈ sxB_X7, xSx RX7 q := fun _ h => absurd h List.not_mem_nil
theorem tlcB_X7 : ∀ q ∈ lcB_X7, Cond.constantLong RX7 q.1 q.2 ∈ lw_all := fun _ h => absurd h List.not_mem_nil
def fpB_X7 : List (Nat × Nat × Nat) := []
theorem tbpB_X7 : xTb RX7 flB_X7 fpB_X7 ctB_X7 icB_X7 sxB_X7 lcB_X7 false := ⟨tflB_X7, fun _ h => absurd h List.not_mem_nil, tctB_X7, ticB_X7, tsxB_X7, tlcB_X7⟩
def fiB_X7 : List (Nat × Nat × Nat) := [(7, 6, 0), (13, 6, 1)]
theorem tbiB_X7 : xTb RX7 flB_X7 fiB_X7 ctB_X7 icB_X7 sxB_X7 lcB_X7 true := ⟨tflB_X7, List.forall_mem_cons.mpr ⟨⟨by decide, (RX7, TX7, 3), rfl, Or.inr ⟨rfl, rfl, rfl, "BorderStones$Kind", q825, rfl⟩⟩, List.forall_mem_cons.mpr ⟨⟨by decide, (RX7, TX7, 3), rfl, Or.inr ⟨rfl, rfl, rfl, "BorderStones$Kind", q827, rfl⟩⟩, fun _ h => absurd h List.not_mem_nil⟩⟩, tctB_X7, ticB_X7, tsxB_X7, tlcB_X7⟩
def flB_X8 : List (Nat × Nat × Nat) := []
def ctB_X8 : List (Nat × Nat) := []
def icB_X8 : List (Nat × Value) := []
def sxB_X8 : List (Nat × Value) := []
def lcB_X8 : List (Nat × Int64) := []
theorem tflB_X8 : ∀ q ∈ flB_X8, ∃ (x : vw_C) (ref : String), xCl[q.2.1]? = some x ∧ q.2.2 < x.2.2 ∧ (Cond.fieldLink RX8 q.1 ref (x.2.1 q.2.2).2.1 (x.2.1 q.2.2).2.2.1 ∈ lw_all ∨ ∃ host, Cond.fieldLinkNest RX8 q.1 ref (x.2.1 q.2.2).2.1 (x.2.1 q.2.2).2.2.1 host ∈ xNs) ∧ ((x.2.1 q.2.2).1 = ref ∨ Cond.sameField ref (x.2.1 q.2.2).1 (x.2.1 q.2.2).2.1 (x.2.1 q.2.2).2.2.1 ∈ lw_all) := fun _ h => absurd h List.not_mem_nil
theorem tctB_X8 : ∀ q ∈ ctB_X8, xCt RX8 q.1 q.2 := fun _ h => absurd h List.not_mem_nil
theorem ticB_X8 : ∀ q ∈ icB_X8, xIc RX8 q := fun _ h => absurd h List.not_mem_nil
theorem tsxB_X8 : ∀ q ∈ sxB_X8, xSx RX8 q := fun _ h => absurd h List.not_mem_nil
theorem tlcB_X8 : ∀ q ∈ lcB_X8, Cond.constantLong RX8 q.1 q.2 ∈ lw_all := fun _ h => absurd h List.not_mem_nil
def fpB_X8 : List (Nat × Nat × Nat) := []
theorem tbpB_X8 : xTb RX8 flB_X8 fpB_X8 ctB_X8 icB_X8 sxB_X8 lcB_X8 false := ⟨tflB_X8, fun _ h => absurd h List.not_mem_nil, tctB_X8, ticB_X8, tsxB_X8, tlcB_X8⟩
def fiB_X8 : List (Nat × Nat × Nat) := []
theorem tbiB_X8 : xTb RX8 flB_X8 fiB_X8 ctB_X8 icB_X8 sxB_X8 lcB_X8 true := ⟨tflB_X8, fun _ h => absurd h List.not_mem_nil, tctB_X8, ticB_X8, tsxB_X8, tlcB_X8⟩
def flB_X9 : List (Nat × Nat × Nat) := [(12, 7, 0), (21, 7, 1)]
def ctB_X9 : List (Nat × Nat) := []
def icB_X9 : List (Nat × Value) := []
def sxB_X9 : List (Nat × Value) := []
def lcB_X9 : List (Nat × Int64) := []
theorem tflB_X9 : ∀ q ∈ flB_X9, ∃ (x : vw_C) (ref : String), xCl[q.2.1]? = some x ∧ q.2.2 < x.2.2 ∧ (Cond.fieldLink RX9 q.1 ref (x.2.1 q.2.2).2.1 (x.2.1 q.2.2).2.2.1 ∈ lw_all ∨ ∃ host, Cond.fieldLinkNest RX9 q.1 ref (x.2.1 q.2.2).2.1 (x.2.1 q.2.2).2.2.1 host ∈ xNs) ∧ ((x.2.1 q.2.2).1 = ref ∨ Cond.sameField ref (x.2.1 q.2.2).1 (x.2.1 q.2.2).2.1 (x.2.1 q.2.2).2.2.1 ∈ lw_all) := List.forall_mem_cons.mpr ⟨⟨(RX9, TX9, 2), "BorderStones$Chain", rfl, by decide, Or.inl q970, Or.inl rfl⟩, List.forall_mem_cons.mpr ⟨⟨(RX9, TX9, 2), "BorderStones$Chain", rfl, by decide, Or.inl q971, Or.inl rfl⟩, fun _ h => absurd h List.not_mem_nil⟩⟩
theorem tctB_X9 : ∀ q ∈ ctB_X9, xCt RX9 q.1 q.2 := fun _ h => absurd h List.not_mem_nil
theorem ticB_X9 : ∀ q ∈ icB_X9, xIc RX9 q := fun _ h => absurd h List.not_mem_nil
theorem tsxB_X9 : ∀ q ∈ sxB_X9, xSx RX9 q := fun _ h => absurd h List.not_mem_nil
theorem tlcB_X9 : ∀ q ∈ lcB_X9, Cond.constantLong RX9 q.1 q.2 ∈ lw_all := fun _ h => absurd h List.not_mem_nil
def fpB_X9 : List (Nat × Nat × Nat) := []
theorem tbpB_X9 : xTb RX9 flB_X9 fpB_X9 ctB_X9 icB_X9 sxB_X9 lcB_X9 false := ⟨tflB_X9, fun _ h => absurd h List.not_mem_nil, tctB_X9, ticB_X9, tsxB_X9, tlcB_X9⟩
def fiB_X9 : List (Nat × Nat × Nat) := [(12, 7, 0), (21, 7, 1)]
theorem tbiB_X9 : xTb RX9 flB_X9 fiB_X9 ctB_X9 icB_X9 sxB_X9 lcB_X9 true := ⟨tflB_X9, List.forall_mem_cons.mpr ⟨⟨by decide, (RX9, TX9, 2), rfl, Or.inr ⟨rfl, rfl, rfl, "BorderStones$Chain", q970, rfl⟩⟩, List.forall_mem_cons.mpr ⟨⟨by decide, (RX9, TX9, 2), rfl, Or.inr ⟨rfl, rfl, rfl, "BorderStones$Chain", q971, rfl⟩⟩, fun _ h => absurd h List.not_mem_nil⟩⟩, tctB_X9, ticB_X9, tsxB_X9, tlcB_X9⟩
def nwB_J0 : List (Nat × Nat) := []
def nrB_J0 : List (Nat × Nat) := [(1, 9005)]
def nmB_J0 : List (Nat × Nat × Nat) := []
theorem tnB_J0 : xTn RJ0 nwB_J0 nrB_J0 nmB_J0 := ⟨fun _ h => absurd h List.not_mem_nil, List.forall_mem_cons.mpr ⟨Or.inr (Or.inr (Or.inr (Or.inr ⟨rfl, q206⟩))), fun _ h => absurd h List.not_mem_nil⟩, fun _ h => absurd h List.not_mem_nil⟩
def nwB_J1 : List (Nat × Nat) := []
def nrB_J1 : List (Nat × Nat) := []
def nmB_J1 : List (Nat × Nat × Nat) := []
theorem tnB_J1 : xTn RJ1 nwB_J1 nrB_J1 nmB_J1 := ⟨fun _ h => absurd h List.not_mem_nil, fun _ h => absurd h List.not_mem_nil, fun _ h => absurd h List.not_mem_nil⟩
def nwB_J11 : List (Nat × Nat) := []
def nrB_J11 : List (Nat × Nat) := []
def nmB_J11 : List (Nat × Nat × Nat) := []
theorem tnB_J11 : xTn RJ11 nwB_J11 nrB_J11 nmB_J11 := ⟨fun _ h => absurd h List.not_mem_nil, fun _ h => absurd h List.not_mem_nil, fun _ h => absurd h List.not_mem_nil⟩
def nwB_J13 : List (Nat × Nat) := []
def nrB_J13 : List (Nat × Nat) := [(150, 9000), (86, 9002), (110, 9003), (2, 55), (150, 9001)]
def nmB_J13 : List (Nat × Nat × Nat) := []
theorem tnB_J13 : xTn RJ13 nwB_J13 nrB_J13 nmB_J13 := ⟨fun _ h => absurd h List.not_mem_nil, List.forall_mem_cons.mpr ⟨Or.inr (Or.inl ⟨Or.inl rfl, q913⟩), List.forall_mem_cons.mpr ⟨Or.inr (Or.inr (Or.inl ⟨rfl, q882⟩)), List.forall_mem_cons.mpr ⟨Or.inr (Or.inr (Or.inr (Or.inl ⟨rfl, q910⟩))), List.forall_mem_cons.mpr ⟨Or.inl ⟨"java/lang/Object", Or.inl ⟨rfl, rfl⟩, q911, by decide⟩, List.forall_mem_cons.mpr ⟨Or.inr (Or.inl ⟨Or.inr rfl, q913⟩), fun _ h => absurd h List.not_mem_nil⟩⟩⟩⟩⟩, fun _ h => absurd h List.not_mem_nil⟩
def nwB_J14 : List (Nat × Nat) := []
def nrB_J14 : List (Nat × Nat) := [(3, 9005)]
def nmB_J14 : List (Nat × Nat × Nat) := []
theorem tnB_J14 : xTn RJ14 nwB_J14 nrB_J14 nmB_J14 := ⟨fun _ h => absurd h List.not_mem_nil, List.forall_mem_cons.mpr ⟨Or.inr (Or.inr (Or.inr (Or.inr ⟨rfl, q955⟩))), fun _ h => absurd h List.not_mem_nil⟩, fun _ h => absurd h List.not_mem_nil⟩
def nwB_J15 : List (Nat × Nat) := []
def nrB_J15 : List (Nat × Nat) := []
def nmB_J15 : List (Nat × Nat × Nat) := []
theorem tnB_J15 : xTn RJ15 nwB_J15 nrB_J15 nmB_J15 := ⟨fun _ h => absurd h List.not_mem_nil, fun _ h => absurd h List.not_mem_nil, fun _ h => absurd h List.not_mem_nil⟩
def nwB_J2 : List (Nat × Nat) := []
def nrB_J2 : List (Nat × Nat) := [(7, 55)]
def nmB_J2 : List (Nat × Nat × Nat) := []
theorem tnB_J2 : xTn RJ2 nwB_J2 nrB_J2 nmB_J2 := ⟨fun _ h => absurd h List.not_mem_nil, List.forall_mem_cons.mpr ⟨Or.inl ⟨"java/lang/Object", Or.inl ⟨rfl, rfl⟩, q207, by decide⟩, fun _ h => absurd h List.not_mem_nil⟩, fun _ h => absurd h List.not_mem_nil⟩
def nwB_J3 : List (Nat × Nat) := []
def nrB_J3 : List (Nat × Nat) := [(1, 9005)]
def nmB_J3 : List (Nat × Nat × Nat) := []
theorem tnB_J3 : xTn RJ3 nwB_J3 nrB_J3 nmB_J3 := ⟨fun _ h => absurd h List.not_mem_nil, List.forall_mem_cons.mpr ⟨Or.inr (Or.inr (Or.inr (Or.inr ⟨rfl, q320⟩))), fun _ h => absurd h List.not_mem_nil⟩, fun _ h => absurd h List.not_mem_nil⟩
def nwB_J4 : List (Nat × Nat) := []
def nrB_J4 : List (Nat × Nat) := []
def nmB_J4 : List (Nat × Nat × Nat) := []
theorem tnB_J4 : xTn RJ4 nwB_J4 nrB_J4 nmB_J4 := ⟨fun _ h => absurd h List.not_mem_nil, fun _ h => absurd h List.not_mem_nil, fun _ h => absurd h List.not_mem_nil⟩
def nwB_J5 : List (Nat × Nat) := []
def nrB_J5 : List (Nat × Nat) := []
def nmB_J5 : List (Nat × Nat × Nat) := []
theorem tnB_J5 : xTn RJ5 nwB_J5 nrB_J5 nmB_J5 := ⟨fun _ h => absurd h List.not_mem_nil, fun _ h => absurd h List.not_mem_nil, fun _ h => absurd h List.not_mem_nil⟩
def nwB_J6 : List (Nat × Nat) := [(10, 17)]
def nrB_J6 : List (Nat × Nat) := [(1, 9005)]
def nmB_J6 : List (Nat × Nat × Nat) := []
theorem tnB_J6 : xTn RJ6 nwB_J6 nrB_J6 nmB_J6 := ⟨List.forall_mem_cons.mpr ⟨⟨(RJ6, TJ6, 4), rfl, Nat.le_of_ble_eq_true rfl, q593, q594, q155⟩, fun _ h => absurd h List.not_mem_nil⟩, List.forall_mem_cons.mpr ⟨Or.inr (Or.inr (Or.inr (Or.inr ⟨rfl, q601⟩))), fun _ h => absurd h List.not_mem_nil⟩, fun _ h => absurd h List.not_mem_nil⟩
def nwB_J7 : List (Nat × Nat) := []
def nrB_J7 : List (Nat × Nat) := []
def nmB_J7 : List (Nat × Nat × Nat) := []
theorem tnB_J7 : xTn RJ7 nwB_J7 nrB_J7 nmB_J7 := ⟨fun _ h => absurd h List.not_mem_nil, fun _ h => absurd h List.not_mem_nil, fun _ h => absurd h List.not_mem_nil⟩
def nwB_J9 : List (Nat × Nat) := []
def nrB_J9 : List (Nat × Nat) := []
def nmB_J9 : List (Nat × Nat × Nat) := []
theorem tnB_J9 : xTn RJ9 nwB_J9 nrB_J9 nmB_J9 := ⟨fun _ h => absurd h List.not_mem_nil, fun _ h => absurd h List.not_mem_nil, fun _ h => absurd h List.not_mem_nil⟩
def nwB_X0 : List (Nat × Nat) := [(28, 1), (43, 2), (52, 4), (59, 5)]
def nrB_X0 : List (Nat × Nat) := [(22, 9005), (59, 56)]
def nmB_X0 : List (Nat × Nat × Nat) := []
theorem tnB_X0 : xTn RX0 nwB_X0 nrB_X0 nmB_X0 := ⟨List.forall_mem_cons.mpr ⟨⟨(RX1, TX1, 13), rfl, Nat.le_of_ble_eq_true rfl, q189, q190, q143⟩, List.forall_mem_cons.mpr ⟨⟨(RX2, TX2, 7), rfl, Nat.le_of_ble_eq_true rfl, q289, q290, q147⟩, List.forall_mem_cons.mpr ⟨⟨(RX4, TX4, 1), rfl, Nat.le_of_ble_eq_true rfl, q390, q391, q152⟩, List.forall_mem_cons.mpr ⟨⟨(RX5, TX5, 14), rfl, Nat.le_of_ble_eq_true rfl, q402, q403, q153⟩, fun _ h => absurd h List.not_mem_nil⟩⟩⟩⟩, List.forall_mem_cons.mpr ⟨Or.inr (Or.inr (Or.inr (Or.inr ⟨rfl, q186⟩))), List.forall_mem_cons.mpr ⟨Or.inl ⟨"BorderStones$State", Or.inr ⟨rfl, rfl⟩, q402, by decide⟩, fun _ h => absurd h List.not_mem_nil⟩⟩, fun _ h => absurd h List.not_mem_nil⟩
def nwB_X1 : List (Nat × Nat) := [(9, 16)]
def nrB_X1 : List (Nat × Nat) := [(3, 9005)]
def nmB_X1 : List (Nat × Nat × Nat) := [(36, 58, 51), (41, 59, 52)]
theorem tnB_X1 : xTn RX1 nwB_X1 nrB_X1 nmB_X1 := ⟨List.forall_mem_cons.mpr ⟨⟨(RJ2, TJ2, 3), rfl, Nat.le_of_ble_eq_true rfl, q195, q196, q146⟩, fun _ h => absurd h List.not_mem_nil⟩, List.forall_mem_cons.mpr ⟨Or.inr (Or.inr (Or.inr (Or.inr ⟨rfl, q194⟩))), fun _ h => absurd h List.not_mem_nil⟩, List.forall_mem_cons.mpr ⟨⟨.int, Or.inl ⟨rfl, rfl, rfl⟩, by rw [show ("[" ++ (FieldType.array FieldType.int).toString) = "[[I" from by decide +kernel]; exact q223⟩, List.forall_mem_cons.mpr ⟨⟨.long, Or.inr ⟨rfl, rfl, rfl⟩, by rw [show ("[" ++ (FieldType.array FieldType.long).toString) = "[[J" from by decide +kernel]; exact q225⟩, fun _ h => absurd h List.not_mem_nil⟩⟩⟩
def nwB_X10 : List (Nat × Nat) := []
def nrB_X10 : List (Nat × Nat) := []
def nmB_X10 : List (Nat × Nat × Nat) := []
theorem tnB_X10 : xTn RX10 nwB_X10 nrB_X10 nmB_X10 := ⟨fun _ h => absurd h List.not_mem_nil, fun _ h => absurd h List.not_mem_nil, fun _ h => absurd h List.not_mem_nil⟩
def nwB_X11 : List (Nat × Nat) := []
def nrB_X11 : List (Nat × Nat) := []
def nmB_X11 : List (Nat × Nat × Nat) := []
theorem tnB_X11 : xTn RX11 nwB_X11 nrB_X11 nmB_X11 := ⟨fun _ h => absurd h List.not_mem_nil, fun _ h => absurd h List.not_mem_nil, fun _ h => absurd h List.not_mem_nil⟩
def nwB_X12 : List (Nat × Nat) := []
def nrB_X12 : List (Nat × Nat) := []
def nmB_X12 : List (Nat × Nat × Nat) := []
theorem tnB_X12 : xTn RX12 nwB_X12 nrB_X12 nmB_X12 := ⟨fun _ h => absurd h List.not_mem_nil, fun _ h => absurd h List.not_mem_nil, fun _ h => absurd h List.not_mem_nil⟩
def nwB_X13 : List (Nat × Nat) := []
def nrB_X13 : List (Nat × Nat) := [(1, 9005)]
def nmB_X13 : List (Nat × Nat × Nat) := []
theorem tnB_X13 : xTn RX13 nwB_X13 nrB_X13 nmB_X13 := ⟨fun _ h => absurd h List.not_mem_nil, List.forall_mem_cons.mpr ⟨Or.inr (Or.inr (Or.inr (Or.inr ⟨rfl, q1176⟩))), fun _ h => absurd h List.not_mem_nil⟩, fun _ h => absurd h List.not_mem_nil⟩
def nwB_X14 : List (Nat × Nat) := []
def nrB_X14 : List (Nat × Nat) := [(1, 9005)]
def nmB_X14 : List (Nat × Nat × Nat) := []
theorem tnB_X14 : xTn RX14 nwB_X14 nrB_X14 nmB_X14 := ⟨fun _ h => absurd h List.not_mem_nil, List.forall_mem_cons.mpr ⟨Or.inr (Or.inr (Or.inr (Or.inr ⟨rfl, q1113⟩))), fun _ h => absurd h List.not_mem_nil⟩, fun _ h => absurd h List.not_mem_nil⟩
def nwB_X15 : List (Nat × Nat) := [(7, 16)]
def nrB_X15 : List (Nat × Nat) := []
def nmB_X15 : List (Nat × Nat × Nat) := []
theorem tnB_X15 : xTn RX15 nwB_X15 nrB_X15 nmB_X15 := ⟨List.forall_mem_cons.mpr ⟨⟨(RJ2, TJ2, 3), rfl, Nat.le_of_ble_eq_true rfl, q1114, q196, q146⟩, fun _ h => absurd h List.not_mem_nil⟩, fun _ h => absurd h List.not_mem_nil, fun _ h => absurd h List.not_mem_nil⟩
def nwB_X16 : List (Nat × Nat) := []
def nrB_X16 : List (Nat × Nat) := []
def nmB_X16 : List (Nat × Nat × Nat) := []
theorem tnB_X16 : xTn RX16 nwB_X16 nrB_X16 nmB_X16 := ⟨fun _ h => absurd h List.not_mem_nil, fun _ h => absurd h List.not_mem_nil, fun _ h => absurd h List.not_mem_nil⟩
def nwB_X17 : List (Nat × Nat) := []
def nrB_X17 : List (Nat × Nat) := []
def nmB_X17 : List (Nat × Nat × Nat) := []
theorem tnB_X17 : xTn RX17 nwB_X17 nrB_X17 nmB_X17 := ⟨fun _ h => absurd h List.not_mem_nil, fun _ h => absurd h List.not_mem_nil, fun _ h => absurd h List.not_mem_nil⟩
def nwB_X18 : List (Nat × Nat) := []
def nrB_X18 : List (Nat × Nat) := []
def nmB_X18 : List (Nat × Nat × Nat) := []
theorem tnB_X18 : xTn RX18 nwB_X18 nrB_X18 nmB_X18 := ⟨fun _ h => absurd h List.not_mem_nil, fun _ h => absurd h List.not_mem_nil, fun _ h => absurd h List.not_mem_nil⟩
def nwB_X2 : List (Nat × Nat) := [(15, 3), (118, 6), (190, 11), (234, 7), (261, 9), (269, 10), (252, 8), (276, 12), (300, 13), (307, 14), (310, 15), (105, 1)]
def nrB_X2 : List (Nat × Nat) := [(9, 9005)]
def nmB_X2 : List (Nat × Nat × Nat) := []
theorem tnB_X2 : xTn RX2 nwB_X2 nrB_X2 nmB_X2 := ⟨List.forall_mem_cons.mpr ⟨⟨(RX3, TX3, 8), rfl, Nat.le_of_ble_eq_true rfl, q295, q296, q151⟩, List.forall_mem_cons.mpr ⟨⟨(RX7, TX7, 3), rfl, Nat.le_of_ble_eq_true rfl, q814, q815, q162⟩, List.forall_mem_cons.mpr ⟨⟨(RX13, TX13, 2), rfl, Nat.le_of_ble_eq_true rfl, q1099, q1100, q172⟩, List.forall_mem_cons.mpr ⟨⟨(RX9, TX9, 2), rfl, Nat.le_of_ble_eq_true rfl, q936, q937, q166⟩, List.forall_mem_cons.mpr ⟨⟨(RX11, TX11, 1), rfl, Nat.le_of_ble_eq_true rfl, q1009, q1010, q170⟩, List.forall_mem_cons.mpr ⟨⟨(RX12, TX12, 1), rfl, Nat.le_of_ble_eq_true rfl, q1021, q1022, q171⟩, List.forall_mem_cons.mpr ⟨⟨(RX10, TX10, 3), rfl, Nat.le_of_ble_eq_true rfl, q993, q994, q169⟩, List.forall_mem_cons.mpr ⟨⟨(RX15, TX15, 2), rfl, Nat.le_of_ble_eq_true rfl, q1105, q1106, q174⟩, List.forall_mem_cons.mpr ⟨⟨(RX16, TX16, 1), rfl, Nat.le_of_ble_eq_true rfl, q1137, q1138, q175⟩, List.forall_mem_cons.mpr ⟨⟨(RX17, TX17, 0), rfl, Nat.le_of_ble_eq_true rfl, q1148, q1149, q176⟩, List.forall_mem_cons.mpr ⟨⟨(RX18, TX18, 3), rfl, Nat.le_of_ble_eq_true rfl, q1155, q1156, q177⟩, List.forall_mem_cons.mpr ⟨⟨(RX1, TX1, 13), rfl, Nat.le_of_ble_eq_true rfl, q557, q190, q143⟩, fun _ h => absurd h List.not_mem_nil⟩⟩⟩⟩⟩⟩⟩⟩⟩⟩⟩⟩, List.forall_mem_cons.mpr ⟨Or.inr (Or.inr (Or.inr (Or.inr ⟨rfl, q294⟩))), fun _ h => absurd h List.not_mem_nil⟩, fun _ h => absurd h List.not_mem_nil⟩
def nwB_X3 : List (Nat × Nat) := []
def nrB_X3 : List (Nat × Nat) := []
def nmB_X3 : List (Nat × Nat × Nat) := []
theorem tnB_X3 : xTn RX3 nwB_X3 nrB_X3 nmB_X3 := ⟨fun _ h => absurd h List.not_mem_nil, fun _ h => absurd h List.not_mem_nil, fun _ h => absurd h List.not_mem_nil⟩
def nwB_X4 : List (Nat × Nat) := []
def nrB_X4 : List (Nat × Nat) := [(1, 9005)]
def nmB_X4 : List (Nat × Nat × Nat) := []
theorem tnB_X4 : xTn RX4 nwB_X4 nrB_X4 nmB_X4 := ⟨fun _ h => absurd h List.not_mem_nil, List.forall_mem_cons.mpr ⟨Or.inr (Or.inr (Or.inr (Or.inr ⟨rfl, q395⟩))), fun _ h => absurd h List.not_mem_nil⟩, fun _ h => absurd h List.not_mem_nil⟩
def nwB_X5 : List (Nat × Nat) := []
def nrB_X5 : List (Nat × Nat) := [(9, 9005)]
def nmB_X5 : List (Nat × Nat × Nat) := []
theorem tnB_X5 : xTn RX5 nwB_X5 nrB_X5 nmB_X5 := ⟨fun _ h => absurd h List.not_mem_nil, List.forall_mem_cons.mpr ⟨Or.inr (Or.inr (Or.inr (Or.inr ⟨rfl, q407⟩))), fun _ h => absurd h List.not_mem_nil⟩, fun _ h => absurd h List.not_mem_nil⟩
def nwB_X7 : List (Nat × Nat) := []
def nrB_X7 : List (Nat × Nat) := [(1, 9005)]
def nmB_X7 : List (Nat × Nat × Nat) := []
theorem tnB_X7 : xTn RX7 nwB_X7 nrB_X7 nmB_X7 := ⟨fun _ h => absurd h List.not_mem_nil, List.forall_mem_cons.mpr ⟨Or.inr (Or.inr (Or.inr (Or.inr ⟨rfl, q824⟩))), fun _ h => absurd h List.not_mem_nil⟩, fun _ h => absurd h List.not_mem_nil⟩
def nwB_X8 : List (Nat × Nat) := []
def nrB_X8 : List (Nat × Nat) := [(1, 9005)]
def nmB_X8 : List (Nat × Nat × Nat) := []
theorem tnB_X8 : xTn RX8 nwB_X8 nrB_X8 nmB_X8 := ⟨fun _ h => absurd h List.not_mem_nil, List.forall_mem_cons.mpr ⟨Or.inr (Or.inr (Or.inr (Or.inr ⟨rfl, q944⟩))), fun _ h => absurd h List.not_mem_nil⟩, fun _ h => absurd h List.not_mem_nil⟩
def nwB_X9 : List (Nat × Nat) := [(7, 16), (18, 18)]
def nrB_X9 : List (Nat × Nat) := []
def nmB_X9 : List (Nat × Nat × Nat) := []
theorem tnB_X9 : xTn RX9 nwB_X9 nrB_X9 nmB_X9 := ⟨List.forall_mem_cons.mpr ⟨⟨(RJ2, TJ2, 3), rfl, Nat.le_of_ble_eq_true rfl, q945, q196, q146⟩, List.forall_mem_cons.mpr ⟨⟨(RJ15, TJ15, 4), rfl, Nat.le_of_ble_eq_true rfl, q947, q948, q168⟩, fun _ h => absurd h List.not_mem_nil⟩⟩, fun _ h => absurd h List.not_mem_nil, fun _ h => absurd h List.not_mem_nil⟩
