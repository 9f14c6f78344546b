/-! X layer: the classes' tables -/
set_option maxRecDepth 100000
def fl_J10 : List (Nat × Nat × Nat) := []
def ct_J10 : List (Nat × Nat) := []
def ic_J10 : List (Nat × Value) := []
def sx_J10 : List (Nat × Value) := []
def lc_J10 : List (Nat × Int64) := []
theorem tfl_J10 : ∀ q ∈ fl_J10, ∃ (x : vw_C) (ref : String), xCl[q.2.1]? = some x ∧ q.2.2 < x.2.2 ∧ (Cond.fieldLink RJ10 q.1 ref (x.2.1 q.2.2).2.1 (x.2.1 q.2.2).2.2.1 ∈ lw_all ∨ ∃ host, Cond.fieldLinkNest RJ10 q.1 ref (x.2.1 q.2.2).2.1 (x.2.1 q.2.2).2.2.1 host ∈ xNs) ∧ ((x.2.1 q.2.2).1 = ref ∨ Cond.sameField ref (x.2.1 q.2.2).1 (x.2.1 q.2.2).2.1 (x.2.1 q.2.2).2.2.1 ∈ lw_all) := fun _ h => absurd h List.not_mem_nil
theorem tct_J10 : ∀ q ∈ ct_J10, xCt RJ10 q.1 q.2 := fun _ h => absurd h List.not_mem_nil
theorem tic_J10 : ∀ q ∈ ic_J10, xIc RJ10 q := fun _ h => absurd h List.not_mem_nil
theorem tsx_J10 : ∀ q ∈ sx_J10, xSx RJ10 q := fun _ h => absurd h List.not_mem_nil
theorem tlc_J10 : ∀ q ∈ lc_J10, Cond.constantLong RJ10 q.1 q.2 ∈ lw_all := fun _ h => absurd h List.not_mem_nil
def fp_J10 : List (Nat × Nat × Nat) := []
theorem tbp_J10 : xTb RJ10 fl_J10 fp_J10 ct_J10 ic_J10 sx_J10 lc_J10 false := ⟨tfl_J10, fun _ h => absurd h List.not_mem_nil, tct_J10, tic_J10, tsx_J10, tlc_J10⟩
def fl_J11 : List (Nat × Nat × Nat) := []
def ct_J11 : List (Nat × Nat) := [(60, 54)]
def ic_J11 : List (Nat × Value) := []
def sx_J11 : List (Nat × Value) := []
def lc_J11 : List (Nat × Int64) := []
theorem tfl_J11 : ∀ q ∈ fl_J11, ∃ (x : vw_C) (ref : String), xCl[q.2.1]? = some x ∧ q.2.2 < x.2.2 ∧ (Cond.fieldLink RJ11 q.1 ref (x.2.1 q.2.2).2.1 (x.2.1 q.2.2).2.2.1 ∈ lw_all ∨ ∃ host, Cond.fieldLinkNest RJ11 q.1 ref (x.2.1 q.2.2).2.1 (x.2.1 q.2.2).2.2.1 host ∈ xNs) ∧ ((x.2.1 q.2.2).1 = ref ∨ Cond.sameField ref (x.2.1 q.2.2).1 (x.2.1 q.2.2).2.1 (x.2.1 q.2.2).2.2.1 ∈ lw_all) := fun _ h => absurd h List.not_mem_nil
theorem tct_J11 : ∀ q ∈ ct_J11, xCt RJ11 q.1 q.2 := List.forall_mem_cons.mpr ⟨Or.inr ⟨rfl, q711⟩, fun _ h => absurd h List.not_mem_nil⟩
theorem tic_J11 : ∀ q ∈ ic_J11, xIc RJ11 q := fun _ h => absurd h List.not_mem_nil
theorem tsx_J11 : ∀ q ∈ sx_J11, xSx RJ11 q := fun _ h => absurd h List.not_mem_nil
theorem tlc_J11 : ∀ q ∈ lc_J11, Cond.constantLong RJ11 q.1 q.2 ∈ lw_all := fun _ h => absurd h List.not_mem_nil
def fp_J11 : List (Nat × Nat × Nat) := []
theorem tbp_J11 : xTb RJ11 fl_J11 fp_J11 ct_J11 ic_J11 sx_J11 lc_J11 false := ⟨tfl_J11, fun _ h => absurd h List.not_mem_nil, tct_J11, tic_J11, tsx_J11, tlc_J11⟩
def fl_J12 : List (Nat × Nat × Nat) := []
def ct_J12 : List (Nat × Nat) := []
def ic_J12 : List (Nat × Value) := []
def sx_J12 : List (Nat × Value) := []
def lc_J12 : List (Nat × Int64) := []
theorem tfl_J12 : ∀ q ∈ fl_J12, ∃ (x : vw_C) (ref : String), xCl[q.2.1]? = some x ∧ q.2.2 < x.2.2 ∧ (Cond.fieldLink RJ12 q.1 ref (x.2.1 q.2.2).2.1 (x.2.1 q.2.2).2.2.1 ∈ lw_all ∨ ∃ host, Cond.fieldLinkNest RJ12 q.1 ref (x.2.1 q.2.2).2.1 (x.2.1 q.2.2).2.2.1 host ∈ xNs) ∧ ((x.2.1 q.2.2).1 = ref ∨ Cond.sameField ref (x.2.1 q.2.2).1 (x.2.1 q.2.2).2.1 (x.2.1 q.2.2).2.2.1 ∈ lw_all) := fun _ h => absurd h List.not_mem_nil
theorem tct_J12 : ∀ q ∈ ct_J12, xCt RJ12 q.1 q.2 := fun _ h => absurd h List.not_mem_nil
theorem tic_J12 : ∀ q ∈ ic_J12, xIc RJ12 q := fun _ h => absurd h List.not_mem_nil
theorem tsx_J12 : ∀ q ∈ sx_J12, xSx RJ12 q := fun _ h => absurd h List.not_mem_nil
theorem tlc_J12 : ∀ q ∈ lc_J12, Cond.constantLong RJ12 q.1 q.2 ∈ lw_all := fun _ h => absurd h List.not_mem_nil
def fp_J12 : List (Nat × Nat × Nat) := []
theorem tbp_J12 : xTb RJ12 fl_J12 fp_J12 ct_J12 ic_J12 sx_J12 lc_J12 false := ⟨tfl_J12, fun _ h => absurd h List.not_mem_nil, tct_J12, tic_J12, tsx_J12, tlc_J12⟩
def fl_J14 : List (Nat × Nat × Nat) := [(22, 18, 1), (15, 18, 0), (79, 18, 3)]
def ct_J14 : List (Nat × Nat) := []
def ic_J14 : List (Nat × Value) := []
def sx_J14 : List (Nat × Value) := []
def lc_J14 : List (Nat × Int64) := []
theorem tfl_J14 : ∀ q ∈ fl_J14, ∃ (x : vw_C) (ref : String), xCl[q.2.1]? = some x ∧ q.2.2 < x.2.2 ∧ (Cond.fieldLink RJ14 q.1 ref (x.2.1 q.2.2).2.1 (x.2.1 q.2.2).2.2.1 ∈ lw_all ∨ ∃ host, Cond.fieldLinkNest RJ14 q.1 ref (x.2.1 q.2.2).2.1 (x.2.1 q.2.2).2.2.1 host ∈ xNs) ∧ ((x.2.1 q.2.2).1 = ref ∨ Cond.sameField ref (x.2.1 q.2.2).1 (x.2.1 q.2.2).2.1 (x.2.1 q.2.2).2.2.1 ∈ lw_all) := List.forall_mem_cons.mpr ⟨⟨(RJ15, TJ15, 4), "java/lang/AbstractStringBuilder", rfl, by decide, Or.inl q959, Or.inl rfl⟩, List.forall_mem_cons.mpr ⟨⟨(RJ15, TJ15, 4), "java/lang/AbstractStringBuilder", rfl, by decide, Or.inl q958, Or.inl rfl⟩, List.forall_mem_cons.mpr ⟨⟨(RJ15, TJ15, 4), "java/lang/AbstractStringBuilder", rfl, by decide, Or.inl q960, Or.inl rfl⟩, fun _ h => absurd h List.not_mem_nil⟩⟩⟩
theorem tct_J14 : ∀ q ∈ ct_J14, xCt RJ14 q.1 q.2 := fun _ h => absurd h List.not_mem_nil
theorem tic_J14 : ∀ q ∈ ic_J14, xIc RJ14 q := fun _ h => absurd h List.not_mem_nil
theorem tsx_J14 : ∀ q ∈ sx_J14, xSx RJ14 q := fun _ h => absurd h List.not_mem_nil
theorem tlc_J14 : ∀ q ∈ lc_J14, Cond.constantLong RJ14 q.1 q.2 ∈ lw_all := fun _ h => absurd h List.not_mem_nil
def fp_J14 : List (Nat × Nat × Nat) := []
theorem tbp_J14 : xTb RJ14 fl_J14 fp_J14 ct_J14 ic_J14 sx_J14 lc_J14 false := ⟨tfl_J14, fun _ h => absurd h List.not_mem_nil, tct_J14, tic_J14, tsx_J14, tlc_J14⟩
def fi_J14 : List (Nat × Nat × Nat) := []
theorem tbi_J14 : xTb RJ14 fl_J14 fi_J14 ct_J14 ic_J14 sx_J14 lc_J14 true := ⟨tfl_J14, fun _ h => absurd h List.not_mem_nil, tct_J14, tic_J14, tsx_J14, tlc_J14⟩
def fl_J15 : List (Nat × Nat × Nat) := []
def ct_J15 : List (Nat × Nat) := []
def ic_J15 : List (Nat × Value) := []
def sx_J15 : List (Nat × Value) := []
def lc_J15 : List (Nat × Int64) := []
theorem tfl_J15 : ∀ q ∈ fl_J15, ∃ (x : vw_C) (ref : String), xCl[q.2.1]? = some x ∧ q.2.2 < x.2.2 ∧ (Cond.fieldLink RJ15 q.1 ref (x.2.1 q.2.2).2.1 (x.2.1 q.2.2).2.2.1 ∈ lw_all ∨ ∃ host, Cond.fieldLinkNest RJ15 q.1 ref (x.2.1 q.2.2).2.1 (x.2.1 q.2.2).2.2.1 host ∈ xNs) ∧ ((x.2.1 q.2.2).1 = ref ∨ Cond.sameField ref (x.2.1 q.2.2).1 (x.2.1 q.2.2).2.1 (x.2.1 q.2.2).2.2.1 ∈ lw_all) := fun _ h => absurd h List.not_mem_nil
theorem tct_J15 : ∀ q ∈ ct_J15, xCt RJ15 q.1 q.2 := fun _ h => absurd h List.not_mem_nil
theorem tic_J15 : ∀ q ∈ ic_J15, xIc RJ15 q := fun _ h => absurd h List.not_mem_nil
theorem tsx_J15 : ∀ q ∈ sx_J15, xSx RJ15 q := fun _ h => absurd h List.not_mem_nil
theorem tlc_J15 : ∀ q ∈ lc_J15, Cond.constantLong RJ15 q.1 q.2 ∈ lw_all := fun _ h => absurd h List.not_mem_nil
def fp_J15 : List (Nat × Nat × Nat) := []
theorem tbp_J15 : xTb RJ15 fl_J15 fp_J15 ct_J15 ic_J15 sx_J15 lc_J15 false := ⟨tfl_J15, fun _ h => absurd h List.not_mem_nil, tct_J15, tic_J15, tsx_J15, tlc_J15⟩
def fi_J15 : List (Nat × Nat × Nat) := []
theorem tbi_J15 : xTb RJ15 fl_J15 fi_J15 ct_J15 ic_J15 sx_J15 lc_J15 true := ⟨tfl_J15, fun _ h => absurd h List.not_mem_nil, tct_J15, tic_J15, tsx_J15, tlc_J15⟩
def fl_J16 : List (Nat × Nat × Nat) := []
def ct_J16 : List (Nat × Nat) := []
def ic_J16 : List (Nat × Value) := []
def sx_J16 : List (Nat × Value) := []
def lc_J16 : List (Nat × Int64) := [(314, 6148914691236517205), (316, 3689348814741910323), (318, 1085102592571150095)]
theorem tfl_J16 : ∀ q ∈ fl_J16, ∃ (x : vw_C) (ref : String), xCl[q.2.1]? = some x ∧ q.2.2 < x.2.2 ∧ (Cond.fieldLink RJ16 q.1 ref (x.2.1 q.2.2).2.1 (x.2.1 q.2.2).2.2.1 ∈ lw_all ∨ ∃ host, Cond.fieldLinkNest RJ16 q.1 ref (x.2.1 q.2.2).2.1 (x.2.1 q.2.2).2.2.1 host ∈ xNs) ∧ ((x.2.1 q.2.2).1 = ref ∨ Cond.sameField ref (x.2.1 q.2.2).1 (x.2.1 q.2.2).2.1 (x.2.1 q.2.2).2.2.1 ∈ lw_all) := fun _ h => absurd h List.not_mem_nil
theorem tct_J16 : ∀ q ∈ ct_J16, xCt RJ16 q.1 q.2 := fun _ h => absurd h List.not_mem_nil
theorem tic_J16 : ∀ q ∈ ic_J16, xIc RJ16 q := fun _ h => absurd h List.not_mem_nil
theorem tsx_J16 : ∀ q ∈ sx_J16, xSx RJ16 q := fun _ h => absurd h List.not_mem_nil
theorem tlc_J16 : ∀ q ∈ lc_J16, Cond.constantLong RJ16 q.1 q.2 ∈ lw_all := List.forall_mem_cons.mpr ⟨q1330, List.forall_mem_cons.mpr ⟨q1331, List.forall_mem_cons.mpr ⟨q1332, fun _ h => absurd h List.not_mem_nil⟩⟩⟩
def fp_J16 : List (Nat × Nat × Nat) := []
theorem tbp_J16 : xTb RJ16 fl_J16 fp_J16 ct_J16 ic_J16 sx_J16 lc_J16 false := ⟨tfl_J16, fun _ h => absurd h List.not_mem_nil, tct_J16, tic_J16, tsx_J16, tlc_J16⟩
def fl_J17 : List (Nat × Nat × Nat) := []
def ct_J17 : List (Nat × Nat) := []
def ic_J17 : List (Nat × Value) := [(264, .int (65536)), (265, .int (1431655765)), (266, .int (858993459)), (267, .int (252645135))]
def sx_J17 : List (Nat × Value) := []
def lc_J17 : List (Nat × Int64) := []
theorem tfl_J17 : ∀ q ∈ fl_J17, ∃ (x : vw_C) (ref : String), xCl[q.2.1]? = some x ∧ q.2.2 < x.2.2 ∧ (Cond.fieldLink RJ17 q.1 ref (x.2.1 q.2.2).2.1 (x.2.1 q.2.2).2.2.1 ∈ lw_all ∨ ∃ host, Cond.fieldLinkNest RJ17 q.1 ref (x.2.1 q.2.2).2.1 (x.2.1 q.2.2).2.2.1 host ∈ xNs) ∧ ((x.2.1 q.2.2).1 = ref ∨ Cond.sameField ref (x.2.1 q.2.2).1 (x.2.1 q.2.2).2.1 (x.2.1 q.2.2).2.2.1 ∈ lw_all) := fun _ h => absurd h List.not_mem_nil
theorem tct_J17 : ∀ q ∈ ct_J17, xCt RJ17 q.1 q.2 := fun _ h => absurd h List.not_mem_nil
theorem tic_J17 : ∀ q ∈ ic_J17, xIc RJ17 q := List.forall_mem_cons.mpr ⟨q1394, List.forall_mem_cons.mpr ⟨q1551, List.forall_mem_cons.mpr ⟨q1552, List.forall_mem_cons.mpr ⟨q1553, fun _ h => absurd h List.not_mem_nil⟩⟩⟩⟩
theorem tsx_J17 : ∀ q ∈ sx_J17, xSx RJ17 q := fun _ h => absurd h List.not_mem_nil
theorem tlc_J17 : ∀ q ∈ lc_J17, Cond.constantLong RJ17 q.1 q.2 ∈ lw_all := fun _ h => absurd h List.not_mem_nil
def fp_J17 : List (Nat × Nat × Nat) := []
theorem tbp_J17 : xTb RJ17 fl_J17 fp_J17 ct_J17 ic_J17 sx_J17 lc_J17 false := ⟨tfl_J17, fun _ h => absurd h List.not_mem_nil, tct_J17, tic_J17, tsx_J17, tlc_J17⟩
def fl_J2 : List (Nat × Nat × Nat) := [(48, 16, 2), (9, 16, 1)]
def ct_J2 : List (Nat × Nat) := []
def ic_J2 : List (Nat × Value) := []
def sx_J2 : List (Nat × Value) := []
def lc_J2 : List (Nat × Int64) := []
theorem tfl_J2 : ∀ q ∈ fl_J2, ∃ (x : vw_C) (ref : String), xCl[q.2.1]? = some x ∧ q.2.2 < x.2.2 ∧ (Cond.fieldLink RJ2 q.1 ref (x.2.1 q.2.2).2.1 (x.2.1 q.2.2).2.2.1 ∈ lw_all ∨ ∃ host, Cond.fieldLinkNest RJ2 q.1 ref (x.2.1 q.2.2).2.1 (x.2.1 q.2.2).2.2.1 host ∈ xNs) ∧ ((x.2.1 q.2.2).1 = ref ∨ Cond.sameField ref (x.2.1 q.2.2).1 (x.2.1 q.2.2).2.1 (x.2.1 q.2.2).2.2.1 ∈ lw_all) := List.forall_mem_cons.mpr ⟨⟨(RJ2, TJ2, 3), "java/util/ArrayList", rfl, by decide, Or.inl q212, Or.inl rfl⟩, List.forall_mem_cons.mpr ⟨⟨(RJ2, TJ2, 3), "java/util/ArrayList", rfl, by decide, Or.inl q211, Or.inl rfl⟩, fun _ h => absurd h List.not_mem_nil⟩⟩
theorem tct_J2 : ∀ q ∈ ct_J2, xCt RJ2 q.1 q.2 := fun _ h => absurd h List.not_mem_nil
theorem tic_J2 : ∀ q ∈ ic_J2, xIc RJ2 q := fun _ h => absurd h List.not_mem_nil
theorem tsx_J2 : ∀ q ∈ sx_J2, xSx RJ2 q := fun _ h => absurd h List.not_mem_nil
theorem tlc_J2 : ∀ q ∈ lc_J2, Cond.constantLong RJ2 q.1 q.2 ∈ lw_all := fun _ h => absurd h List.not_mem_nil
def fp_J2 : List (Nat × Nat × Nat) := []
theorem tbp_J2 : xTb RJ2 fl_J2 fp_J2 ct_J2 ic_J2 sx_J2 lc_J2 false := ⟨tfl_J2, fun _ h => absurd h List.not_mem_nil, tct_J2, tic_J2, tsx_J2, tlc_J2⟩
def fi_J2 : List (Nat × Nat × Nat) := []
theorem tbi_J2 : xTb RJ2 fl_J2 fi_J2 ct_J2 ic_J2 sx_J2 lc_J2 true := ⟨tfl_J2, fun _ h => absurd h List.not_mem_nil, tct_J2, tic_J2, tsx_J2, tlc_J2⟩
def fl_J6 : List (Nat × Nat × Nat) := [(15, 17, 1), (9, 17, 0), (19, 17, 2), (23, 17, 3)]
def ct_J6 : List (Nat × Nat) := [(10, 18)]
def ic_J6 : List (Nat × Value) := []
def sx_J6 : List (Nat × Value) := [(38, .int 1), (1053, .ref 251)]
def lc_J6 : List (Nat × Int64) := []
theorem tfl_J6 : ∀ q ∈ fl_J6, ∃ (x : vw_C) (ref : String), xCl[q.2.1]? = some x ∧ q.2.2 < x.2.2 ∧ (Cond.fieldLink RJ6 q.1 ref (x.2.1 q.2.2).2.1 (x.2.1 q.2.2).2.2.1 ∈ lw_all ∨ ∃ host, Cond.fieldLinkNest RJ6 q.1 ref (x.2.1 q.2.2).2.1 (x.2.1 q.2.2).2.2.1 host ∈ xNs) ∧ ((x.2.1 q.2.2).1 = ref ∨ Cond.sameField ref (x.2.1 q.2.2).1 (x.2.1 q.2.2).2.1 (x.2.1 q.2.2).2.2.1 ∈ lw_all) := List.forall_mem_cons.mpr ⟨⟨(RJ6, TJ6, 4), "java/lang/String", rfl, by decide, Or.inl q655, Or.inl rfl⟩, List.forall_mem_cons.mpr ⟨⟨(RJ6, TJ6, 4), "java/lang/String", rfl, by decide, Or.inl q654, Or.inl rfl⟩, List.forall_mem_cons.mpr ⟨⟨(RJ6, TJ6, 4), "java/lang/String", rfl, by decide, Or.inl q656, Or.inl rfl⟩, List.forall_mem_cons.mpr ⟨⟨(RJ6, TJ6, 4), "java/lang/String", rfl, by decide, Or.inl q657, Or.inl rfl⟩, fun _ h => absurd h List.not_mem_nil⟩⟩⟩⟩
theorem tct_J6 : ∀ q ∈ ct_J6, xCt RJ6 q.1 q.2 := List.forall_mem_cons.mpr ⟨Or.inl ⟨(RJ6, TJ6, 4), 17, "java/lang/String", rfl, by decide, rfl, q593, Or.inl rfl⟩, fun _ h => absurd h List.not_mem_nil⟩
theorem tic_J6 : ∀ q ∈ ic_J6, xIc RJ6 q := fun _ h => absurd h List.not_mem_nil
theorem tsx_J6 : ∀ q ∈ sx_J6, xSx RJ6 q := List.forall_mem_cons.mpr ⟨⟨"java/lang/String", "COMPACT_STRINGS", "Z", Or.inl (by decide +kernel), Or.inl q603⟩, List.forall_mem_cons.mpr ⟨⟨"jdk/internal/util/Preconditions", "SIOOBE_FORMATTER", "Ljava/util/function/BiFunction;", Or.inr (by decide +kernel), Or.inl q645⟩, fun _ h => absurd h List.not_mem_nil⟩⟩
theorem tlc_J6 : ∀ q ∈ lc_J6, Cond.constantLong RJ6 q.1 q.2 ∈ lw_all := fun _ h => absurd h List.not_mem_nil
def fp_J6 : List (Nat × Nat × Nat) := [(23, 17, 3), (19, 17, 2)]
theorem tbp_J6 : xTb RJ6 fl_J6 fp_J6 ct_J6 ic_J6 sx_J6 lc_J6 false := ⟨tfl_J6, List.forall_mem_cons.mpr ⟨⟨by decide, (RJ6, TJ6, 4), rfl, Or.inl rfl⟩, List.forall_mem_cons.mpr ⟨⟨by decide, (RJ6, TJ6, 4), rfl, Or.inl rfl⟩, fun _ h => absurd h List.not_mem_nil⟩⟩, tct_J6, tic_J6, tsx_J6, tlc_J6⟩
def fi_J6 : List (Nat × Nat × Nat) := [(23, 17, 3), (19, 17, 2)]
theorem tbi_J6 : xTb RJ6 fl_J6 fi_J6 ct_J6 ic_J6 sx_J6 lc_J6 true := ⟨tfl_J6, List.forall_mem_cons.mpr ⟨⟨by decide, (RJ6, TJ6, 4), rfl, Or.inl rfl⟩, List.forall_mem_cons.mpr ⟨⟨by decide, (RJ6, TJ6, 4), rfl, Or.inl rfl⟩, fun _ h => absurd h List.not_mem_nil⟩⟩, tct_J6, tic_J6, tsx_J6, tlc_J6⟩
def fl_J7 : List (Nat × Nat × Nat) := []
def ct_J7 : List (Nat × Nat) := []
def ic_J7 : List (Nat × Value) := []
def sx_J7 : List (Nat × Value) := []
def lc_J7 : List (Nat × Int64) := []
theorem tfl_J7 : ∀ q ∈ fl_J7, ∃ (x : vw_C) (ref : String), xCl[q.2.1]? = some x ∧ q.2.2 < x.2.2 ∧ (Cond.fieldLink RJ7 q.1 ref (x.2.1 q.2.2).2.1 (x.2.1 q.2.2).2.2.1 ∈ lw_all ∨ ∃ host, Cond.fieldLinkNest RJ7 q.1 ref (x.2.1 q.2.2).2.1 (x.2.1 q.2.2).2.2.1 host ∈ xNs) ∧ ((x.2.1 q.2.2).1 = ref ∨ Cond.sameField ref (x.2.1 q.2.2).1 (x.2.1 q.2.2).2.1 (x.2.1 q.2.2).2.2.1 ∈ lw_all) := fun _ h => absurd h List.not_mem_nil
theorem tct_J7 : ∀ q ∈ ct_J7, xCt RJ7 q.1 q.2 := fun _ h => absurd h List.not_mem_nil
theorem tic_J7 : ∀ q ∈ ic_J7, xIc RJ7 q := fun _ h => absurd h List.not_mem_nil
theorem tsx_J7 : ∀ q ∈ sx_J7, xSx RJ7 q := fun _ h => absurd h List.not_mem_nil
theorem tlc_J7 : ∀ q ∈ lc_J7, Cond.constantLong RJ7 q.1 q.2 ∈ lw_all := fun _ h => absurd h List.not_mem_nil
def fp_J7 : List (Nat × Nat × Nat) := []
theorem tbp_J7 : xTb RJ7 fl_J7 fp_J7 ct_J7 ic_J7 sx_J7 lc_J7 false := ⟨tfl_J7, fun _ h => absurd h List.not_mem_nil, tct_J7, tic_J7, tsx_J7, tlc_J7⟩
def fl_J8 : List (Nat × Nat × Nat) := []
def ct_J8 : List (Nat × Nat) := []
def ic_J8 : List (Nat × Value) := []
def sx_J8 : List (Nat × Value) := []
def lc_J8 : List (Nat × Int64) := []
theorem tfl_J8 : ∀ q ∈ fl_J8, ∃ (x : vw_C) (ref : String), xCl[q.2.1]? = some x ∧ q.2.2 < x.2.2 ∧ (Cond.fieldLink RJ8 q.1 ref (x.2.1 q.2.2).2.1 (x.2.1 q.2.2).2.2.1 ∈ lw_all ∨ ∃ host, Cond.fieldLinkNest RJ8 q.1 ref (x.2.1 q.2.2).2.1 (x.2.1 q.2.2).2.2.1 host ∈ xNs) ∧ ((x.2.1 q.2.2).1 = ref ∨ Cond.sameField ref (x.2.1 q.2.2).1 (x.2.1 q.2.2).2.1 (x.2.1 q.2.2).2.2.1 ∈ lw_all) := fun _ h => absurd h List.not_mem_nil
theorem tct_J8 : ∀ q ∈ ct_J8, xCt RJ8 q.1 q.2 := fun _ h => absurd h List.not_mem_nil
theorem tic_J8 : ∀ q ∈ ic_J8, xIc RJ8 q := fun _ h => absurd h List.not_mem_nil
theorem tsx_J8 : ∀ q ∈ sx_J8, xSx RJ8 q := fun _ h => absurd h List.not_mem_nil
theorem tlc_J8 : ∀ q ∈ lc_J8, Cond.constantLong RJ8 q.1 q.2 ∈ lw_all := fun _ h => absurd h List.not_mem_nil
def fp_J8 : List (Nat × Nat × Nat) := []
theorem tbp_J8 : xTb RJ8 fl_J8 fp_J8 ct_J8 ic_J8 sx_J8 lc_J8 false := ⟨tfl_J8, fun _ h => absurd h List.not_mem_nil, tct_J8, tic_J8, tsx_J8, tlc_J8⟩
def fl_J9 : List (Nat × Nat × Nat) := []
def ct_J9 : List (Nat × Nat) := []
def ic_J9 : List (Nat × Value) := []
def sx_J9 : List (Nat × Value) := []
def lc_J9 : List (Nat × Int64) := []
theorem tfl_J9 : ∀ q ∈ fl_J9, ∃ (x : vw_C) (ref : String), xCl[q.2.1]? = some x ∧ q.2.2 < x.2.2 ∧ (Cond.fieldLink RJ9 q.1 ref (x.2.1 q.2.2).2.1 (x.2.1 q.2.2).2.2.1 ∈ lw_all ∨ ∃ host, Cond.fieldLinkNest RJ9 q.1 ref (x.2.1 q.2.2).2.1 (x.2.1 q.2.2).2.2.1 host ∈ xNs) ∧ ((x.2.1 q.2.2).1 = ref ∨ Cond.sameField ref (x.2.1 q.2.2).1 (x.2.1 q.2.2).2.1 (x.2.1 q.2.2).2.2.1 ∈ lw_all) := fun _ h => absurd h List.not_mem_nil
theorem tct_J9 : ∀ q ∈ ct_J9, xCt RJ9 q.1 q.2 := fun _ h => absurd h List.not_mem_nil
theorem tic_J9 : ∀ q ∈ ic_J9, xIc RJ9 q := fun _ h => absurd h List.not_mem_nil
theorem tsx_J9 : ∀ q ∈ sx_J9, xSx RJ9 q := fun _ h => absurd h List.not_mem_nil
theorem tlc_J9 : ∀ q ∈ lc_J9, Cond.constantLong RJ9 q.1 q.2 ∈ lw_all := fun _ h => absurd h List.not_mem_nil
def fp_J9 : List (Nat × Nat × Nat) := []
theorem tbp_J9 : xTb RJ9 fl_J9 fp_J9 ct_J9 ic_J9 sx_J9 lc_J9 false := ⟨tfl_J9, fun _ h => absurd h List.not_mem_nil, tct_J9, tic_J9, tsx_J9, tlc_J9⟩
def fl_X0 : List (Nat × Nat × Nat) := [(103, 0, 2), (35, 0, 1), (31, 0, 0), (110, 0, 3), (39, 0, 4), (157, 1, 0), (160, 1, 1), (148, 1, 4), (163, 1, 5), (62, 0, 7), (166, 5, 0), (178, 5, 1), (136, 0, 10), (201, 6, 1), (204, 6, 2), (207, 5, 2), (210, 5, 7), (227, 5, 3), (230, 1, 9), (241, 5, 8), (66, 0, 8), (247, 5, 10), (70, 0, 9), (268, 5, 9), (74, 0, 11), (77, 0, 12), (80, 0, 13), (87, 0, 15), (84, 0, 14), (322, 0, 19), (319, 0, 18), (90, 0, 16), (93, 0, 17), (96, 0, 20), (357, 0, 22), (100, 0, 21)]
def ct_X0 : List (Nat × Nat) := []
def ic_X0 : List (Nat × Value) := [(301, .int (-1000000000))]
def sx_X0 : List (Nat × Value) := []
def lc_X0 : List (Nat × Int64) := [(3, -1000000), (5, 1000000), (271, -1), (343, 1103515245), (345, 12345), (347, 2147483648), (349, 64)]
theorem tfl_X0 : ∀ q ∈ fl_X0, ∃ (x : vw_C) (ref : String), xCl[q.2.1]? = some x ∧ q.2.2 < x.2.2 ∧ (Cond.fieldLink RX0 q.1 ref (x.2.1 q.2.2).2.1 (x.2.1 q.2.2).2.2.1 ∈ lw_all ∨ ∃ host, Cond.fieldLinkNest RX0 q.1 ref (x.2.1 q.2.2).2.1 (x.2.1 q.2.2).2.2.1 host ∈ xNs) ∧ ((x.2.1 q.2.2).1 = ref ∨ Cond.sameField ref (x.2.1 q.2.2).1 (x.2.1 q.2.2).2.1 (x.2.1 q.2.2).2.2.1 ∈ lw_all) := List.forall_mem_cons.mpr ⟨⟨(RX0, TX0, 23), "BorderStones", rfl, by decide, Or.inl q464, Or.inl rfl⟩, List.forall_mem_cons.mpr ⟨⟨(RX0, TX0, 23), "BorderStones", rfl, by decide, Or.inl q463, Or.inl rfl⟩, List.forall_mem_cons.mpr ⟨⟨(RX0, TX0, 23), "BorderStones", rfl, by decide, Or.inl q461, Or.inl rfl⟩, List.forall_mem_cons.mpr ⟨⟨(RX0, TX0, 23), "BorderStones", rfl, by decide, Or.inl q465, Or.inl rfl⟩, List.forall_mem_cons.mpr ⟨⟨(RX0, TX0, 23), "BorderStones", rfl, by decide, Or.inl q466, Or.inl rfl⟩, List.forall_mem_cons.mpr ⟨⟨(RX1, TX1, 13), "BorderStones$Border", rfl, by decide, Or.inr ⟨"BorderStones", xNs_in q229 rfl⟩, Or.inl rfl⟩, List.forall_mem_cons.mpr ⟨⟨(RX1, TX1, 13), "BorderStones$Border", rfl, by decide, Or.inr ⟨"BorderStones", xNs_in q232 rfl⟩, Or.inl rfl⟩, List.forall_mem_cons.mpr ⟨⟨(RX1, TX1, 13), "BorderStones$Border", rfl, by decide, Or.inr ⟨"BorderStones", xNs_in q238 rfl⟩, Or.inl rfl⟩, List.forall_mem_cons.mpr ⟨⟨(RX1, TX1, 13), "BorderStones$Border", rfl, by decide, Or.inr ⟨"BorderStones", xNs_in q241 rfl⟩, Or.inl rfl⟩, List.forall_mem_cons.mpr ⟨⟨(RX0, TX0, 23), "BorderStones", rfl, by decide, Or.inl q469, Or.inl rfl⟩, List.forall_mem_cons.mpr ⟨⟨(RX5, TX5, 14), "BorderStones$State", rfl, by decide, Or.inr ⟨"BorderStones", xNs_in q409 rfl⟩, Or.inl rfl⟩, List.forall_mem_cons.mpr ⟨⟨(RX5, TX5, 14), "BorderStones$State", rfl, by decide, Or.inr ⟨"BorderStones", xNs_in q411 rfl⟩, Or.inl rfl⟩, List.forall_mem_cons.mpr ⟨⟨(RX0, TX0, 23), "BorderStones", rfl, by decide, Or.inl q472, Or.inl rfl⟩, List.forall_mem_cons.mpr ⟨⟨(RX7, TX7, 3), "BorderStones$Kind", rfl, by decide, Or.inr ⟨"BorderStones", xNs_in q829 rfl⟩, Or.inl rfl⟩, List.forall_mem_cons.mpr ⟨⟨(RX7, TX7, 3), "BorderStones$Kind", rfl, by decide, Or.inr ⟨"BorderStones", xNs_in q832 rfl⟩, Or.inl rfl⟩, List.forall_mem_cons.mpr ⟨⟨(RX5, TX5, 14), "BorderStones$State", rfl, by decide, Or.inr ⟨"BorderStones", xNs_in q413 rfl⟩, Or.inl rfl⟩, List.forall_mem_cons.mpr ⟨⟨(RX5, TX5, 14), "BorderStones$State", rfl, by decide, Or.inr ⟨"BorderStones", xNs_in q420 rfl⟩, Or.inl rfl⟩, List.forall_mem_cons.mpr ⟨⟨(RX5, TX5, 14), "BorderStones$State", rfl, by decide, Or.inr ⟨"BorderStones", xNs_in q415 rfl⟩, Or.inl rfl⟩, List.forall_mem_cons.mpr ⟨⟨(RX1, TX1, 13), "BorderStones$Border", rfl, by decide, Or.inr ⟨"BorderStones", xNs_in q253 rfl⟩, Or.inl rfl⟩, List.forall_mem_cons.mpr ⟨⟨(RX5, TX5, 14), "BorderStones$State", rfl, by decide, Or.inr ⟨"BorderStones", xNs_in q422 rfl⟩, Or.inl rfl⟩, List.forall_mem_cons.mpr ⟨⟨(RX0, TX0, 23), "BorderStones", rfl, by decide, Or.inl q470, Or.inl rfl⟩, List.forall_mem_cons.mpr ⟨⟨(RX5, TX5, 14), "BorderStones$State", rfl, by decide, Or.inr ⟨"BorderStones", xNs_in q426 rfl⟩, Or.inl rfl⟩, List.forall_mem_cons.mpr ⟨⟨(RX0, TX0, 23), "BorderStones", rfl, by decide, Or.inl q471, Or.inl rfl⟩, List.forall_mem_cons.mpr ⟨⟨(RX5, TX5, 14), "BorderStones$State", rfl, by decide, Or.inr ⟨"BorderStones", xNs_in q424 rfl⟩, Or.inl rfl⟩, List.forall_mem_cons.mpr ⟨⟨(RX0, TX0, 23), "BorderStones", rfl, by decide, Or.inl q473, Or.inl rfl⟩, List.forall_mem_cons.mpr ⟨⟨(RX0, TX0, 23), "BorderStones", rfl, by decide, Or.inl q474, Or.inl rfl⟩, List.forall_mem_cons.mpr ⟨⟨(RX0, TX0, 23), "BorderStones", rfl, by decide, Or.inl q475, Or.inl rfl⟩, List.forall_mem_cons.mpr ⟨⟨(RX0, TX0, 23), "BorderStones", rfl, by decide, Or.inl q477, Or.inl rfl⟩, List.forall_mem_cons.mpr ⟨⟨(RX0, TX0, 23), "BorderStones", rfl, by decide, Or.inl q476, Or.inl rfl⟩, List.forall_mem_cons.mpr ⟨⟨(RX0, TX0, 23), "BorderStones", rfl, by decide, Or.inl q481, Or.inl rfl⟩, List.forall_mem_cons.mpr ⟨⟨(RX0, TX0, 23), "BorderStones", rfl, by decide, Or.inl q480, Or.inl rfl⟩, List.forall_mem_cons.mpr ⟨⟨(RX0, TX0, 23), "BorderStones", rfl, by decide, Or.inl q478, Or.inl rfl⟩, List.forall_mem_cons.mpr ⟨⟨(RX0, TX0, 23), "BorderStones", rfl, by decide, Or.inl q479, Or.inl rfl⟩, List.forall_mem_cons.mpr ⟨⟨(RX0, TX0, 23), "BorderStones", rfl, by decide, Or.inl q482, Or.inl rfl⟩, List.forall_mem_cons.mpr ⟨⟨(RX0, TX0, 23), "BorderStones", rfl, by decide, Or.inl q484, Or.inl rfl⟩, List.forall_mem_cons.mpr ⟨⟨(RX0, TX0, 23), "BorderStones", rfl, by decide, Or.inl q483, Or.inl rfl⟩, fun _ h => absurd h List.not_mem_nil⟩⟩⟩⟩⟩⟩⟩⟩⟩⟩⟩⟩⟩⟩⟩⟩⟩⟩⟩⟩⟩⟩⟩⟩⟩⟩⟩⟩⟩⟩⟩⟩⟩⟩⟩⟩
theorem tct_X0 : ∀ q ∈ ct_X0, xCt RX0 q.1 q.2 := fun _ h => absurd h List.not_mem_nil
theorem tic_X0 : ∀ q ∈ ic_X0, xIc RX0 q := List.forall_mem_cons.mpr ⟨q1496, fun _ h => absurd h List.not_mem_nil⟩
theorem tsx_X0 : ∀ q ∈ sx_X0, xSx RX0 q := fun _ h => absurd h List.not_mem_nil
theorem tlc_X0 : ∀ q ∈ lc_X0, Cond.constantLong RX0 q.1 q.2 ∈ lw_all := List.forall_mem_cons.mpr ⟨q1270, List.forall_mem_cons.mpr ⟨q1271, List.forall_mem_cons.mpr ⟨q1477, List.forall_mem_cons.mpr ⟨q1579, List.forall_mem_cons.mpr ⟨q1580, List.forall_mem_cons.mpr ⟨q1581, List.forall_mem_cons.mpr ⟨q1582, fun _ h => absurd h List.not_mem_nil⟩⟩⟩⟩⟩⟩⟩
def fp_X0 : List (Nat × Nat × Nat) := [(103, 0, 2), (136, 0, 10), (166, 5, 0), (178, 5, 1), (319, 0, 18), (322, 0, 19), (96, 0, 20), (357, 0, 22)]
theorem tbp_X0 : xTb RX0 fl_X0 fp_X0 ct_X0 ic_X0 sx_X0 lc_X0 false := ⟨tfl_X0, List.forall_mem_cons.mpr ⟨⟨by decide, (RX0, TX0, 23), rfl, Or.inl rfl⟩, List.forall_mem_cons.mpr ⟨⟨by decide, (RX0, TX0, 23), rfl, Or.inl rfl⟩, List.forall_mem_cons.mpr ⟨⟨by decide, (RX5, TX5, 14), rfl, Or.inl rfl⟩, List.forall_mem_cons.mpr ⟨⟨by decide, (RX5, TX5, 14), rfl, Or.inl rfl⟩, List.forall_mem_cons.mpr ⟨⟨by decide, (RX0, TX0, 23), rfl, Or.inl rfl⟩, List.forall_mem_cons.mpr ⟨⟨by decide, (RX0, TX0, 23), rfl, Or.inl rfl⟩, List.forall_mem_cons.mpr ⟨⟨by decide, (RX0, TX0, 23), rfl, Or.inl rfl⟩, List.forall_mem_cons.mpr ⟨⟨by decide, (RX0, TX0, 23), rfl, Or.inl rfl⟩, fun _ h => absurd h List.not_mem_nil⟩⟩⟩⟩⟩⟩⟩⟩, tct_X0, tic_X0, tsx_X0, tlc_X0⟩
def fi_X0 : List (Nat × Nat × Nat) := [(103, 0, 2), (136, 0, 10), (166, 5, 0), (178, 5, 1), (319, 0, 18), (322, 0, 19), (96, 0, 20), (357, 0, 22)]
theorem tbi_X0 : xTb RX0 fl_X0 fi_X0 ct_X0 ic_X0 sx_X0 lc_X0 true := ⟨tfl_X0, List.forall_mem_cons.mpr ⟨⟨by decide, (RX0, TX0, 23), rfl, Or.inl rfl⟩, List.forall_mem_cons.mpr ⟨⟨by decide, (RX0, TX0, 23), rfl, Or.inl rfl⟩, List.forall_mem_cons.mpr ⟨⟨by decide, (RX5, TX5, 14), rfl, Or.inl rfl⟩, List.forall_mem_cons.mpr ⟨⟨by decide, (RX5, TX5, 14), rfl, Or.inl rfl⟩, List.forall_mem_cons.mpr ⟨⟨by decide, (RX0, TX0, 23), rfl, Or.inl rfl⟩, List.forall_mem_cons.mpr ⟨⟨by decide, (RX0, TX0, 23), rfl, Or.inl rfl⟩, List.forall_mem_cons.mpr ⟨⟨by decide, (RX0, TX0, 23), rfl, Or.inl rfl⟩, List.forall_mem_cons.mpr ⟨⟨by decide, (RX0, TX0, 23), rfl, Or.inl rfl⟩, fun _ h => absurd h List.not_mem_nil⟩⟩⟩⟩⟩⟩⟩⟩, tct_X0, tic_X0, tsx_X0, tlc_X0⟩
def fl_X1 : List (Nat × Nat × Nat) := [(46, 1, 0), (50, 1, 1), (14, 1, 4), (78, 1, 12), (82, 4, 0), (33, 1, 9), (20, 1, 5), (104, 11, 1), (116, 11, 0), (38, 1, 10), (43, 1, 11)]
def ct_X1 : List (Nat × Nat) := [(59, 7), (102, 12)]
def ic_X1 : List (Nat × Value) := []
def sx_X1 : List (Nat × Value) := []
def lc_X1 : List (Nat × Int64) := [(135, -1), (114, 99)]
theorem tfl_X1 : ∀ q ∈ fl_X1, ∃ (x : vw_C) (ref : String), xCl[q.2.1]? = some x ∧ q.2.2 < x.2.2 ∧ (Cond.fieldLink RX1 q.1 ref (x.2.1 q.2.2).2.1 (x.2.1 q.2.2).2.2.1 ∈ lw_all ∨ ∃ host, Cond.fieldLinkNest RX1 q.1 ref (x.2.1 q.2.2).2.1 (x.2.1 q.2.2).2.2.1 host ∈ xNs) ∧ ((x.2.1 q.2.2).1 = ref ∨ Cond.sameField ref (x.2.1 q.2.2).1 (x.2.1 q.2.2).2.1 (x.2.1 q.2.2).2.2.1 ∈ lw_all) := List.forall_mem_cons.mpr ⟨⟨(RX1, TX1, 13), "BorderStones$Border", rfl, by decide, Or.inl q227, Or.inl rfl⟩, List.forall_mem_cons.mpr ⟨⟨(RX1, TX1, 13), "BorderStones$Border", rfl, by decide, Or.inl q230, Or.inl rfl⟩, List.forall_mem_cons.mpr ⟨⟨(RX1, TX1, 13), "BorderStones$Border", rfl, by decide, Or.inl q236, Or.inl rfl⟩, List.forall_mem_cons.mpr ⟨⟨(RX1, TX1, 13), "BorderStones$Border", rfl, by decide, Or.inl q258, Or.inl rfl⟩, List.forall_mem_cons.mpr ⟨⟨(RX4, TX4, 1), "BorderStones$Moment", rfl, by decide, Or.inr ⟨"BorderStones", xNs_in q398 rfl⟩, Or.inl rfl⟩, List.forall_mem_cons.mpr ⟨⟨(RX1, TX1, 13), "BorderStones$Border", rfl, by decide, Or.inl q251, Or.inl rfl⟩, List.forall_mem_cons.mpr ⟨⟨(RX1, TX1, 13), "BorderStones$Border", rfl, by decide, Or.inl q239, Or.inl rfl⟩, List.forall_mem_cons.mpr ⟨⟨(RX13, TX13, 2), "BorderStones$Rule", rfl, by decide, Or.inr ⟨"BorderStones", xNs_in q1180 rfl⟩, Or.inl rfl⟩, List.forall_mem_cons.mpr ⟨⟨(RX13, TX13, 2), "BorderStones$Rule", rfl, by decide, Or.inr ⟨"BorderStones", xNs_in q1178 rfl⟩, Or.inl rfl⟩, List.forall_mem_cons.mpr ⟨⟨(RX1, TX1, 13), "BorderStones$Border", rfl, by decide, Or.inl q254, Or.inl rfl⟩, List.forall_mem_cons.mpr ⟨⟨(RX1, TX1, 13), "BorderStones$Border", rfl, by decide, Or.inl q256, Or.inl rfl⟩, fun _ h => absurd h List.not_mem_nil⟩⟩⟩⟩⟩⟩⟩⟩⟩⟩⟩
theorem tct_X1 : ∀ q ∈ ct_X1, xCt RX1 q.1 q.2 := List.forall_mem_cons.mpr ⟨Or.inl ⟨(RX7, TX7, 3), 6, "BorderStones$Kind", rfl, by decide, rfl, q813, Or.inl rfl⟩, List.forall_mem_cons.mpr ⟨Or.inl ⟨(RX13, TX13, 2), 11, "BorderStones$Rule", rfl, by decide, rfl, q1210, Or.inl rfl⟩, fun _ h => absurd h List.not_mem_nil⟩⟩
theorem tic_X1 : ∀ q ∈ ic_X1, xIc RX1 q := fun _ h => absurd h List.not_mem_nil
theorem tsx_X1 : ∀ q ∈ sx_X1, xSx RX1 q := fun _ h => absurd h List.not_mem_nil
theorem tlc_X1 : ∀ q ∈ lc_X1, Cond.constantLong RX1 q.1 q.2 ∈ lw_all := List.forall_mem_cons.mpr ⟨q1417, List.forall_mem_cons.mpr ⟨q1282, fun _ h => absurd h List.not_mem_nil⟩⟩
def fp_X1 : List (Nat × Nat × Nat) := [(78, 1, 12)]
theorem tbp_X1 : xTb RX1 fl_X1 fp_X1 ct_X1 ic_X1 sx_X1 lc_X1 false := ⟨tfl_X1, List.forall_mem_cons.mpr ⟨⟨by decide, (RX1, TX1, 13), rfl, Or.inl rfl⟩, fun _ h => absurd h List.not_mem_nil⟩, tct_X1, tic_X1, tsx_X1, tlc_X1⟩
def fi_X1 : List (Nat × Nat × Nat) := [(78, 1, 12)]
theorem tbi_X1 : xTb RX1 fl_X1 fi_X1 ct_X1 ic_X1 sx_X1 lc_X1 true := ⟨tfl_X1, List.forall_mem_cons.mpr ⟨⟨by decide, (RX1, TX1, 13), rfl, Or.inl rfl⟩, fun _ h => absurd h List.not_mem_nil⟩, tct_X1, tic_X1, tsx_X1, tlc_X1⟩
def fl_X10 : List (Nat × Nat × Nat) := [(13, 8, 1), (17, 8, 2), (7, 8, 0)]
def ct_X10 : List (Nat × Nat) := []
def ic_X10 : List (Nat × Value) := []
def sx_X10 : List (Nat × Value) := []
def lc_X10 : List (Nat × Int64) := []
theorem tfl_X10 : ∀ q ∈ fl_X10, ∃ (x : vw_C) (ref : String), xCl[q.2.1]? = some x ∧ q.2.2 < x.2.2 ∧ (Cond.fieldLink RX10 q.1 ref (x.2.1 q.2.2).2.1 (x.2.1 q.2.2).2.2.1 ∈ lw_all ∨ ∃ host, Cond.fieldLinkNest RX10 q.1 ref (x.2.1 q.2.2).2.1 (x.2.1 q.2.2).2.2.1 host ∈ xNs) ∧ ((x.2.1 q.2.2).1 = ref ∨ Cond.sameField ref (x.2.1 q.2.2).1 (x.2.1 q.2.2).2.1 (x.2.1 q.2.2).2.2.1 ∈ lw_all) := List.forall_mem_cons.mpr ⟨⟨(RX10, TX10, 3), "BorderStones$Pair", rfl, by decide, Or.inl q1000, Or.inl rfl⟩, List.forall_mem_cons.mpr ⟨⟨(RX10, TX10, 3), "BorderStones$Pair", rfl, by decide, Or.inl q1001, Or.inl rfl⟩, List.forall_mem_cons.mpr ⟨⟨(RX10, TX10, 3), "BorderStones$Pair", rfl, by decide, Or.inl q999, Or.inl rfl⟩, fun _ h => absurd h List.not_mem_nil⟩⟩⟩
theorem tct_X10 : ∀ q ∈ ct_X10, xCt RX10 q.1 q.2 := fun _ h => absurd h List.not_mem_nil
theorem tic_X10 : ∀ q ∈ ic_X10, xIc RX10 q := fun _ h => absurd h List.not_mem_nil
theorem tsx_X10 : ∀ q ∈ sx_X10, xSx RX10 q := fun _ h => absurd h List.not_mem_nil
theorem tlc_X10 : ∀ q ∈ lc_X10, Cond.constantLong RX10 q.1 q.2 ∈ lw_all := fun _ h => absurd h List.not_mem_nil
def fp_X10 : List (Nat × Nat × Nat) := []
theorem tbp_X10 : xTb RX10 fl_X10 fp_X10 ct_X10 ic_X10 sx_X10 lc_X10 false := ⟨tfl_X10, fun _ h => absurd h List.not_mem_nil, tct_X10, tic_X10, tsx_X10, tlc_X10⟩
def fi_X10 : List (Nat × Nat × Nat) := []
theorem tbi_X10 : xTb RX10 fl_X10 fi_X10 ct_X10 ic_X10 sx_X10 lc_X10 true := ⟨tfl_X10, fun _ h => absurd h List.not_mem_nil, tct_X10, tic_X10, tsx_X10, tlc_X10⟩
def fl_X11 : List (Nat × Nat × Nat) := [(7, 9, 0)]
def ct_X11 : List (Nat × Nat) := []
def ic_X11 : List (Nat × Value) := []
def sx_X11 : List (Nat × Value) := []
def lc_X11 : List (Nat × Int64) := []
theorem tfl_X11 : ∀ q ∈ fl_X11, ∃ (x : vw_C) (ref : String), xCl[q.2.1]? = some x ∧ q.2.2 < x.2.2 ∧ (Cond.fieldLink RX11 q.1 ref (x.2.1 q.2.2).2.1 (x.2.1 q.2.2).2.2.1 ∈ lw_all ∨ ∃ host, Cond.fieldLinkNest RX11 q.1 ref (x.2.1 q.2.2).2.1 (x.2.1 q.2.2).2.2.1 host ∈ xNs) ∧ ((x.2.1 q.2.2).1 = ref ∨ Cond.sameField ref (x.2.1 q.2.2).1 (x.2.1 q.2.2).2.1 (x.2.1 q.2.2).2.2.1 ∈ lw_all) := List.forall_mem_cons.mpr ⟨⟨(RX11, TX11, 1), "BorderStones$Fixed", rfl, by decide, Or.inl q1015, Or.inl rfl⟩, fun _ h => absurd h List.not_mem_nil⟩
theorem tct_X11 : ∀ q ∈ ct_X11, xCt RX11 q.1 q.2 := fun _ h => absurd h List.not_mem_nil
theorem tic_X11 : ∀ q ∈ ic_X11, xIc RX11 q := fun _ h => absurd h List.not_mem_nil
theorem tsx_X11 : ∀ q ∈ sx_X11, xSx RX11 q := fun _ h => absurd h List.not_mem_nil
theorem tlc_X11 : ∀ q ∈ lc_X11, Cond.constantLong RX11 q.1 q.2 ∈ lw_all := fun _ h => absurd h List.not_mem_nil
def fp_X11 : List (Nat × Nat × Nat) := []
theorem tbp_X11 : xTb RX11 fl_X11 fp_X11 ct_X11 ic_X11 sx_X11 lc_X11 false := ⟨tfl_X11, fun _ h => absurd h List.not_mem_nil, tct_X11, tic_X11, tsx_X11, tlc_X11⟩
def fi_X11 : List (Nat × Nat × Nat) := []
theorem tbi_X11 : xTb RX11 fl_X11 fi_X11 ct_X11 ic_X11 sx_X11 lc_X11 true := ⟨tfl_X11, fun _ h => absurd h List.not_mem_nil, tct_X11, tic_X11, tsx_X11, tlc_X11⟩
def fl_X12 : List (Nat × Nat × Nat) := [(13, 4, 0), (7, 10, 0)]
def ct_X12 : List (Nat × Nat) := []
def ic_X12 : List (Nat × Value) := []
def sx_X12 : List (Nat × Value) := []
def lc_X12 : List (Nat × Int64) := []
theorem tfl_X12 : ∀ q ∈ fl_X12, ∃ (x : vw_C) (ref : String), xCl[q.2.1]? = some x ∧ q.2.2 < x.2.2 ∧ (Cond.fieldLink RX12 q.1 ref (x.2.1 q.2.2).2.1 (x.2.1 q.2.2).2.2.1 ∈ lw_all ∨ ∃ host, Cond.fieldLinkNest RX12 q.1 ref (x.2.1 q.2.2).2.1 (x.2.1 q.2.2).2.2.1 host ∈ xNs) ∧ ((x.2.1 q.2.2).1 = ref ∨ Cond.sameField ref (x.2.1 q.2.2).1 (x.2.1 q.2.2).2.1 (x.2.1 q.2.2).2.2.1 ∈ lw_all) := List.forall_mem_cons.mpr ⟨⟨(RX4, TX4, 1), "BorderStones$Moment", rfl, by decide, Or.inr ⟨"BorderStones", xNs_in q397 rfl⟩, Or.inl rfl⟩, List.forall_mem_cons.mpr ⟨⟨(RX12, TX12, 1), "BorderStones$Asked", rfl, by decide, Or.inl q1027, Or.inl rfl⟩, fun _ h => absurd h List.not_mem_nil⟩⟩
theorem tct_X12 : ∀ q ∈ ct_X12, xCt RX12 q.1 q.2 := fun _ h => absurd h List.not_mem_nil
theorem tic_X12 : ∀ q ∈ ic_X12, xIc RX12 q := fun _ h => absurd h List.not_mem_nil
theorem tsx_X12 : ∀ q ∈ sx_X12, xSx RX12 q := fun _ h => absurd h List.not_mem_nil
theorem tlc_X12 : ∀ q ∈ lc_X12, Cond.constantLong RX12 q.1 q.2 ∈ lw_all := fun _ h => absurd h List.not_mem_nil
def fp_X12 : List (Nat × Nat × Nat) := []
theorem tbp_X12 : xTb RX12 fl_X12 fp_X12 ct_X12 ic_X12 sx_X12 lc_X12 false := ⟨tfl_X12, fun _ h => absurd h List.not_mem_nil, tct_X12, tic_X12, tsx_X12, tlc_X12⟩
def fi_X12 : List (Nat × Nat × Nat) := []
theorem tbi_X12 : xTb RX12 fl_X12 fi_X12 ct_X12 ic_X12 sx_X12 lc_X12 true := ⟨tfl_X12, fun _ h => absurd h List.not_mem_nil, tct_X12, tic_X12, tsx_X12, tlc_X12⟩
def fl_X15 : List (Nat × Nat × Nat) := [(12, 12, 0), (18, 12, 1)]
def ct_X15 : List (Nat × Nat) := [(2, 13), (2, 14), (2, 15), (2, 16)]
def ic_X15 : List (Nat × Value) := []
def sx_X15 : List (Nat × Value) := []
def lc_X15 : List (Nat × Int64) := []
theorem tfl_X15 : ∀ q ∈ fl_X15, ∃ (x : vw_C) (ref : String), xCl[q.2.1]? = some x ∧ q.2.2 < x.2.2 ∧ (Cond.fieldLink RX15 q.1 ref (x.2.1 q.2.2).2.1 (x.2.1 q.2.2).2.2.1 ∈ lw_all ∨ ∃ host, Cond.fieldLinkNest RX15 q.1 ref (x.2.1 q.2.2).2.1 (x.2.1 q.2.2).2.2.1 host ∈ xNs) ∧ ((x.2.1 q.2.2).1 = ref ∨ Cond.sameField ref (x.2.1 q.2.2).1 (x.2.1 q.2.2).2.1 (x.2.1 q.2.2).2.2.1 ∈ lw_all) := List.forall_mem_cons.mpr ⟨⟨(RX15, TX15, 2), "BorderStones$Facts", rfl, by decide, Or.inl q1116, Or.inl rfl⟩, List.forall_mem_cons.mpr ⟨⟨(RX15, TX15, 2), "BorderStones$Facts", rfl, by decide, Or.inl q1118, Or.inl rfl⟩, fun _ h => absurd h List.not_mem_nil⟩⟩
theorem tct_X15 : ∀ q ∈ ct_X15, xCt RX15 q.1 q.2 := List.forall_mem_cons.mpr ⟨Or.inl ⟨(RX15, TX15, 2), 12, "BorderStones$Test", rfl, by decide, rfl, q1224, Or.inr (xNs_in q2356 rfl)⟩, List.forall_mem_cons.mpr ⟨Or.inl ⟨(RX16, TX16, 1), 13, "BorderStones$Test", rfl, by decide, rfl, q1224, Or.inr (xNs_in q2357 rfl)⟩, List.forall_mem_cons.mpr ⟨Or.inl ⟨(RX17, TX17, 0), 14, "BorderStones$Test", rfl, by decide, rfl, q1224, Or.inr (xNs_in q2355 rfl)⟩, List.forall_mem_cons.mpr ⟨Or.inl ⟨(RX18, TX18, 3), 15, "BorderStones$Test", rfl, by decide, rfl, q1224, Or.inr (xNs_in q2358 rfl)⟩, fun _ h => absurd h List.not_mem_nil⟩⟩⟩⟩
theorem tic_X15 : ∀ q ∈ ic_X15, xIc RX15 q := fun _ h => absurd h List.not_mem_nil
theorem tsx_X15 : ∀ q ∈ sx_X15, xSx RX15 q := fun _ h => absurd h List.not_mem_nil
theorem tlc_X15 : ∀ q ∈ lc_X15, Cond.constantLong RX15 q.1 q.2 ∈ lw_all := fun _ h => absurd h List.not_mem_nil
def fp_X15 : List (Nat × Nat × Nat) := []
theorem tbp_X15 : xTb RX15 fl_X15 fp_X15 ct_X15 ic_X15 sx_X15 lc_X15 false := ⟨tfl_X15, fun _ h => absurd h List.not_mem_nil, tct_X15, tic_X15, tsx_X15, tlc_X15⟩
def fi_X15 : List (Nat × Nat × Nat) := []
theorem tbi_X15 : xTb RX15 fl_X15 fi_X15 ct_X15 ic_X15 sx_X15 lc_X15 true := ⟨tfl_X15, fun _ h => absurd h List.not_mem_nil, tct_X15, tic_X15, tsx_X15, tlc_X15⟩
def fl_X16 : List (Nat × Nat × Nat) := [(7, 13, 0)]
def ct_X16 : List (Nat × Nat) := []
def ic_X16 : List (Nat × Value) := []
def sx_X16 : List (Nat × Value) := []
def lc_X16 : List (Nat × Int64) := []
theorem tfl_X16 : ∀ q ∈ fl_X16, ∃ (x : vw_C) (ref : String), xCl[q.2.1]? = some x ∧ q.2.2 < x.2.2 ∧ (Cond.fieldLink RX16 q.1 ref (x.2.1 q.2.2).2.1 (x.2.1 q.2.2).2.2.1 ∈ lw_all ∨ ∃ host, Cond.fieldLinkNest RX16 q.1 ref (x.2.1 q.2.2).2.1 (x.2.1 q.2.2).2.2.1 host ∈ xNs) ∧ ((x.2.1 q.2.2).1 = ref ∨ Cond.sameField ref (x.2.1 q.2.2).1 (x.2.1 q.2.2).2.1 (x.2.1 q.2.2).2.2.1 ∈ lw_all) := List.forall_mem_cons.mpr ⟨⟨(RX16, TX16, 1), "BorderStones$Not", rfl, by decide, Or.inl q1143, Or.inl rfl⟩, fun _ h => absurd h List.not_mem_nil⟩
theorem tct_X16 : ∀ q ∈ ct_X16, xCt RX16 q.1 q.2 := fun _ h => absurd h List.not_mem_nil
theorem tic_X16 : ∀ q ∈ ic_X16, xIc RX16 q := fun _ h => absurd h List.not_mem_nil
theorem tsx_X16 : ∀ q ∈ sx_X16, xSx RX16 q := fun _ h => absurd h List.not_mem_nil
theorem tlc_X16 : ∀ q ∈ lc_X16, Cond.constantLong RX16 q.1 q.2 ∈ lw_all := fun _ h => absurd h List.not_mem_nil
def fp_X16 : List (Nat × Nat × Nat) := []
theorem tbp_X16 : xTb RX16 fl_X16 fp_X16 ct_X16 ic_X16 sx_X16 lc_X16 false := ⟨tfl_X16, fun _ h => absurd h List.not_mem_nil, tct_X16, tic_X16, tsx_X16, tlc_X16⟩
def fi_X16 : List (Nat × Nat × Nat) := []
theorem tbi_X16 : xTb RX16 fl_X16 fi_X16 ct_X16 ic_X16 sx_X16 lc_X16 true := ⟨tfl_X16, fun _ h => absurd h List.not_mem_nil, tct_X16, tic_X16, tsx_X16, tlc_X16⟩
def fl_X17 : List (Nat × Nat × Nat) := []
def ct_X17 : List (Nat × Nat) := []
def ic_X17 : List (Nat × Value) := []
def sx_X17 : List (Nat × Value) := []
def lc_X17 : List (Nat × Int64) := []
theorem tfl_X17 : ∀ q ∈ fl_X17, ∃ (x : vw_C) (ref : String), xCl[q.2.1]? = some x ∧ q.2.2 < x.2.2 ∧ (Cond.fieldLink RX17 q.1 ref (x.2.1 q.2.2).2.1 (x.2.1 q.2.2).2.2.1 ∈ lw_all ∨ ∃ host, Cond.fieldLinkNest RX17 q.1 ref (x.2.1 q.2.2).2.1 (x.2.1 q.2.2).2.2.1 host ∈ xNs) ∧ ((x.2.1 q.2.2).1 = ref ∨ Cond.sameField ref (x.2.1 q.2.2).1 (x.2.1 q.2.2).2.1 (x.2.1 q.2.2).2.2.1 ∈ lw_all) := fun _ h => absurd h List.not_mem_nil
theorem tct_X17 : ∀ q ∈ ct_X17, xCt RX17 q.1 q.2 := fun _ h => absurd h List.not_mem_nil
theorem tic_X17 : ∀ q ∈ ic_X17, xIc RX17 q := fun _ h => absurd h List.not_mem_nil
theorem tsx_X17 : ∀ q ∈ sx_X17, xSx RX17 q := fun _ h => absurd h List.not_mem_nil
theorem tlc_X17 : ∀ q ∈ lc_X17, Cond.constantLong RX17 q.1 q.2 ∈ lw_all := fun _ h => absurd h List.not_mem_nil
def fp_X17 : List (Nat × Nat × Nat) := []
theorem tbp_X17 : xTb RX17 fl_X17 fp_X17 ct_X17 ic_X17 sx_X17 lc_X17 false := ⟨tfl_X17, fun _ h => absurd h List.not_mem_nil, tct_X17, tic_X17, tsx_X17, tlc_X17⟩
def fi_X17 : List (Nat × Nat × Nat) := []
theorem tbi_X17 : xTb RX17 fl_X17 fi_X17 ct_X17 ic_X17 sx_X17 lc_X17 true := ⟨tfl_X17, fun _ h => absurd h List.not_mem_nil, tct_X17, tic_X17, tsx_X17, tlc_X17⟩
def fl_X18 : List (Nat × Nat × Nat) := [(7, 15, 0), (17, 15, 1), (13, 15, 2)]
def ct_X18 : List (Nat × Nat) := []
def ic_X18 : List (Nat × Value) := []
def sx_X18 : List (Nat × Value) := []
def lc_X18 : List (Nat × Int64) := []
theorem tfl_X18 : ∀ q ∈ fl_X18, ∃ (x : vw_C) (ref : String), xCl[q.2.1]? = some x ∧ q.2.2 < x.2.2 ∧ (Cond.fieldLink RX18 q.1 ref (x.2.1 q.2.2).2.1 (x.2.1 q.2.2).2.2.1 ∈ lw_all ∨ ∃ host, Cond.fieldLinkNest RX18 q.1 ref (x.2.1 q.2.2).2.1 (x.2.1 q.2.2).2.2.1 host ∈ xNs) ∧ ((x.2.1 q.2.2).1 = ref ∨ Cond.sameField ref (x.2.1 q.2.2).1 (x.2.1 q.2.2).2.1 (x.2.1 q.2.2).2.2.1 ∈ lw_all) := List.forall_mem_cons.mpr ⟨⟨(RX18, TX18, 3), "BorderStones$Than", rfl, by decide, Or.inl q1161, Or.inl rfl⟩, List.forall_mem_cons.mpr ⟨⟨(RX18, TX18, 3), "BorderStones$Than", rfl, by decide, Or.inl q1162, Or.inl rfl⟩, List.forall_mem_cons.mpr ⟨⟨(RX18, TX18, 3), "BorderStones$Than", rfl, by decide, Or.inl q1163, Or.inl rfl⟩, fun _ h => absurd h List.not_mem_nil⟩⟩⟩
theorem tct_X18 : ∀ q ∈ ct_X18, xCt RX18 q.1 q.2 := fun _ h => absurd h List.not_mem_nil
theorem tic_X18 : ∀ q ∈ ic_X18, xIc RX18 q := fun _ h => absurd h List.not_mem_nil
theorem tsx_X18 : ∀ q ∈ sx_X18, xSx RX18 q := fun _ h => absurd h List.not_mem_nil
theorem tlc_X18 : ∀ q ∈ lc_X18, Cond.constantLong RX18 q.1 q.2 ∈ lw_all := fun _ h => absurd h List.not_mem_nil
def fp_X18 : List (Nat × Nat × Nat) := []
theorem tbp_X18 : xTb RX18 fl_X18 fp_X18 ct_X18 ic_X18 sx_X18 lc_X18 false := ⟨tfl_X18, fun _ h => absurd h List.not_mem_nil, tct_X18, tic_X18, tsx_X18, tlc_X18⟩
def fi_X18 : List (Nat × Nat × Nat) := []
theorem tbi_X18 : xTb RX18 fl_X18 fi_X18 ct_X18 ic_X18 sx_X18 lc_X18 true := ⟨tfl_X18, fun _ h => absurd h List.not_mem_nil, tct_X18, tic_X18, tsx_X18, tlc_X18⟩
def fl_X5 : List (Nat × Nat × Nat) := [(15, 5, 2), (42, 5, 1), (29, 5, 9), (106, 5, 10), (3, 5, 13), (62, 0, 0), (100, 1, 11), (93, 1, 10), (52, 5, 6), (22, 5, 7), (97, 6, 1), (45, 5, 4), (49, 5, 5), (127, 1, 12), (19, 5, 3), (149, 1, 9), (38, 5, 0), (26, 5, 8), (32, 5, 11), (35, 5, 12), (66, 1, 6), (71, 1, 7), (76, 1, 8)]
def ct_X5 : List (Nat × Nat) := []
def ic_X5 : List (Nat × Value) := []
def sx_X5 : List (Nat × Value) := []
def lc_X5 : List (Nat × Int64) := [(104, -1)]
theorem tfl_X5 : ∀ q ∈ fl_X5, ∃ (x : vw_C) (ref : String), xCl[q.2.1]? = some x ∧ q.2.2 < x.2.2 ∧ (Cond.fieldLink RX5 q.1 ref (x.2.1 q.2.2).2.1 (x.2.1 q.2.2).2.2.1 ∈ lw_all ∨ ∃ host, Cond.fieldLinkNest RX5 q.1 ref (x.2.1 q.2.2).2.1 (x.2.1 q.2.2).2.2.1 host ∈ xNs) ∧ ((x.2.1 q.2.2).1 = ref ∨ Cond.sameField ref (x.2.1 q.2.2).1 (x.2.1 q.2.2).2.1 (x.2.1 q.2.2).2.2.1 ∈ lw_all) := List.forall_mem_cons.mpr ⟨⟨(RX5, TX5, 14), "BorderStones$State", rfl, by decide, Or.inl q412, Or.inl rfl⟩, List.forall_mem_cons.mpr ⟨⟨(RX5, TX5, 14), "BorderStones$State", rfl, by decide, Or.inl q410, Or.inl rfl⟩, List.forall_mem_cons.mpr ⟨⟨(RX5, TX5, 14), "BorderStones$State", rfl, by decide, Or.inl q423, Or.inl rfl⟩, List.forall_mem_cons.mpr ⟨⟨(RX5, TX5, 14), "BorderStones$State", rfl, by decide, Or.inl q425, Or.inl rfl⟩, List.forall_mem_cons.mpr ⟨⟨(RX5, TX5, 14), "BorderStones$State", rfl, by decide, Or.inl q429, Or.inl rfl⟩, List.forall_mem_cons.mpr ⟨⟨(RX0, TX0, 23), "BorderStones", rfl, by decide, Or.inr ⟨"BorderStones", xNs_in q460 rfl⟩, Or.inl rfl⟩, List.forall_mem_cons.mpr ⟨⟨(RX1, TX1, 13), "BorderStones$Border", rfl, by decide, Or.inr ⟨"BorderStones", xNs_in q257 rfl⟩, Or.inl rfl⟩, List.forall_mem_cons.mpr ⟨⟨(RX1, TX1, 13), "BorderStones$Border", rfl, by decide, Or.inr ⟨"BorderStones", xNs_in q255 rfl⟩, Or.inl rfl⟩, List.forall_mem_cons.mpr ⟨⟨(RX5, TX5, 14), "BorderStones$State", rfl, by decide, Or.inl q418, Or.inl rfl⟩, List.forall_mem_cons.mpr ⟨⟨(RX5, TX5, 14), "BorderStones$State", rfl, by decide, Or.inl q419, Or.inl rfl⟩, List.forall_mem_cons.mpr ⟨⟨(RX7, TX7, 3), "BorderStones$Kind", rfl, by decide, Or.inr ⟨"BorderStones", xNs_in q828 rfl⟩, Or.inl rfl⟩, List.forall_mem_cons.mpr ⟨⟨(RX5, TX5, 14), "BorderStones$State", rfl, by decide, Or.inl q416, Or.inl rfl⟩, List.forall_mem_cons.mpr ⟨⟨(RX5, TX5, 14), "BorderStones$State", rfl, by decide, Or.inl q417, Or.inl rfl⟩, List.forall_mem_cons.mpr ⟨⟨(RX1, TX1, 13), "BorderStones$Border", rfl, by decide, Or.inr ⟨"BorderStones", xNs_in q259 rfl⟩, Or.inl rfl⟩, List.forall_mem_cons.mpr ⟨⟨(RX5, TX5, 14), "BorderStones$State", rfl, by decide, Or.inl q414, Or.inl rfl⟩, List.forall_mem_cons.mpr ⟨⟨(RX1, TX1, 13), "BorderStones$Border", rfl, by decide, Or.inr ⟨"BorderStones", xNs_in q252 rfl⟩, Or.inl rfl⟩, List.forall_mem_cons.mpr ⟨⟨(RX5, TX5, 14), "BorderStones$State", rfl, by decide, Or.inl q408, Or.inl rfl⟩, List.forall_mem_cons.mpr ⟨⟨(RX5, TX5, 14), "BorderStones$State", rfl, by decide, Or.inl q421, Or.inl rfl⟩, List.forall_mem_cons.mpr ⟨⟨(RX5, TX5, 14), "BorderStones$State", rfl, by decide, Or.inl q427, Or.inl rfl⟩, List.forall_mem_cons.mpr ⟨⟨(RX5, TX5, 14), "BorderStones$State", rfl, by decide, Or.inl q428, Or.inl rfl⟩, List.forall_mem_cons.mpr ⟨⟨(RX1, TX1, 13), "BorderStones$Border", rfl, by decide, Or.inr ⟨"BorderStones", xNs_in q243 rfl⟩, Or.inl rfl⟩, List.forall_mem_cons.mpr ⟨⟨(RX1, TX1, 13), "BorderStones$Border", rfl, by decide, Or.inr ⟨"BorderStones", xNs_in q246 rfl⟩, Or.inl rfl⟩, List.forall_mem_cons.mpr ⟨⟨(RX1, TX1, 13), "BorderStones$Border", rfl, by decide, Or.inr ⟨"BorderStones", xNs_in q249 rfl⟩, Or.inl rfl⟩, fun _ h => absurd h List.not_mem_nil⟩⟩⟩⟩⟩⟩⟩⟩⟩⟩⟩⟩⟩⟩⟩⟩⟩⟩⟩⟩⟩⟩⟩
theorem tct_X5 : ∀ q ∈ ct_X5, xCt RX5 q.1 q.2 := fun _ h => absurd h List.not_mem_nil
theorem tic_X5 : ∀ q ∈ ic_X5, xIc RX5 q := fun _ h => absurd h List.not_mem_nil
theorem tsx_X5 : ∀ q ∈ sx_X5, xSx RX5 q := fun _ h => absurd h List.not_mem_nil
theorem tlc_X5 : ∀ q ∈ lc_X5, Cond.constantLong RX5 q.1 q.2 ∈ lw_all := List.forall_mem_cons.mpr ⟨q1399, fun _ h => absurd h List.not_mem_nil⟩
def fp_X5 : List (Nat × Nat × Nat) := [(106, 5, 10), (38, 5, 0), (42, 5, 1), (45, 5, 4), (49, 5, 5), (52, 5, 6)]
theorem tbp_X5 : xTb RX5 fl_X5 fp_X5 ct_X5 ic_X5 sx_X5 lc_X5 false := ⟨tfl_X5, List.forall_mem_cons.mpr ⟨⟨by decide, (RX5, TX5, 14), rfl, Or.inl rfl⟩, List.forall_mem_cons.mpr ⟨⟨by decide, (RX5, TX5, 14), rfl, Or.inl rfl⟩, List.forall_mem_cons.mpr ⟨⟨by decide, (RX5, TX5, 14), rfl, Or.inl rfl⟩, List.forall_mem_cons.mpr ⟨⟨by decide, (RX5, TX5, 14), rfl, Or.inl rfl⟩, List.forall_mem_cons.mpr ⟨⟨by decide, (RX5, TX5, 14), rfl, Or.inl rfl⟩, List.forall_mem_cons.mpr ⟨⟨by decide, (RX5, TX5, 14), rfl, Or.inl rfl⟩, fun _ h => absurd h List.not_mem_nil⟩⟩⟩⟩⟩⟩, tct_X5, tic_X5, tsx_X5, tlc_X5⟩
def fi_X5 : List (Nat × Nat × Nat) := [(106, 5, 10), (38, 5, 0), (42, 5, 1), (45, 5, 4), (49, 5, 5), (52, 5, 6)]
theorem tbi_X5 : xTb RX5 fl_X5 fi_X5 ct_X5 ic_X5 sx_X5 lc_X5 true := ⟨tfl_X5, List.forall_mem_cons.mpr ⟨⟨by decide, (RX5, TX5, 14), rfl, Or.inl rfl⟩, List.forall_mem_cons.mpr ⟨⟨by decide, (RX5, TX5, 14), rfl, Or.inl rfl⟩, List.forall_mem_cons.mpr ⟨⟨by decide, (RX5, TX5, 14), rfl, Or.inl rfl⟩, List.forall_mem_cons.mpr ⟨⟨by decide, (RX5, TX5, 14), rfl, Or.inl rfl⟩, List.forall_mem_cons.mpr ⟨⟨by decide, (RX5, TX5, 14), rfl, Or.inl rfl⟩, List.forall_mem_cons.mpr ⟨⟨by decide, (RX5, TX5, 14), rfl, Or.inl rfl⟩, fun _ h => absurd h List.not_mem_nil⟩⟩⟩⟩⟩⟩, tct_X5, tic_X5, tsx_X5, tlc_X5⟩
def fl_X7 : List (Nat × Nat × Nat) := [(7, 6, 0), (27, 6, 2)]
def ct_X7 : List (Nat × Nat) := []
def ic_X7 : List (Nat × Value) := []
def sx_X7 : List (Nat × Value) := []
def lc_X7 : List (Nat × Int64) := []
theorem tfl_X7 : ∀ q ∈ fl_X7, ∃ (x : vw_C) (ref : String), xCl[q.2.1]? = some x ∧ q.2.2 < x.2.2 ∧ (Cond.fieldLink RX7 q.1 ref (x.2.1 q.2.2).2.1 (x.2.1 q.2.2).2.2.1 ∈ lw_all ∨ ∃ host, Cond.fieldLinkNest RX7 q.1 ref (x.2.1 q.2.2).2.1 (x.2.1 q.2.2).2.2.1 host ∈ xNs) ∧ ((x.2.1 q.2.2).1 = ref ∨ Cond.sameField ref (x.2.1 q.2.2).1 (x.2.1 q.2.2).2.1 (x.2.1 q.2.2).2.2.1 ∈ lw_all) := List.forall_mem_cons.mpr ⟨⟨(RX7, TX7, 3), "BorderStones$Kind", rfl, by decide, Or.inl q825, Or.inl rfl⟩, List.forall_mem_cons.mpr ⟨⟨(RX7, TX7, 3), "BorderStones$Kind", rfl, by decide, Or.inl q830, Or.inl rfl⟩, fun _ h => absurd h List.not_mem_nil⟩⟩
theorem tct_X7 : ∀ q ∈ ct_X7, xCt RX7 q.1 q.2 := fun _ h => absurd h List.not_mem_nil
theorem tic_X7 : ∀ q ∈ ic_X7, xIc RX7 q := fun _ h => absurd h List.not_mem_nil
theorem tsx_X7 : ∀ q ∈ sx_X7, xSx RX7 q := fun _ h => absurd h List.not_mem_nil
theorem tlc_X7 : ∀ q ∈ lc_X7, Cond.constantLong RX7 q.1 q.2 ∈ lw_all := fun _ h => absurd h List.not_mem_nil
def fp_X7 : List (Nat × Nat × Nat) := []
theorem tbp_X7 : xTb RX7 fl_X7 fp_X7 ct_X7 ic_X7 sx_X7 lc_X7 false := ⟨tfl_X7, fun _ h => absurd h List.not_mem_nil, tct_X7, tic_X7, tsx_X7, tlc_X7⟩
def fi_X7 : List (Nat × Nat × Nat) := []
theorem tbi_X7 : xTb RX7 fl_X7 fi_X7 ct_X7 ic_X7 sx_X7 lc_X7 true := ⟨tfl_X7, fun _ h => absurd h List.not_mem_nil, tct_X7, tic_X7, tsx_X7, tlc_X7⟩
def fl_X9 : List (Nat × Nat × Nat) := [(12, 7, 0), (21, 7, 1)]
def ct_X9 : List (Nat × Nat) := [(2, 8), (2, 9), (2, 10), (2, 11)]
def ic_X9 : List (Nat × Value) := []
def sx_X9 : List (Nat × Value) := []
def lc_X9 : List (Nat × Int64) := []
theorem tfl_X9 : ∀ q ∈ fl_X9, ∃ (x : vw_C) (ref : String), xCl[q.2.1]? = some x ∧ q.2.2 < x.2.2 ∧ (Cond.fieldLink RX9 q.1 ref (x.2.1 q.2.2).2.1 (x.2.1 q.2.2).2.2.1 ∈ lw_all ∨ ∃ host, Cond.fieldLinkNest RX9 q.1 ref (x.2.1 q.2.2).2.1 (x.2.1 q.2.2).2.2.1 host ∈ xNs) ∧ ((x.2.1 q.2.2).1 = ref ∨ Cond.sameField ref (x.2.1 q.2.2).1 (x.2.1 q.2.2).2.1 (x.2.1 q.2.2).2.2.1 ∈ lw_all) := List.forall_mem_cons.mpr ⟨⟨(RX9, TX9, 2), "BorderStones$Chain", rfl, by decide, Or.inl q970, Or.inl rfl⟩, List.forall_mem_cons.mpr ⟨⟨(RX9, TX9, 2), "BorderStones$Chain", rfl, by decide, Or.inl q971, Or.inl rfl⟩, fun _ h => absurd h List.not_mem_nil⟩⟩
theorem tct_X9 : ∀ q ∈ ct_X9, xCt RX9 q.1 q.2 := List.forall_mem_cons.mpr ⟨Or.inl ⟨(RX9, TX9, 2), 7, "BorderStones$Value", rfl, by decide, rfl, q1242, Or.inr (xNs_in q2360 rfl)⟩, List.forall_mem_cons.mpr ⟨Or.inl ⟨(RX10, TX10, 3), 8, "BorderStones$Value", rfl, by decide, rfl, q1242, Or.inr (xNs_in q2362 rfl)⟩, List.forall_mem_cons.mpr ⟨Or.inl ⟨(RX11, TX11, 1), 9, "BorderStones$Value", rfl, by decide, rfl, q1242, Or.inr (xNs_in q2361 rfl)⟩, List.forall_mem_cons.mpr ⟨Or.inl ⟨(RX12, TX12, 1), 10, "BorderStones$Value", rfl, by decide, rfl, q1242, Or.inr (xNs_in q2359 rfl)⟩, fun _ h => absurd h List.not_mem_nil⟩⟩⟩⟩
theorem tic_X9 : ∀ q ∈ ic_X9, xIc RX9 q := fun _ h => absurd h List.not_mem_nil
theorem tsx_X9 : ∀ q ∈ sx_X9, xSx RX9 q := fun _ h => absurd h List.not_mem_nil
theorem tlc_X9 : ∀ q ∈ lc_X9, Cond.constantLong RX9 q.1 q.2 ∈ lw_all := fun _ h => absurd h List.not_mem_nil
def fp_X9 : List (Nat × Nat × Nat) := []
theorem tbp_X9 : xTb RX9 fl_X9 fp_X9 ct_X9 ic_X9 sx_X9 lc_X9 false := ⟨tfl_X9, fun _ h => absurd h List.not_mem_nil, tct_X9, tic_X9, tsx_X9, tlc_X9⟩
def fi_X9 : List (Nat × Nat × Nat) := []
theorem tbi_X9 : xTb RX9 fl_X9 fi_X9 ct_X9 ic_X9 sx_X9 lc_X9 true := ⟨tfl_X9, fun _ h => absurd h List.not_mem_nil, tct_X9, tic_X9, tsx_X9, tlc_X9⟩
