/-! what is told stands, BorderStonesModel -/
section
variable {Q : Option Value → mw → Prop} {M : mw}
def bdT (wd hg : Nat) (t : TB) : Bd := (wd, hg, (tK t).length, (fun k => ((tK t).getD k ([], 0, 0)).2.1), (fun k => ((tK t).getD k ([], 0, 0)).2.2), (fun p => wrR (tR t) (p % wd) (p / wd) (edW wd hg p)))
def gsT (t : TB) : GS := (tS t, tL t, (fun _ => 0), 0, [])
/-- what stays as it was -/
def pS (k i : Nat) : Prop := k < 35 ∨ (k = 37 ∧ i < 3) ∨ ((k = 39 ∨ k = 40) ∧ i < 5) ∨ (k = 44 ∧ i < 1600) ∨ ((k = 49 ∨ k = 50 ∨ k = 51) ∧ i < 6) ∨ k = 41 ∨ k = 42 ∨ k = 43 ∨ k = 45 ∨ k = 46 ∨ k = 47 ∨ k = 48 ∨ k = 53 ∨ (56 < k ∧ k ≠ 71)
def frS (M M' : mw) : Prop := (∀ k i, pS k i → M'.1 k i = M.1 k i) ∧ ∀ k i, (k ≠ 38 ∨ i < 5) → k ≠ 54 → M'.2 k i = M.2 k i
theorem frS_refl (M : mw) : frS M M := ⟨fun _ _ _ => rfl, fun _ _ _ _ => rfl⟩
theorem frS_trans {M M1 M2 : mw} (h : frS M M1) (g : frS M1 M2) : frS M M2 := ⟨fun k i p => (g.1 k i p).trans (h.1 k i p), fun k i p n => (g.2 k i p n).trans (h.2 k i p n)⟩
theorem frS_up {M M1 : mw} {k i : Nat} {v : Int32} (h : frS M M1) (hn : ¬ pS k i) : frS M (mM_up M1 k i v) := frS_trans h ⟨fun k' i' p => by rw [m_up, if_neg (fun z => hn (by rw [← z.1, ← z.2]; exact p))], fun _ _ _ _ => rfl⟩
theorem frS_upl {M M1 : mw} {i : Nat} {v : Int64} (h : frS M M1) (hn : 5 ≤ i) : frS M (mM_upl M1 38 i v) := frS_trans h ⟨fun _ _ _ => rfl, fun k' i' p n => by rw [m_upl, if_neg (by omega)]⟩
theorem frS_P {M M' : mw} (h : frQ M M') : frS M M' := ⟨fun k i p => by rw [h.2 k (by unfold pS at p; omega)], fun k i _ n => by rw [h.1 k n]⟩
/-- what stands already, step by step -/
def ST (wd hg : Nat) (t : TB) (n : Nat) (M : mw) : Prop := (M.1 35 0 = nI wd ∧ M.1 36 0 = nI hg) ∧ (1 ≤ n → M.1 37 3 = nI (tK t).length ∧ M.1 37 5 = nI (tR t).length) ∧ (2 ≤ n → MKd 5 (tK t) M) ∧ (3 ≤ n → MRl 6 (tR t) M) ∧ (4 ≤ n → MCS (rC (tR t)) M)
theorem ST_c {wd hg : Nat} {t : TB} {n : Nat} {M1 : mw} (h : ST wd hg t n M) (h2 : M1.2 38 = M.2 38) (h1 : ∀ j, j = 35 ∨ j = 36 ∨ j = 37 ∨ j = 39 ∨ j = 40 ∨ j = 44 ∨ j = 49 ∨ j = 50 ∨ j = 51 → M1.1 j = M.1 j) : ST wd hg t n M1 := by
  unfold ST MKd MRl MCS at *
  simp only [h2, h1 35 (by omega), h1 36 (by omega), h1 37 (by omega), h1 39 (by omega), h1 40 (by omega), h1 44 (by omega), h1 49 (by omega), h1 50 (by omega), h1 51 (by omega)]
  exact h
theorem MG_c {s : GS} {M' : mw} (h : MG s M) (h1 : M'.1 56 = M.1 56) (h2 : M'.2 57 = M.2 57) : MG s M' := by
  show MGv s (M'.1 56) (M'.2 57)
  rw [h1, h2]; exact h
theorem s_stands {wd hg : Nat} {t : TB} (hf : fOk wd hg) (hb : MTB wd hg t M) (ht : tOk t) (ho : rOk (tR t)) (hl : (rC (tR t)).length ≤ 1600)
    (q : ∀ M', frS M M' → MB (bdT wd hg t) M' → MG (gsT t) M' → MKd 5 (tK t) M' → M'.1 71 0 = 0 → Q none M') : V_stands [.ref 0] M Q := by
  obtain ⟨t1, t2, t3, t4, t5, t6⟩ := id ht
  obtain ⟨⟨w1, w2⟩, ⟨w3, w4⟩, hf5⟩ := id hf
  -- the worths
  have l263 : ∀ N : mw, frS M N → ST wd hg t 4 N → MG (gsT t) N → N.1 71 0 = 0 → T_stands Q 263 [some (.ref 0), some (.int (nI 0))] [] N := by
    intro N fN sN gN hN
    refine upTo (wd * hg) (fun k (N : mw) => frS M N ∧ ST wd hg t 4 N ∧ MG (gsT t) N ∧ N.1 71 0 = 0 ∧ ∀ p, p < k → N.1 52 p = nI (wrR (tR t) (p % wd) (p / wd) (edW wd hg p))) (fun k N => T_stands Q 263 [some (.ref 0), some (.int (nI k))] [] N) ?_ ?_ 0 N (by omega) ⟨fN, sN, gN, hN, fun p hp => by omega⟩
    · intro N hI
      obtain ⟨i1, ⟨⟨i2, i3⟩, i4, i5, i6, i7⟩, i8, i9, j1⟩ := hI
      refine r_stands_263 ?_
      rw [i2, i3, n_mul]
      refine ⟨fun _ => ⟨rfl, q N i1 ⟨i2, i3, (i4 (by omega)).1, fun k hk => ((i5 (by omega)) k hk).2.1, fun k hk => ((i5 (by omega)) k hk).2.2, fun p hp => j1 p hp⟩ i8 (i5 (by omega)) i9⟩, fun z => absurd (Int32.le_refl _) z⟩
    · intro k N hk hI next
      obtain ⟨i1, i2, i3, i4, i5⟩ := hI
      refine r_stands_263 ?_
      rw [i2.1.1, i2.1.2, n_mul, n_le (by omega) (by omega)]
      refine ⟨fun z => by omega, fun _ => s_worthOf (R := tR t) hf i2.1.1 i2.1.2 hk (i2.2.2.2.2 (by omega)) hl t6 (i2.2.1 (by omega)).2 (i2.2.2.2.1 (by omega)) ho (fun N1 f1 => r_stands_286 ⟨(n_in (by omega)).mpr (by omega), ?_⟩)⟩
      rw [n_tn (by omega), show nI k + 1 = nI (k + 1) from n_add k 1]
      refine next _ ⟨frS_up (frS_trans i1 (frS_P f1)) (by unfold pS; omega), ST_c i2 ?_ (fun j hj => ?_), ?_, ?_, fun p hp => ?_⟩
      · rw [m_up2, f1.1 38 (by omega)]
      · funext u; rw [m_up, if_neg (by omega), f1.2 j (by omega)]
      · exact MG_c i3 (by funext u; rw [m_up, if_neg (by omega), f1.2 56 (by omega)]) (by rw [m_up2, f1.1 57 (by omega)])
      · rw [m_up, if_neg (by omega), f1.2 71 (by omega)]; exact i4
      · by_cases e : p = k
        · rw [m_up, if_pos ⟨rfl, e⟩, e]
        · rw [m_up, if_neg (by omega), f1.2 52 (by omega)]; exact i5 p (by omega)
  -- the day's state
  have l191 : ∀ N : mw, frS M N → ST wd hg t 4 N → T_stands Q 191 [some (.ref 0), some (.int (nI 0))] [] N := by
    intro N fN sN
    refine upTo 36 (fun k (N : mw) => frS M N ∧ ST wd hg t 4 N ∧ ∀ p, p < k → N.1 56 p = nI (tS t p) ∧ N.1 56 (36 + p) = nI (tL t p) ∧ N.1 56 (72 + p) = 0) (fun k N => T_stands Q 191 [some (.ref 0), some (.int (nI k))] [] N) ?_ ?_ 0 N (by omega) ⟨fN, sN, fun p hp => by omega⟩
    · intro N hI
      obtain ⟨i1, i2, i3⟩ := hI
      refine r_stands_191 ⟨fun _ => ⟨(n_in (a := 108) (by omega)).mpr (by omega), (n_in (a := 109) (by omega)).mpr (by omega), ?_⟩, fun z => absurd (by decide) z⟩
      rw [show Int32.toNatClampNeg 108 = 108 from by decide, show Int32.toNatClampNeg 109 = 109 from by decide]
      refine l263 _ (frS_up (frS_up (frS_up i1 (by unfold pS; omega)) (by unfold pS; omega)) (by unfold pS; omega)) (ST_c i2 rfl (fun j hj => ?_)) ⟨fun p hp => ?_, fun p hp => ?_, fun p hp => ?_, ?_, ?_, lsL_nil _⟩ (by rw [m_up, if_pos ⟨rfl, rfl⟩])
      · funext u; rw [m_up, if_neg (by omega), m_up, if_neg (by omega), m_up, if_neg (by omega)]
      · rw [m_up, if_neg (by omega), m_up, if_neg (by omega), m_up, if_neg (by omega)]; exact (i3 p hp).1
      · rw [m_up, if_neg (by omega), m_up, if_neg (by omega), m_up, if_neg (by omega)]; exact (i3 p hp).2.1
      · rw [m_up, if_neg (by omega), m_up, if_neg (by omega), m_up, if_neg (by omega)]; exact (i3 p hp).2.2
      · rw [m_up, if_neg (by omega), m_up, if_neg (by omega), m_up, if_pos ⟨rfl, rfl⟩]; rfl
      · rw [m_up, if_neg (by omega), m_up, if_pos ⟨rfl, rfl⟩]; rfl
    · intro k N hk hI next
      obtain ⟨i1, i2, i3⟩ := hI
      refine r_stands_191 ?_
      rw [show (36 : Int32) = nI 36 from rfl, show (72 : Int32) = nI 72 from rfl, n_le (by omega) (by omega), n_add, n_add, n_tn (by omega), n_tn (by omega), n_tn (by omega), show nI k + 1 = nI (k + 1) from n_add k 1, m_up, if_neg (by omega), i1.1 41 k (by unfold pS; omega), i1.1 42 k (by unfold pS; omega), hb.2.2.1.2 k hk, hb.2.2.2.1 k hk]
      refine ⟨fun z => by omega, fun _ => ⟨(n_in (by omega)).mpr (by omega), (n_in (by omega)).mpr (by omega), (n_in (by omega)).mpr (by omega), (n_in (by omega)).mpr (by omega), (n_in (by omega)).mpr (by omega), ?_⟩⟩
      refine next _ ⟨frS_up (frS_up (frS_up i1 (by unfold pS; omega)) (by unfold pS; omega)) (by unfold pS; omega), ST_c i2 rfl (fun j hj => ?_), fun p hp => ?_⟩
      · funext u; rw [m_up, if_neg (by omega), m_up, if_neg (by omega), m_up, if_neg (by omega)]
      · by_cases e : p = k
        · subst e
          refine ⟨?_, ?_, ?_⟩
          · rw [m_up, if_neg (by omega), m_up, if_neg (by omega), m_up, if_pos ⟨rfl, rfl⟩]
          · rw [m_up, if_neg (by omega), m_up, if_pos ⟨rfl, rfl⟩]
          · rw [m_up, if_pos ⟨rfl, rfl⟩]
        · obtain ⟨j1, j2, j3⟩ := i3 p (by omega)
          refine ⟨?_, ?_, ?_⟩
          · rw [m_up, if_neg (by omega), m_up, if_neg (by omega), m_up, if_neg (by omega)]; exact j1
          · rw [m_up, if_neg (by omega), m_up, if_neg (by omega), m_up, if_neg (by omega)]; exact j2
          · rw [m_up, if_neg (by omega), m_up, if_neg (by omega), m_up, if_neg (by omega)]; exact j3
  -- codes
  have l159 : ∀ N : mw, frS M N → ST wd hg t 3 N → T_stands Q 159 [some (.ref 0), some (.int (nI 0))] [] N := by
    intro N fN sN
    refine upTo (rC (tR t)).length (fun k (N : mw) => frS M N ∧ ST wd hg t 3 N ∧ ∀ j, j < k → N.1 44 (1600 + j) = nI ((rC (tR t)).getD j 0)) (fun k N => T_stands Q 159 [some (.ref 0), some (.int (nI k))] [] N) ?_ ?_ 0 N (by omega) ⟨fN, sN, fun p hp => by omega⟩
    · intro N hI
      obtain ⟨i1, i2, i3⟩ := hI
      refine r_stands_159 ?_
      rw [i1.1 45 0 (by unfold pS; omega), hb.2.2.2.2.2.1]
      exact ⟨fun _ => l191 N i1 ⟨i2.1, fun _ => i2.2.1 (by omega), fun _ => i2.2.2.1 (by omega), fun _ => i2.2.2.2.1 (by omega), fun _ => i3⟩, fun z => absurd (Int32.le_refl _) z⟩
    · intro k N hk hI next
      obtain ⟨i1, i2, i3⟩ := hI
      refine r_stands_159 ?_
      rw [i1.1 45 0 (by unfold pS; omega), hb.2.2.2.2.2.1, n_le (by omega) (by omega), show (1600 : Int32) + nI k = nI (1600 + k) from n_add 1600 k, n_tn (by omega), n_tn (by omega), i1.1 44 k (by unfold pS; omega), hb.2.2.2.2.2.2 k hk, show nI k + 1 = nI (k + 1) from n_add k 1]
      refine ⟨fun z => by omega, fun _ => ⟨(n_in (by omega)).mpr (by omega), (n_in (by omega)).mpr (by omega), next _ ⟨frS_up i1 (by unfold pS; omega), ?_, fun j hj => ?_⟩⟩⟩
      · have u : ∀ j i, j ≠ 44 → (mM_up N 44 (1600 + k) (nI ((rC (tR t)).getD k 0))).1 j i = N.1 j i := fun j i hj => by rw [m_up, if_neg (by omega)]
        refine ⟨⟨by rw [u _ _ (by omega)]; exact i2.1.1, by rw [u _ _ (by omega)]; exact i2.1.2⟩, fun _ => ⟨by rw [u _ _ (by omega)]; exact (i2.2.1 (by omega)).1, by rw [u _ _ (by omega)]; exact (i2.2.1 (by omega)).2⟩, fun _ j hj => ?_, fun _ j hj => ?_, fun z => by omega⟩
        · rw [u _ _ (by omega), u _ _ (by omega), m_up2]; exact i2.2.2.1 (by omega) j hj
        · rw [u _ _ (by omega), u _ _ (by omega), u _ _ (by omega)]; exact i2.2.2.2.1 (by omega) j hj
      · by_cases e : j = k
        · rw [m_up, if_pos ⟨rfl, by omega⟩, e]
        · rw [m_up, if_neg (by omega)]; exact i3 j (by omega)
  -- rules
  have l100 : ∀ N : mw, frS M N → ST wd hg t 2 N → T_stands Q 100 [some (.ref 0), some (.int (nI 0))] [] N := by
    intro N fN sN
    refine upTo 6 (fun k (N : mw) => frS M N ∧ ST wd hg t 2 N ∧ ∀ j, j < k → N.1 49 (6 + j) = M.1 49 j ∧ N.1 50 (6 + j) = M.1 50 j ∧ N.1 51 (6 + j) = M.1 51 j) (fun k N => T_stands Q 100 [some (.ref 0), some (.int (nI k))] [] N) ?_ ?_ 0 N (by omega) ⟨fN, sN, fun p hp => by omega⟩
    · intro N hI
      obtain ⟨i1, i2, i3⟩ := hI
      refine r_stands_100 ⟨fun _ => l159 N i1 ⟨i2.1, fun _ => i2.2.1 (by omega), fun _ => i2.2.2.1 (by omega), fun _ j hj => ?_, fun z => by omega⟩, fun z => absurd (by decide) z⟩
      obtain ⟨j1, j2, j3⟩ := i3 j (by omega)
      rw [j1, j2, j3]
      have := hb.2.2.2.2.1.2 j hj
      rw [Nat.zero_add] at this
      exact this
    · intro k N hk hI next
      obtain ⟨i1, i2, i3⟩ := hI
      refine r_stands_100 ?_
      rw [show (6 : Int32) + nI k = nI (6 + k) from n_add 6 k, show (6 : Int32) = nI 6 from rfl, n_le (by omega) (by omega), n_tn (by omega), n_tn (by omega), show nI k + 1 = nI (k + 1) from n_add k 1]
      have iv : vp_in (nI k) 12 := (n_in (by omega)).mpr (by omega)
      have iw : vp_in (nI (6 + k)) 12 := (n_in (by omega)).mpr (by omega)
      have e50 : (mM_up N 49 (6 + k) (N.1 49 k)).1 50 k = M.1 50 k := by rw [m_up, if_neg (by omega), i1.1 50 k (by unfold pS; omega)]
      have e51 : (mM_up (mM_up N 49 (6 + k) (N.1 49 k)) 50 (6 + k) (M.1 50 k)).1 51 k = M.1 51 k := by rw [m_up, if_neg (by omega), m_up, if_neg (by omega), i1.1 51 k (by unfold pS; omega)]
      rw [e50, e51, i1.1 49 k (by unfold pS; omega)]
      refine ⟨fun z => by omega, fun _ => ⟨iv, iw, iv, iw, iv, iw, next _ ⟨frS_up (frS_up (frS_up i1 (by unfold pS; omega)) (by unfold pS; omega)) (by unfold pS; omega), ?_, fun j hj => ?_⟩⟩⟩
      · have u : ∀ j i, j < 49 → (mM_up (mM_up (mM_up N 49 (6 + k) (M.1 49 k)) 50 (6 + k) (M.1 50 k)) 51 (6 + k) (M.1 51 k)).1 j i = N.1 j i := fun j i hj => by rw [m_up, if_neg (by omega), m_up, if_neg (by omega), m_up, if_neg (by omega)]
        refine ⟨⟨by rw [u _ _ (by omega)]; exact i2.1.1, by rw [u _ _ (by omega)]; exact i2.1.2⟩, fun _ => ⟨by rw [u _ _ (by omega)]; exact (i2.2.1 (by omega)).1, by rw [u _ _ (by omega)]; exact (i2.2.1 (by omega)).2⟩, fun _ j hj => ?_, fun z => by omega, fun z => by omega⟩
        rw [u _ _ (by omega), u _ _ (by omega), m_up2, m_up2, m_up2]; exact i2.2.2.1 (by omega) j hj
      · by_cases e : j = k
        · subst e
          refine ⟨?_, ?_, ?_⟩
          · rw [m_up, if_neg (by omega), m_up, if_neg (by omega), m_up, if_pos ⟨rfl, rfl⟩]
          · rw [m_up, if_neg (by omega), m_up, if_pos ⟨rfl, rfl⟩]
          · rw [m_up, if_pos ⟨rfl, rfl⟩]
        · obtain ⟨j1, j2, j3⟩ := i3 j (by omega)
          refine ⟨?_, ?_, ?_⟩
          · rw [m_up, if_neg (by omega), m_up, if_neg (by omega), m_up, if_neg (by omega)]; exact j1
          · rw [m_up, if_neg (by omega), m_up, if_neg (by omega), m_up, if_neg (by omega)]; exact j2
          · rw [m_up, if_neg (by omega), m_up, if_neg (by omega), m_up, if_neg (by omega)]; exact j3
  -- kinds
  have l45 : ∀ N : mw, frS M N → ST wd hg t 1 N → T_stands Q 45 [some (.ref 0), some (.int (nI 0))] [] N := by
    intro N fN sN
    refine upTo 5 (fun k (N : mw) => frS M N ∧ ST wd hg t 1 N ∧ ∀ j, j < k → N.2 38 (5 + j) = M.2 38 j ∧ N.1 39 (5 + j) = M.1 39 j ∧ N.1 40 (5 + j) = M.1 40 j) (fun k N => T_stands Q 45 [some (.ref 0), some (.int (nI k))] [] N) ?_ ?_ 0 N (by omega) ⟨fN, sN, fun p hp => by omega⟩
    · intro N hI
      obtain ⟨i1, i2, i3⟩ := hI
      refine r_stands_45 ⟨fun _ => l100 N i1 ⟨i2.1, fun _ => i2.2.1 (by omega), fun _ j hj => ?_, fun z => by omega, fun z => by omega⟩, fun z => absurd (by decide) z⟩
      obtain ⟨j1, j2, j3⟩ := i3 j (by omega)
      rw [j1, j2, j3]
      have := hb.2.1.2 j hj
      rw [Nat.zero_add] at this
      exact this
    · intro k N hk hI next
      obtain ⟨i1, i2, i3⟩ := hI
      refine r_stands_45 ?_
      rw [show (5 : Int32) + nI k = nI (5 + k) from n_add 5 k, show (5 : Int32) = nI 5 from rfl, n_le (by omega) (by omega), n_tn (by omega), n_tn (by omega), show nI k + 1 = nI (k + 1) from n_add k 1, m_upl2]
      have iv : vp_in (nI k) 10 := (n_in (by omega)).mpr (by omega)
      have iw : vp_in (nI (5 + k)) 10 := (n_in (by omega)).mpr (by omega)
      have e40 : (mM_up (mM_upl N 38 (5 + k) (N.2 38 k)) 39 (5 + k) (N.1 39 k)).1 40 k = M.1 40 k := by rw [m_up, if_neg (by omega), m_upl2, i1.1 40 k (by unfold pS; omega)]
      rw [e40, i1.1 39 k (by unfold pS; omega), i1.2 38 k (by omega) (by omega)]
      refine ⟨fun z => by omega, fun _ => ⟨iv, iw, iv, iw, iv, iw, next _ ⟨frS_up (frS_up (frS_upl i1 (by omega)) (by unfold pS; omega)) (by unfold pS; omega), ?_, fun j hj => ?_⟩⟩⟩
      · have u : ∀ j i, j < 38 → (mM_up (mM_up (mM_upl N 38 (5 + k) (M.2 38 k)) 39 (5 + k) (M.1 39 k)) 40 (5 + k) (M.1 40 k)).1 j i = N.1 j i := fun j i hj => by rw [m_up, if_neg (by omega), m_up, if_neg (by omega), m_upl2]
        exact ⟨⟨by rw [u _ _ (by omega)]; exact i2.1.1, by rw [u _ _ (by omega)]; exact i2.1.2⟩, fun _ => ⟨by rw [u _ _ (by omega)]; exact (i2.2.1 (by omega)).1, by rw [u _ _ (by omega)]; exact (i2.2.1 (by omega)).2⟩, fun z => by omega, fun z => by omega, fun z => by omega⟩
      · by_cases e : j = k
        · subst e
          refine ⟨?_, ?_, ?_⟩
          · rw [m_up2, m_up2, m_upl, if_pos ⟨rfl, rfl⟩]
          · rw [m_up, if_neg (by omega), m_up, if_pos ⟨rfl, rfl⟩]
          · rw [m_up, if_pos ⟨rfl, rfl⟩]
        · obtain ⟨j1, j2, j3⟩ := i3 j (by omega)
          refine ⟨?_, ?_, ?_⟩
          · rw [m_up2, m_up2, m_upl, if_neg (by omega)]; exact j1
          · rw [m_up, if_neg (by omega), m_up, if_neg (by omega), m_upl2]; exact j2
          · rw [m_up, if_neg (by omega), m_up, if_neg (by omega), m_upl2]; exact j3
  -- how many
  refine e_stands (r_stands_0 ?_)
  rw [m_up, if_neg (by omega), hb.1.1, hb.1.2]
  have f0 : frS M (mM_up (mM_up M 35 0 (nI wd)) 36 0 (nI hg)) := frS_up (frS_up (frS_refl M) (by unfold pS; omega)) (by unfold pS; omega)
  have s0 : (mM_up (mM_up M 35 0 (nI wd)) 36 0 (nI hg)).1 35 0 = nI wd ∧ (mM_up (mM_up M 35 0 (nI wd)) 36 0 (nI hg)).1 36 0 = nI hg := ⟨by rw [m_up, if_neg (by omega), m_up, if_pos ⟨rfl, rfl⟩], by rw [m_up, if_pos ⟨rfl, rfl⟩]⟩
  refine upTo 3 (fun k (N : mw) => frS M N ∧ (N.1 35 0 = nI wd ∧ N.1 36 0 = nI hg) ∧ ∀ j, j < k → N.1 37 (3 + j) = M.1 37 j) (fun k N => T_stands Q 18 [some (.ref 0), some (.int (nI k))] [] N) ?_ ?_ 0 _ (by omega) ⟨f0, s0, fun p hp => by omega⟩
  · intro N hI
    obtain ⟨i1, i2, i3⟩ := hI
    refine r_stands_18 ⟨fun _ => l45 N i1 ⟨i2, fun _ => ⟨?_, ?_⟩, fun z => by omega, fun z => by omega, fun z => by omega⟩, fun z => absurd (by decide) z⟩
    · have := i3 0 (by omega)
      rw [this]; exact hb.2.1.1
    · have := i3 2 (by omega)
      rw [this]; exact hb.2.2.2.2.1.1
  · intro k N hk hI next
    obtain ⟨i1, i2, i3⟩ := hI
    refine r_stands_18 ?_
    rw [show (3 : Int32) + nI k = nI (3 + k) from n_add 3 k, show (3 : Int32) = nI 3 from rfl, n_le (by omega) (by omega), n_tn (by omega), n_tn (by omega), show nI k + 1 = nI (k + 1) from n_add k 1, i1.1 37 k (by unfold pS; omega)]
    refine ⟨fun z => by omega, fun _ => ⟨(n_in (by omega)).mpr (by omega), (n_in (by omega)).mpr (by omega), next _ ⟨frS_up i1 (by unfold pS; omega), ⟨by rw [m_up, if_neg (by omega)]; exact i2.1, by rw [m_up, if_neg (by omega)]; exact i2.2⟩, fun j hj => ?_⟩⟩⟩
    by_cases e : j = k
    · rw [m_up, if_pos ⟨rfl, by omega⟩, e]
    · rw [m_up, if_neg (by omega)]; exact i3 j (by omega)
end
