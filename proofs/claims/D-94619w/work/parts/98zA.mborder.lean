/-! border(), BorderStonesModel -/
def frBq (M M' : mw) : Prop := (∀ k i, (k = 0 ∨ (9 < k ∧ k < 32) ∨ (56 < k ∧ k ≠ 71)) → M'.1 k i = M.1 k i) ∧ ∀ k i, k ≠ 38 → k ≠ 54 → M'.2 k i = M.2 k i
theorem s_border {Q : Option Value → mw → Prop} {T : List Nat} {M : mw} (hT : MT T M) (ht : tpOk T) (hW : MWd M)
    (qe : ∀ e, boP T = .inl e → ∀ M', frBo M M' → M'.1 1 0 = 0 → M'.1 7 0 = nI e.1 → M'.1 8 0 = nI e.2 → Q (some (.int (-nI 1))) M')
    (qo : ∀ w hg t n, boP T = .inr (w, hg, t, n) → fOk w hg → tOk t → n ≤ 80 → ∀ M', frBq M M' → M'.1 1 0 = 0 → M'.1 7 0 = 0 → M'.1 8 0 = -1 → MB (bdT w hg t) M' → MG (gsT t) M' → MKd 5 (tK t) M' → M'.1 71 0 = 0 → Q (some (.int (nI n))) M') : V_border [.ref 0] M Q := by
  refine s_borderT hT ht hW qe (fun w hg t n hb hf hto hro hn hl M1 f1 e1 e7 e8 hB e43 => s_stands hf hB hto hro hl (fun M2 f2 h1 h2 h3 h4 => r_border_141 ⟨trivial, ?_⟩))
  have k43 : M2.1 43 0 = nI n := by rw [f2.1 43 0 (by unfold pS; omega)]; exact e43
  rw [k43]
  refine qo w hg t n hb hf hto hn M2 ⟨fun k i hk => ?_, fun k i h1 h2 => ?_⟩ ?_ ?_ ?_ h1 h2 h3 h4
  · rw [f2.1 k i (by unfold pS; omega), f1.1 k i (by unfold pB; omega) (by omega) (by omega) (by omega) (by omega) (by omega)]
  · rw [f2.2 k i (by omega) h2, f1.2 k i (by omega)]
  · rw [f2.1 1 0 (by unfold pS; omega)]; exact e1
  · rw [f2.1 7 0 (by unfold pS; omega)]; exact e7
  · rw [f2.1 8 0 (by unfold pS; omega)]; exact e8
/-- such a border -/
theorem bdT_ok {w hg : Nat} {t : TB} (hf : fOk w hg) (ht : tOk t) : bOk (bdT w hg t) := by
  obtain ⟨t1, t2, t3, t4, t5, t6⟩ := ht
  refine ⟨hf.1.1, hf.1.2, hf.2.1.1, hf.2.1.2, hf.2.2, t1, fun k hk => ?_, fun p _ => wrR_le _ _ _ _⟩
  have := t2 _ (getD_mem' (d := ([], 0, 0)) hk)
  exact ⟨this.2.1.2, this.2.2⟩
/-- nothing is told outside the field -/
def oOk (wd hg : Nat) (t : TB) : Prop := ∀ p, wd * hg ≤ p → tS t p = 0 ∧ tL t p = 0
theorem plc_lt {T : List Nat} {a wd hg p a1 np : Nat} (hf : fOk wd hg) (ha : a ≤ T.length) (h : plcP T wd hg a = .inr (p, a1, np)) : p < wd * hg := by
  obtain ⟨⟨w1, w2⟩, ⟨w3, w4⟩, w5⟩ := hf
  unfold plcP at h
  by_cases c : hereB T a (wT 19) = true
  rotate_left
  · rw [if_neg c] at h; cases h
  rw [if_pos c] at h
  have hl := here_le (by omega) (by omega) ha c
  rw [show (wT 19).length = 2 from rfl] at hl
  cases hm : numP T (sk T a + 2) 0 (wd - 1) with
  | inl e => simp only [hm] at h; cases h
  | inr x =>
  obtain ⟨r, a2⟩ := x
  simp only [hm] at h
  obtain ⟨m1, m2, m3, m4⟩ := num_gt hl hm
  cases hm2 : numP T a2 0 (hg - 1) with
  | inl e => simp only [hm2] at h; cases h
  | inr x =>
  obtain ⟨r2, a3⟩ := x
  simp only [hm2] at h
  obtain ⟨m5, m6, m7, m8⟩ := num_gt m2 hm2
  cases h
  exact pl_lt (by omega) (by omega)
theorem st_out {T : List Nat} {wd hg : Nat} {t : TB} {a : Nat} (hf : fOk wd hg) (ho : oOk wd hg t) (ha : a ≤ T.length) {t' : TB} {a1 : Nat} (h : stFP T wd hg t a = .inr (t', a1)) : oOk wd hg t' := by
  unfold stFP at h
  have hl := fun k h1 h2 => here_le (T := T) (a := a) (k := k) h1 h2 ha
  cases hs : stP T wd hg t a with
  | inl e => simp only [hs] at h; cases h
  | inr x =>
  obtain ⟨t2, a2⟩ := x
  simp only [hs] at h
  split at h
  rotate_left
  · cases h
  cases h
  unfold stP at hs
  split at hs
  · unfold kindP at hs
    split at hs
    · cases hs
    cases hk : kiP T (tK t) (sk T a + 4) with
    | inl e => simp only [hk] at hs; cases hs
    | inr x => simp only [hk] at hs; cases hs; exact ho
  split at hs
  · rename_i c
    have hl5 := hl 16 (by omega) (by omega) c
    rw [show (wT 16).length = 5 from rfl] at hl5
    unfold stoP at hs
    split at hs
    · cases hs
    cases hn : nmP T (sk T a + 5) with
    | inl e => simp only [hn] at hs; cases hs
    | inr e =>
    simp only [hn] at hs
    obtain ⟨n1, n2, n3, n4⟩ := nm_ok hl5 hn
    cases hk : kdL (tK t) (wdL T (sk T (sk T a + 5)) (e - sk T (sk T a + 5))) with
    | none => simp only [hk] at hs; cases hs
    | some k =>
    simp only [hk] at hs
    cases hd : sdP T e with
    | inl e => simp only [hd] at hs; cases hs
    | inr x =>
    obtain ⟨v, a3⟩ := x
    have hg2 := sd_le n3 hd
    simp only [hd] at hs
    cases hp : plcP T wd hg a3 with
    | inl e => simp only [hp] at hs; cases hs
    | inr x =>
    obtain ⟨p, a4, np⟩ := x
    have hlt := plc_lt hf hg2 hp
    simp only [hp] at hs
    split at hs
    · cases hs
    cases hs
    intro u hu
    refine ⟨?_, (ho u hu).2⟩
    show (if u = p then _ else tS t u) = 0
    rw [if_neg (by omega)]; exact (ho u hu).1
  split at hs
  · rename_i c
    have hl5 := hl 20 (by omega) (by omega) c
    rw [show (wT 20).length = 4 from rfl] at hl5
    unfold lanP ldP at hs
    cases hd : sdP T (sk T a + 4) with
    | inl e => simp only [hd] at hs; cases hs
    | inr x =>
    obtain ⟨v, a3⟩ := x
    have hg2 := sd_le hl5 hd
    simp only [hd] at hs
    cases hp : plcP T wd hg a3 with
    | inl e => simp only [hp] at hs; cases hs
    | inr x =>
    obtain ⟨p, a4, np⟩ := x
    have hlt := plc_lt hf hg2 hp
    simp only [hp] at hs
    cases hs
    intro u hu
    refine ⟨(ho u hu).1, ?_⟩
    show (if u = p then _ else tL t u) = 0
    rw [if_neg (by omega)]; exact (ho u hu).2
  split at hs
  · unfold ruP at hs
    split at hs
    · cases hs
    cases h1 : pE T FU 3 (sk T a + 5) 0 with
    | inl e => simp only [h1] at hs; cases hs
    | inr x =>
    obtain ⟨s, a2⟩ := x
    simp only [h1] at hs
    split at hs
    rotate_left
    · cases hs
    cases h2 : pT T FU FU 3 (sk T a2 + 4) 0 with
    | inl e => simp only [h2] at hs; cases hs
    | inr x => simp only [h2] at hs; cases hs; exact ho
  · cases hs
theorem stp_ok {T : List Nat} {wd hg : Nat} {t : TB} {a : Nat} (ho : tOk t) (ha : a ≤ T.length) {t' : TB} {a1 : Nat} (h : stFP T wd hg t a = .inr (t', a1)) : tOk t' := by
  unfold stFP at h
  have hl := fun k h1 h2 => here_le (T := T) (a := a) (k := k) h1 h2 ha
  cases hs : stP T wd hg t a with
  | inl e => simp only [hs] at h; cases h
  | inr x =>
  obtain ⟨t2, a2⟩ := x
  simp only [hs] at h
  split at h
  rotate_left
  · cases h
  cases h
  unfold stP at hs
  split at hs
  · rename_i c
    have := hl 11 (by omega) (by omega) c
    exact (kind_ok ho this hs).1
  split at hs
  · rename_i c
    have := hl 16 (by omega) (by omega) c
    exact (sto_ok ho this hs).1
  split at hs
  · rename_i c
    have := hl 20 (by omega) (by omega) c
    exact (lan_ok ho this hs).1
  split at hs
  · exact ru_ok ho hs
  · cases hs
theorem sts_ok {T : List Nat} {wd hg : Nat} (hf : fOk wd hg) (m : Nat) : ∀ t a t' n, tOk t → rOk (tR t) → oOk wd hg t → m ≤ 79 → stsP T wd hg m t a = .inr (t', n) → tOk t' ∧ rOk (tR t') ∧ oOk wd hg t' ∧ n ≤ 80 := by
  induction m with
  | zero =>
    intro t a t' n h1 h2 h3 _ h
    have e : stsP T wd hg 0 t a = if sk T a < T.length then .inl (5, sk T a) else .inr (t, 80) := rfl
    rw [e] at h
    split at h
    · cases h
    · cases h; exact ⟨h1, h2, h3, by omega⟩
  | succ m ih =>
    intro t a t' n h1 h2 h3 hm h
    have e : stsP T wd hg (m + 1) t a = if sk T a < T.length then (match stFP T wd hg t (sk T a) with | .inl e => .inl e | .inr (t', a1) => stsP T wd hg m t' a1) else .inr (t, 79 - m) := rfl
    rw [e] at h
    split at h
    · rename_i c
      cases hs : stFP T wd hg t (sk T a) with
      | inl e => simp only [hs] at h; cases h
      | inr x =>
        obtain ⟨t2, a2⟩ := x
        simp only [hs] at h
        exact ih t2 a2 t' n (stp_ok h1 (by omega) hs) (st_rok h1 h2 (by omega) hs) (st_out hf h3 (by omega) hs) (by omega) h
    · cases h; exact ⟨h1, h2, h3, by omega⟩
theorem fi_ok {T : List Nat} {w hg a : Nat} (h : fiP T = .inr (w, hg, a)) : fOk w hg := by
  unfold fiP at h
  by_cases c : hereB T 0 (wT 10) = true
  rotate_left
  · rw [if_neg c] at h; cases h
  rw [if_pos c] at h
  have hl := here_le (by omega) (by omega) (Nat.zero_le _) c
  rw [show (wT 10).length = 5 from rfl] at hl
  cases hm : numP T (sk T 0 + 5) 3 7 with
  | inl e => simp only [hm] at h; cases h
  | inr x =>
  obtain ⟨r, a2⟩ := x
  simp only [hm] at h
  obtain ⟨m1, m2, m3, m4⟩ := num_gt hl hm
  cases hm2 : numP T a2 3 7 with
  | inl e => simp only [hm2] at h; cases h
  | inr x =>
  obtain ⟨r2, a3⟩ := x
  simp only [hm2] at h
  obtain ⟨m5, m6, m7, m8⟩ := num_gt m2 hm2
  split at h
  · rename_i c2
    split at h
    · cases h; exact ⟨⟨m3, m4⟩, ⟨m7, m8⟩, c2⟩
    · cases h
  · cases h
theorem bo_ok {T : List Nat} {w hg : Nat} {t : TB} {n : Nat} (h : boP T = .inr (w, hg, t, n)) : fOk w hg ∧ tOk t ∧ rOk (tR t) ∧ oOk w hg t ∧ n ≤ 80 := by
  unfold boP at h
  cases hf : fiP T with
  | inl e => simp only [hf] at h; cases h
  | inr x =>
  obtain ⟨w1, h1, a⟩ := x
  simp only [hf] at h
  cases hs : stsP T w1 h1 79 tbZ a with
  | inl e => simp only [hs] at h; cases h
  | inr x =>
  obtain ⟨t1, n1⟩ := x
  simp only [hs] at h
  cases h
  have fo := fi_ok hf
  exact ⟨fo, sts_ok fo 79 tbZ a t n tbZ_ok (fun r hr => absurd hr List.not_mem_nil) (fun p _ => ⟨rfl, rfl⟩) (by omega) hs⟩
theorem gsT_ok {w hg : Nat} {t : TB} (ht : tOk t) (ho : oOk w hg t) : gOk (bdT w hg t) (gsT t) := by
  obtain ⟨t1, t2, t3, t4, t5, t6⟩ := ht
  refine ⟨fun p => ?_, fun p hp => (ho p hp).1, fun p => by have := t4 p; show tL t p ≤ 2; omega, fun p hp => (ho p hp).2, Nat.zero_le _, Nat.zero_le _, fun o h => absurd h List.not_mem_nil, List.Pairwise.nil⟩
  have := t3 p
  show tS t p = 0 ∨ 2 ≤ tS t p ∧ tS t p < 2 + 2 * (tK t).length
  omega
