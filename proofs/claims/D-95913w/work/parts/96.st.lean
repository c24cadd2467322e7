set_option maxRecDepth 100000
/-! The model's changing operations (2): sheets. -/
section St
variable {P : CF} {Q : Nat → Int32}
theorem m_meet {I : MI} (hP : m_P P Q I) (k : Nat) : ∃ I', g_X5_meets (nI k) I = some ((o_meets P Q k).1, I') ∧ m_P (o_meets P Q k).2.1 (o_meets P Q k).2.2 I' := by
  obtain ⟨p1, p2, p3, p4, p5, p6, p7, p8, p9⟩ := hP
  refine ⟨fw_u2 I 0 46 (nI k), rfl, p1, p2, p3, p4, p5, p6, p7, p8, ?_⟩
  show fw_u2 I 0 46 (nI k) 0 46 = nI (fw_u2 P 13 0 k 13 0)
  rw [fw_u2_self, fw_u2_self]
theorem m_s59 {s : Nat} (hs : s < 4) {v : Int32} : ∀ (m i n : Nat), i + m = 60 → m < n → ∀ I : MI, ∃ I', g_X5_sheet_59 n (nI s) v (nI i) I = some (v, I') ∧ m_f (fun j x => j = 31 ∧ 60 * s ≤ x ∧ x < 60 * s + 60) I I' ∧ (∀ q, q < i → I' 31 (60 * s + q) = I 31 (60 * s + q)) ∧ ∀ q, i ≤ q → q < 60 → I' 31 (60 * s + q) = nI 0 := by
  intro m
  induction m with
  | zero =>
    intro i n hi hn I
    obtain ⟨n, rfl⟩ : ∃ q, n = q + 1 := ⟨n - 1, by omega⟩
    obtain rfl : i = 60 := by omega
    refine ⟨I, ?_, m_f.r I, fun _ _ => rfl, fun q h1 h2 => by omega⟩
    unfold g_X5_sheet_59
    rw [if_pos (by decide)]
  | succ m ih =>
    intro i n hi hn I
    obtain ⟨n, rfl⟩ : ∃ q, n = q + 1 := ⟨n - 1, by omega⟩
    obtain ⟨I', r1, r2, r3, r4⟩ := ih (i + 1) n (by omega) (by omega) (fw_u2 I 31 (60 * s + i) (nI 0))
    refine ⟨I', ?_, ((m_f.r I).w (by omega)).t r2, fun q hq => by rw [r3 q (by omega), fw_u2_ne _ _ (by omega)], fun q h1 h2 => ?_⟩
    · unfold g_X5_sheet_59
      rw [if_neg (nI_ge (by omega) (by decide)), pk_mul, nI_add, mw_nI (by omega) (by decide), nI_add]
      exact r1
    · by_cases z : q = i
      · subst z
        rw [r3 q (by omega), fw_u2_self]
      · exact r4 q (by omega) h2
theorem vb0 : vp_nar .boolean (nI 0) = nI 0 := by decide
theorem vb1 : vp_nar .boolean (nI 1) = nI 1 := by decide
theorem m_o_sheet (hB : p_B P) (x y z : Int32) : m_mu P Q (g_X5_sheet x y z) (o_sheet P Q x y z) := by
  intro I hP
  unfold g_X5_sheet o_sheet
  rcases bd_or x (N := 3) (by decide) with q | ⟨s, hs, rfl⟩
  · rw [if_pos q]
    exact ⟨I, by rw [m_sheetB q, mc_e, if_pos n0], hP⟩
  rw [if_neg (bd_no hs (by decide)), oN_e (show s < 2 ^ 31 by omega), m_sheetG hs, mc_e, if_neg n1]
  rcases bd_or y (N := 2) (by decide) with q | ⟨f, hf, rfl⟩
  · rw [if_pos q]
    exact ⟨I, by rw [m_inB q, mc_e, if_pos n0], hP⟩
  rw [if_neg (bd_no hf (by decide)), oN_e (show f < 2 ^ 31 by omega), m_inG hf (by decide), mc_e, if_neg n1]
  have t60 : (nI 60).toInt = 60 := nI_toInt (by decide)
  have t0 : (nI 0).toInt = 0 := nI_toInt (by decide)
  have t0' : (0 : Int32).toInt = 0 := rfl
  rcases bd_or z (N := 60) (by decide) with (q | q) | ⟨n, hn, rfl⟩
  · have q' := q
    rw [Int32.lt_iff_toInt_lt, t0] at q'
    rw [if_pos (show z ≤ nI 60 by rw [Int32.le_iff_toInt_le, t60]; omega), if_neg (show ¬ (0 : Int32) ≤ z by rw [Int32.le_iff_toInt_le, t0']; omega), if_neg (show ¬ nI 60 < z by rw [Int32.lt_iff_toInt_lt, t60]; omega), if_pos (show z < 0 by rw [Int32.lt_iff_toInt_lt, t0']; omega)]
    obtain ⟨I1, a1, a2⟩ := m_meet hP 5
    exact ⟨I1, by rw [a1, mc_e], a2⟩
  · have q' := q
    rw [Int32.lt_iff_toInt_lt, t60] at q'
    rw [if_neg (show ¬ z ≤ nI 60 by rw [Int32.le_iff_toInt_le, t60]; omega), if_pos q]
    exact ⟨I, rfl, hP⟩
  · have tn : (nI n).toInt = n := nI_toInt (by omega)
    rw [if_pos (nI_le hn (by decide)), if_pos (show (0 : Int32) ≤ nI n by rw [Int32.le_iff_toInt_le, t0', tn]; omega), if_neg (show ¬ nI 60 < nI n by rw [Int32.lt_iff_toInt_lt, t60, tn]; omega), if_neg (show ¬ nI n < 0 by rw [Int32.lt_iff_toInt_lt, t0', tn]; omega), oN_e (show n < 2 ^ 31 by omega), vb1, mw_nI (by omega) (by decide), mw_nI (by omega) (by decide), mw_nI (by omega) (by decide)]
    obtain ⟨I1, a1, a2, -, a4⟩ := m_s59 (s := s) (v := nI n) (by omega) 60 0 fw_fuel rfl (by decide) (fw_u2 (fw_u2 (fw_u2 I 28 s (nI 1)) 29 s (nI f)) 30 s (nI n))
    have fr : m_f (fun j x => (j = 31 ∧ 60 * s ≤ x ∧ x < 60 * s + 60) ∨ ((j = 28 ∨ j = 29 ∨ j = 30) ∧ x = s)) I I1 := ((((m_f.r I).w (by omega)).w (by omega)).w (by omega)).t (a2.m fun j x q => Or.inl q)
    obtain ⟨p1, p2, p3, p4, p5, p6, p7, p8, p9⟩ := hP
    refine ⟨I1, a1, fun t ht => (fr 1 t (by omega)).trans (p1 t ht), fun t i ht hi => (fr 2 _ (by omega)).trans (p2 t i ht hi), (fr 0 8 (by omega)).trans p3, (fr 0 9 (by omega)).trans p4, fun e he => ?_, (fr 0 37 (by omega)).trans p6, fun e he => ?_, fun u hu => ?_, (fr 0 46 (by omega)).trans p9⟩
    · rw [fr 9 e (by omega), fr 10 e (by omega), fr 11 e (by omega)]
      exact p5 e he
    · rw [fr 25 e (by omega), fr 26 e (by omega)]
      exact p7 e he
    · dsimp only
      simp only [fw_u2_at]
      by_cases z : u = s
      · subst z
        have e28 : I1 28 u = nI 1 := by rw [a2 28 u (by omega)]; simp [fw_u2_at]
        have e29 : I1 29 u = nI f := by rw [a2 29 u (by omega)]; simp [fw_u2_at]
        have e30 : I1 30 u = nI n := by rw [a2 30 u (by omega)]; simp [fw_u2_at]
        simp only [e28, e29, e30]
        refine ⟨by simp, fun _ => ⟨by simp, by simp, fun i hi => ?_⟩⟩
        have hi : i < n := by simpa using hi
        rw [if_pos (by omega)]
        exact a4 i (Nat.zero_le _) (by omega)
      · have := p8 u hu
        rw [fr 28 u (by omega), fr 29 u (by omega), fr 30 u (by omega)]
        simp only [z, and_false, if_false]
        refine ⟨this.1, fun q => ⟨(this.2 q).1, (this.2 q).2.1, fun i hi => ?_⟩⟩
        by_cases w : i < 60
        · rw [fr 31 _ (by omega), if_neg (by omega)]
          exact (this.2 q).2.2 i hi
        · have := (hB.2.2.2.2.2.2.2.1 u).2.2
          omega
theorem m_o_lose (hB : p_B P) (x : Int32) : m_mu P Q (g_X5_lose x) (o_lose P Q x) := by
  intro I hP
  unfold g_X5_lose o_lose
  rcases bd_or x (N := 3) (by decide) with q | ⟨s, hs, rfl⟩
  · rw [if_pos q]
    exact ⟨I, by rw [m_sheetB q, mc_e, if_pos n0], hP⟩
  have h10 := (hB.2.2.2.2.2.2.2.1 s).1
  have e28 := (hP.2.2.2.2.2.2.2.1 s (by omega)).1
  rw [if_neg (bd_no hs (by decide)), oN_e (show s < 2 ^ 31 by omega), m_sheetG hs, mc_e, if_neg n1, md_nI (by omega) (by decide), e28, i_z (by omega)]
  by_cases q : P 10 s = 0
  · rw [if_pos q, if_pos q]
    obtain ⟨I1, a1, a2⟩ := m_meet hP 1
    exact ⟨I1, by rw [a1, mc_e], a2⟩
  · have e30 := ((hP.2.2.2.2.2.2.2.1 s (by omega)).2 (by omega)).2.1
    rw [if_neg q, if_neg q, vb0, mw_nI (by omega) (by decide), md_nI (by omega) (by decide), fw_u2_ne _ _ (by omega), e30]
    obtain ⟨p1, p2, p3, p4, p5, p6, p7, p8, p9⟩ := hP
    refine ⟨_, rfl, p1, p2, p3, p4, p5, p6, p7, fun u hu => ?_, p9⟩
    dsimp only
    simp only [fw_u2_at]
    by_cases z : u = s
    · subst z
      refine ⟨by simp, fun q => ?_⟩
      simp at q
    · have := p8 u hu
      simp only [z, and_false, if_false]
      simpa using this
theorem m_lacks (hB : p_B P) {I : MI} (hP : m_P P Q I) {s f : Nat} (hs : s < 4) (hf : f ≤ 2) (z : Int32) : g_X5_lacks (nI s) (nI f) z I = some (nI (o_lk P s f z), I) := by
  have h10 := (hB.2.2.2.2.2.2.2.1 s)
  have e28 := (hP.2.2.2.2.2.2.2.1 s (by omega)).1
  unfold g_X5_lacks o_lk
  rw [md_nI (by omega) (by decide), e28, i_z (by omega)]
  by_cases q : P 10 s = 0
  · rw [if_pos q, if_pos q]
  · obtain ⟨e29, e30, -⟩ := (hP.2.2.2.2.2.2.2.1 s (by omega)).2 (by omega)
    rw [if_neg q, if_neg q, md_nI (by omega) (by decide), e29, i_eq (by omega) (by omega)]
    by_cases w : P 11 s = f
    · rw [if_pos w, if_pos w, md_nI (by omega) (by decide), e30]
      unfold g_X5_in
      by_cases h1 : z < nI 0
      · rw [if_pos h1, mc_e, if_pos n0, if_pos (Or.inl h1)]
      · by_cases h2 : nI (P 12 s) - nI 1 < z
        · rw [if_neg h1, if_pos h2, mc_e, if_pos n0, if_pos (Or.inr h2)]
        · rw [if_neg h1, if_neg h2, mc_e, if_neg n1, if_neg (fun y => y.elim h1 h2)]
    · rw [if_neg w, if_neg w]
theorem o_lk_le (P : CF) (s f : Nat) (z : Int32) : o_lk P s f z ≤ 3 := by
  unfold o_lk
  repeat' split
  all_goals decide
theorem o_lk0 (hB : p_B P) {s f : Nat} {z : Int32} (h : o_lk P s f z = 0) : P 10 s = 1 ∧ P 11 s = f ∧ ∃ i, i < P 12 s ∧ z = nI i := by
  have h10 := (hB.2.2.2.2.2.2.2.1 s)
  unfold o_lk at h
  by_cases q : P 10 s = 0
  · rw [if_pos q] at h
    cases h
  rw [if_neg q] at h
  by_cases w : P 11 s = f
  · rw [if_pos w] at h
    by_cases y : z < nI 0 ∨ nI (P 12 s) - nI 1 < z
    · rw [if_pos y] at h
      cases h
    · refine ⟨by omega, w, z.toInt.toNat, ?_, ?_⟩
      · have y1 : ¬ z < nI 0 := fun e => y (Or.inl e)
        have y2 : ¬ nI (P 12 s) - nI 1 < z := fun e => y (Or.inr e)
        rw [Int32.lt_iff_toInt_lt, nI_toInt (by decide)] at y1
        rw [Int32.lt_iff_toInt_lt, pk_sub_toInt (by omega) (by decide)] at y2
        omega
      · have y1 : ¬ z < nI 0 := fun e => y (Or.inl e)
        have y2 : ¬ nI (P 12 s) - nI 1 < z := fun e => y (Or.inr e)
        rw [Int32.lt_iff_toInt_lt, nI_toInt (by decide)] at y1
        rw [Int32.lt_iff_toInt_lt, pk_sub_toInt (by omega) (by decide)] at y2
        refine Int32.toInt_inj.mp ?_
        rw [nI_toInt (by omega)]
        omega
  · rw [if_neg w] at h
    cases h
theorem m_keep {I : MI} {s i : Nat} {f : Nat} (hs : s < 4) (hi : i < 60) (hf : f ≤ 2) (e29 : I 29 s = nI f) (w : Int32) : g_X5_keep (nI s) (nI i) w I = some ((), fw_u2 I 31 (60 * s + i) (o_nw f w)) := by
  unfold g_X5_keep o_nw
  rw [md_nI (by omega) (by decide), e29, i_z (by omega)]
  by_cases q : f = 0
  · rw [if_pos q, if_pos q, pk_mul, nI_add, mw_nI (by omega) (by decide)]
  · rw [if_neg q, if_neg q, md_nI (by omega) (by decide), e29, i_eq (by omega) (by decide)]
    by_cases y : f = 1
    · rw [if_pos y, if_pos y, pk_mul, nI_add, mw_nI (by omega) (by decide)]
    · rw [if_neg y, if_neg y, pk_mul, nI_add, mw_nI (by omega) (by decide)]
theorem m_o_put (hB : p_B P) (x y z w : Int32) : m_mu P Q (g_X5_put x y z w) (o_put P Q x y z w) := by
  intro I hP
  unfold g_X5_put o_put
  rcases bd_or x (N := 3) (by decide) with q | ⟨s, hs, rfl⟩
  · rw [if_pos q]
    exact ⟨I, by rw [m_sheetB q, mc_e, if_pos n0], hP⟩
  rw [if_neg (bd_no hs (by decide)), oN_e (show s < 2 ^ 31 by omega), m_sheetG hs, mc_e, if_neg n1]
  rcases bd_or y (N := 2) (by decide) with q | ⟨f, hf, rfl⟩
  · rw [if_pos q]
    exact ⟨I, by rw [m_inB q, mc_e, if_pos n0], hP⟩
  have hl := o_lk_le P s f z
  rw [if_neg (bd_no hf (by decide)), oN_e (show f < 2 ^ 31 by omega), m_inG hf (by decide), mc_e, if_neg n1, m_lacks hB hP (by omega) hf, mc_e, i_le0 (by omega)]
  by_cases q : o_lk P s f z = 0
  · obtain ⟨l1, l2, i, l3, rfl⟩ := o_lk0 hB q
    have h12 := (hB.2.2.2.2.2.2.2.1 s).2.2
    obtain ⟨e29, e30, e31⟩ := (hP.2.2.2.2.2.2.2.1 s (by omega)).2 l1
    rw [if_pos q, if_pos q, m_keep (by omega) (by omega) hf (by rw [e29, l2]) w, mc_e, oN_e (show i < 2 ^ 31 by omega), l2]
    obtain ⟨p1, p2, p3, p4, p5, p6, p7, p8, p9⟩ := hP
    refine ⟨_, rfl, p1, p2, p3, p4, p5, p6, p7, fun u hu => ⟨(p8 u hu).1, fun y => ⟨((p8 u hu).2 y).1, ((p8 u hu).2 y).2.1, fun j hj => ?_⟩⟩, p9⟩
    dsimp only
    have hj : j < P 12 u := hj
    have h12u := (hB.2.2.2.2.2.2.2.1 u).2.2
    by_cases z : 60 * u + j = 60 * s + i
    · rw [z, fw_u2_self, if_pos rfl]
    · rw [fw_u2_ne _ _ (by omega), if_neg z]
      exact ((p8 u hu).2 y).2.2 j hj
  · rw [if_neg q, if_neg q]
    obtain ⟨I1, a1, a2⟩ := m_meet hP (o_lk P s f z)
    exact ⟨I1, by rw [a1, mc_e], a2⟩
theorem m_o_get (hB : p_B P) (x y z : Int32) : m_mu P Q (g_X5_get x y z) (o_get P Q x y z) := by
  intro I hP
  unfold g_X5_get o_get
  rcases bd_or x (N := 3) (by decide) with q | ⟨s, hs, rfl⟩
  · rw [if_pos q]
    exact ⟨I, by rw [m_sheetB q, mc_e, if_pos n0], hP⟩
  rw [if_neg (bd_no hs (by decide)), oN_e (show s < 2 ^ 31 by omega), m_sheetG hs, mc_e, if_neg n1]
  rcases bd_or y (N := 2) (by decide) with q | ⟨f, hf, rfl⟩
  · rw [if_pos q]
    exact ⟨I, by rw [m_inB q, mc_e, if_pos n0], hP⟩
  have hl := o_lk_le P s f z
  rw [if_neg (bd_no hf (by decide)), oN_e (show f < 2 ^ 31 by omega), m_inG hf (by decide), mc_e, if_neg n1, m_lacks hB hP (by omega) hf, mc_e, i_le0 (by omega)]
  by_cases q : o_lk P s f z = 0
  · obtain ⟨l1, l2, i, l3, rfl⟩ := o_lk0 hB q
    have h12 := (hB.2.2.2.2.2.2.2.1 s).2.2
    obtain ⟨e29, e30, e31⟩ := (hP.2.2.2.2.2.2.2.1 s (by omega)).2 l1
    rw [if_pos q, if_pos q, pk_mul, nI_add, md_nI (by omega) (by decide), e31 i l3, oN_e (show i < 2 ^ 31 by omega)]
    exact ⟨I, rfl, hP⟩
  · rw [if_neg q, if_neg q, mp_e]
    obtain ⟨p1, p2, p3, p4, p5, p6, p7, p8, p9⟩ := hP
    refine ⟨_, rfl, p1, p2, p3, p4, p5, p6, p7, p8, ?_⟩
    dsimp only
    rw [fw_u2_self, fw_u2_self]
end St
