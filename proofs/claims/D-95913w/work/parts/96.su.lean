set_option maxRecDepth 100000
/-! The model's changing operations (3): copy, write, read. -/
section Su
variable {P : CF} {Q : Nat → Int32}
theorem m_c157 {y b n : Nat} (h : 60 * y + b + n ≤ 240) (hn : n ≤ 60) : ∀ (m i f : Nat), i + m = n → m < f → ∀ I : MI, ∃ I', g_X5_copy_157 f (nI y) (nI b) (nI n) (nI i) I = some (nI 1, I') ∧ m_f (fun j x => j = 31 ∧ 60 * y + b + i ≤ x ∧ x < 60 * y + b + n) I I' ∧ ∀ q, i ≤ q → q < n → I' 31 (60 * y + b + q) = I 32 q := by
  intro m
  induction m with
  | zero =>
    intro i f hi hf I
    obtain ⟨f, rfl⟩ : ∃ q, f = q + 1 := ⟨f - 1, by omega⟩
    obtain rfl : i = n := by omega
    refine ⟨I, ?_, m_f.r I, fun q h1 h2 => by omega⟩
    unfold g_X5_copy_157
    rw [if_pos (nI_le (Nat.le_refl _) (by omega))]
  | succ m ih =>
    intro i f hi hf I
    obtain ⟨f, rfl⟩ : ∃ q, f = q + 1 := ⟨f - 1, by omega⟩
    obtain ⟨I', r1, r2, r3⟩ := ih (i + 1) f (by omega) (by omega) (fw_u2 I 31 (60 * y + b + i) (I 32 i))
    refine ⟨I', ?_, ((m_f.r I).w (by omega)).t (r2.m fun j x q => by omega), fun q h1 h2 => ?_⟩
    · unfold g_X5_copy_157
      rw [if_neg (nI_ge (by omega) (by omega)), md_nI (by omega) (by decide), pk_mul, nI_add, nI_add, mw_nI (by omega) (by decide), nI_add]
      exact r1
    · by_cases z : q = i
      · subst z
        rw [r2 31 _ (by omega), fw_u2_self]
      · rw [r3 q (by omega) h2, fw_u2_ne _ _ (by omega)]
theorem m_c120 {x a y b n : Nat} (h : 60 * y + b + n ≤ 240) (h2 : 60 * x + a + n ≤ 240) (hn : n ≤ 60) : ∀ (m i f : Nat), i + m = n → m < f → ∀ I : MI, ∃ I', g_X5_copy_120 f (nI x) (nI a) (nI y) (nI b) (nI n) (nI i) I = g_X5_copy_157 fw_fuel (nI y) (nI b) (nI n) (nI 0) I' ∧ m_f (fun j _ => j = 32) I I' ∧ (∀ q, q < i → I' 32 q = I 32 q) ∧ ∀ q, i ≤ q → q < n → I' 32 q = I 31 (60 * x + a + q) := by
  intro m
  induction m with
  | zero =>
    intro i f hi hf I
    obtain ⟨f, rfl⟩ : ∃ q, f = q + 1 := ⟨f - 1, by omega⟩
    obtain rfl : i = n := by omega
    refine ⟨I, ?_, m_f.r I, fun _ _ => rfl, fun q h1 h2 => by omega⟩
    unfold g_X5_copy_120
    rw [if_pos (nI_le (Nat.le_refl _) (by omega))]
  | succ m ih =>
    intro i f hi hf I
    obtain ⟨f, rfl⟩ : ∃ q, f = q + 1 := ⟨f - 1, by omega⟩
    obtain ⟨I', r1, r2, r3, r4⟩ := ih (i + 1) f (by omega) (by omega) (fw_u2 I 32 i (I 31 (60 * x + a + i)))
    refine ⟨I', ?_, (m_f.w (m_f.r I) (j := 32) (x := i) rfl).t r2, fun q hq => by rw [r3 q (by omega), fw_u2_ne _ _ (by omega)], fun q h1 h2 => ?_⟩
    · unfold g_X5_copy_120
      rw [if_neg (nI_ge (by omega) (by omega)), pk_mul, nI_add, nI_add, md_nI (by omega) (by decide), mw_nI (by omega) (by decide), nI_add]
      exact r1
    · by_cases z : q = i
      · subst z
        rw [r3 q (by omega), fw_u2_self]
      · rw [r4 q (by omega) h2, fw_u2_ne _ _ (by omega)]
theorem nn_of {x : Int32} (h : ¬ x < 0) : ∃ k, k < 2 ^ 31 ∧ x = nI k := by
  rcases bd_or x (N := 2 ^ 31 - 1) (by decide) with (q | q) | ⟨k, hk, e⟩
  · rw [nI_0] at q
    exact absurd q h
  · exfalso
    rw [Int32.lt_iff_toInt_lt, nI_toInt (by decide)] at q
    have := x.toInt_lt
    omega
  · exact ⟨k, by omega, e⟩
theorem m_o_copy (hB : p_B P) (x a y b n : Int32) : m_mu P Q (g_X5_copy x a y b n) (o_copy P Q x a y b n) := by
  intro I hP
  unfold g_X5_copy o_copy
  rcases bd_or x (N := 3) (by decide) with q | ⟨s, hs, rfl⟩
  · rw [if_pos q]
    exact ⟨I, by rw [m_sheetB q, mc_e, if_pos n0], hP⟩
  rw [if_neg (bd_no hs (by decide)), oN_e (show s < 2 ^ 31 by omega), m_sheetG hs, mc_e, if_neg n1]
  rcases bd_or y (N := 3) (by decide) with q | ⟨t, ht, rfl⟩
  · rw [if_pos q]
    exact ⟨I, by rw [m_sheetB q, mc_e, if_pos n0], hP⟩
  rw [if_neg (bd_no ht (by decide)), oN_e (show t < 2 ^ 31 by omega), m_sheetG ht, mc_e, if_neg n1]
  have meet : ∀ k, ∃ I', (mc (g_X5_meets (nI k) I) fun v2 I1 => some (v2, I1)) = some ((o_meets P Q k).1, I') ∧ m_P (o_meets P Q k).2.1 (o_meets P Q k).2.2 I' := fun k => by
    obtain ⟨I1, a1, a2⟩ := m_meet hP k
    exact ⟨I1, by rw [a1, mc_e], a2⟩
  have hBs := hB.2.2.2.2.2.2.2.1 s
  have hBt := hB.2.2.2.2.2.2.2.1 t
  rw [md_nI (by omega) (by decide), (hP.2.2.2.2.2.2.2.1 s (by omega)).1, i_z (by omega)]
  by_cases q1 : P 10 s = 0
  · rw [if_pos q1, if_pos q1]
    exact meet 1
  obtain ⟨e1, e2, e3⟩ := (hP.2.2.2.2.2.2.2.1 s (by omega)).2 (by omega)
  rw [if_neg q1, if_neg q1, md_nI (by omega) (by decide), (hP.2.2.2.2.2.2.2.1 t (by omega)).1, i_z (by omega)]
  by_cases q2 : P 10 t = 0
  · rw [if_pos q2, if_pos q2]
    exact meet 1
  obtain ⟨f1, f2, f3⟩ := (hP.2.2.2.2.2.2.2.1 t (by omega)).2 (by omega)
  rw [if_neg q2, if_neg q2, md_nI (by omega) (by decide), e1, md_nI (by omega) (by decide), f1, i_eq (by omega) (by omega)]
  by_cases q3 : P 11 s = P 11 t
  rotate_left
  · rw [if_neg q3, if_pos q3]
    exact meet 4
  rw [if_pos q3, if_neg (show ¬ ¬ (P 11 s = P 11 t) from fun z => z q3)]
  by_cases q4 : a < 0
  · rw [if_pos q4, if_pos (Or.inl q4)]
    exact meet 2
  by_cases q5 : b < 0
  · rw [if_neg q4, if_pos q5, if_pos (Or.inr (Or.inl q5))]
    exact meet 2
  by_cases q6 : n < 0
  · rw [if_neg q4, if_neg q5, if_pos q6, if_pos (Or.inr (Or.inr (Or.inl q6)))]
    exact meet 2
  rw [if_neg q4, if_neg q5, if_neg q6]
  obtain ⟨a, ha, rfl⟩ := nn_of q4
  obtain ⟨b, hb, rfl⟩ := nn_of q5
  obtain ⟨n, hn, rfl⟩ := nn_of q6
  rw [md_nI (by omega) (by decide), e2, nI_l (by omega), nI_l ha, nI_l hn, lN_add, nI_toInt ha, nI_toInt hb, nI_toInt hn]
  by_cases q7 : P 12 s < a + n
  · rw [if_pos ((pk_lLT (by omega) (by omega)).2 q7), if_pos (Or.inr (Or.inr (Or.inr (Or.inl (by omega)))))]
    exact meet 2
  rw [if_neg (fun z => q7 ((pk_lLT (by omega) (by omega)).1 z)), md_nI (by omega) (by decide), f2, nI_l hb, nI_l (by omega), lN_add]
  by_cases q8 : b + n ≤ P 12 t
  rotate_left
  · rw [if_neg (fun z => q8 ((pk_lLE (by omega) (by omega)).1 z)), if_pos (Or.inr (Or.inr (Or.inr (Or.inr (by omega)))))]
    exact meet 2
  rw [if_pos ((pk_lLE (by omega) (by omega)).2 q8), if_neg (by
    rintro (z | z | z | z | z)
    · exact q4 z
    · exact q5 z
    · exact q6 z
    · omega
    · omega), oN_e ha, oN_e hb, oN_e hn]
  obtain ⟨I1, a1, a2, -, a4⟩ := m_c120 (x := s) (a := a) (y := t) (b := b) (n := n) (by omega) (by omega) (by omega) n 0 fw_fuel (by omega) (by unfold fw_fuel; omega) I
  obtain ⟨I2, b1, b2, b3⟩ := m_c157 (y := t) (b := b) (n := n) (by omega) (by omega) n 0 fw_fuel (by omega) (by unfold fw_fuel; omega) I1
  have fr : m_f (fun j x => j = 32 ∨ (j = 31 ∧ 60 * t + b + 0 ≤ x ∧ x < 60 * t + b + n)) I I2 := (a2.m fun j x q => Or.inl q).t (b2.m fun j x q => Or.inr q)
  refine ⟨I2, a1.trans b1, ?_⟩
  obtain ⟨p1, p2, p3, p4, p5, p6, p7, p8, p9⟩ := hP
  refine ⟨fun u hu => (fr 1 u (by omega)).trans (p1 u hu), fun u i hu hi => (fr 2 _ (by omega)).trans (p2 u i hu hi), (fr 0 8 (by omega)).trans p3, (fr 0 9 (by omega)).trans p4, fun e he => ?_, (fr 0 37 (by omega)).trans p6, fun e he => ?_, fun u hu => ⟨(fr 28 u (by omega)).trans (p8 u hu).1, fun y => ⟨(fr 29 u (by omega)).trans ((p8 u hu).2 y).1, (fr 30 u (by omega)).trans ((p8 u hu).2 y).2.1, fun j hj => ?_⟩⟩, (fr 0 46 (by omega)).trans p9⟩
  · rw [fr 9 e (by omega), fr 10 e (by omega), fr 11 e (by omega)]
    exact p5 e he
  · rw [fr 25 e (by omega), fr 26 e (by omega)]
    exact p7 e he
  · dsimp only
    have hj : j < P 12 u := hj
    by_cases z : 60 * t + b ≤ 60 * u + j ∧ 60 * u + j < 60 * t + b + n
    · rw [if_pos z]
      have h1 := b3 (60 * u + j - (60 * t + b)) (Nat.zero_le _) (by omega)
      rw [show 60 * t + b + (60 * u + j - (60 * t + b)) = 60 * u + j by omega] at h1
      rw [h1, a4 _ (Nat.zero_le _) (by omega), show 60 * s + a + (60 * u + j - (60 * t + b)) = 60 * s + (a + (60 * u + j - (60 * t + b))) by omega]
      exact e3 _ (by omega)
    · rw [if_neg z, fr 31 _ (by omega)]
      exact ((p8 u hu).2 y).2.2 j hj
theorem m_w31 {C : CF} (hC : c_B C) {s f n : Nat} (hs : s < 4) (hf : f ≤ 2) (hn : n ≤ 60) : ∀ (m i k : Nat), i + m = min n 24 → m < k → ∀ I : MI, I 29 s = nI f → I 30 s = nI n → (∀ q, q < 24 → I 19 q = nI (c_rs C (q + 1) 0 0)) →
    ∃ I', g_X5_write_31 k (nI s) (nI i) I = some (nI (min n 24), I') ∧ m_f (fun j x => j = 31 ∧ 60 * s + i ≤ x ∧ x < 60 * s + min n 24) I I' ∧ ∀ q, i ≤ q → q < min n 24 → I' 31 (60 * s + q) = o_nw f (nI (c_rs C (q + 1) 0 0)) := by
  intro m
  induction m with
  | zero =>
    intro i k hi hk I e29 e30 h19
    obtain ⟨k, rfl⟩ : ∃ q, k = q + 1 := ⟨k - 1, by omega⟩
    refine ⟨I, ?_, m_f.r I, fun q h1 h2 => by omega⟩
    unfold g_X5_write_31
    rw [md_nI (by omega) (by decide), e30, i_le (by omega) (by omega), i_le (by decide) (by omega)]
    have : i = min n 24 := by omega
    by_cases q : n ≤ i
    · rw [if_pos q, this]
    · rw [if_neg q, if_pos (by omega), this]
  | succ m ih =>
    intro i k hi hk I e29 e30 h19
    obtain ⟨k, rfl⟩ : ∃ q, k = q + 1 := ⟨k - 1, by omega⟩
    obtain ⟨I', r1, r2, r3⟩ := ih (i + 1) k (by omega) (by omega) (fw_u2 I 31 (60 * s + i) (o_nw f (nI (c_rs C (i + 1) 0 0)))) (by rw [fw_u2_ne _ _ (by omega)]; exact e29) (by rw [fw_u2_ne _ _ (by omega)]; exact e30) (fun q hq => by rw [fw_u2_ne _ _ (by omega)]; exact h19 q hq)
    refine ⟨I', ?_, ((m_f.r I).w (by omega)).t (r2.m fun j x q => by omega), fun q h1 h2 => ?_⟩
    · unfold g_X5_write_31
      rw [md_nI (by omega) (by decide), e30, if_neg (nI_ge (by omega) (by omega)), if_neg (nI_ge (by omega) (by omega)), md_nI (by omega) (by decide), h19 i (by omega), m_keep hs (by omega) hf e29, mc_e, nI_add]
      exact r1
    · by_cases z : q = i
      · subst z
        rw [r2 31 _ (by omega), fw_u2_self]
      · exact r3 q (by omega) h2
theorem m_o_write (hB : p_B P) (x : Int32) : m_mu P Q (g_X5_write x) (o_write P Q x) := by
  intro I hP
  unfold g_X5_write o_write
  rcases bd_or x (N := 3) (by decide) with q | ⟨s, hs, rfl⟩
  · rw [if_pos q]
    exact ⟨I, by rw [m_sheetB q, mc_e, if_pos n0], hP⟩
  have hBs := hB.2.2.2.2.2.2.2.1 s
  rw [if_neg (bd_no hs (by decide)), oN_e (show s < 2 ^ 31 by omega), m_sheetG hs, mc_e, if_neg n1, md_nI (by omega) (by decide), (hP.2.2.2.2.2.2.2.1 s (by omega)).1, i_z (by omega)]
  by_cases q1 : P 10 s = 0
  · rw [if_pos q1, if_pos q1]
    obtain ⟨I1, a1, a2⟩ := m_meet hP 1
    exact ⟨I1, by rw [a1, mc_e], a2⟩
  obtain ⟨I1, a1, a2, -, -, a5⟩ := m_runsTold hB hP
  have hP1 := a2.1
  obtain ⟨e1, e2, e3⟩ := (hP1.2.2.2.2.2.2.2.1 s (by omega)).2 (by omega)
  obtain ⟨I2, b1, fr, b3⟩ := m_w31 (c_to_B hB) (s := s) (f := P 11 s) (n := P 12 s) (by omega) (by omega) (by omega) (min (P 12 s) 24) 0 fw_fuel (by omega) (by unfold fw_fuel; omega) I1 e1 e2 (fun q hq => (a5 q hq).1)
  rw [if_neg q1, if_neg q1, a1, mc_e]
  refine ⟨I2, b1, ?_⟩
  obtain ⟨p1, p2, p3, p4, p5, p6, p7, p8, p9⟩ := hP1
  refine ⟨fun u hu => (fr 1 u (by omega)).trans (p1 u hu), fun u i hu hi => (fr 2 _ (by omega)).trans (p2 u i hu hi), (fr 0 8 (by omega)).trans p3, (fr 0 9 (by omega)).trans p4, fun e he => ?_, (fr 0 37 (by omega)).trans p6, fun e he => ?_, fun u hu => ⟨(fr 28 u (by omega)).trans (p8 u hu).1, fun y => ⟨(fr 29 u (by omega)).trans ((p8 u hu).2 y).1, (fr 30 u (by omega)).trans ((p8 u hu).2 y).2.1, fun j hj => ?_⟩⟩, (fr 0 46 (by omega)).trans p9⟩
  · rw [fr 9 e (by omega), fr 10 e (by omega), fr 11 e (by omega)]
    exact p5 e he
  · rw [fr 25 e (by omega), fr 26 e (by omega)]
    exact p7 e he
  · dsimp only
    have hj : j < P 12 u := hj
    by_cases z : 60 * s ≤ 60 * u + j ∧ 60 * u + j < 60 * s + min (P 12 s) 24
    · rw [if_pos z]
      have h1 := b3 (60 * u + j - 60 * s) (Nat.zero_le _) (by omega)
      rw [show 60 * s + (60 * u + j - 60 * s) = 60 * u + j by omega] at h1
      exact h1
    · rw [if_neg z, fr 31 _ (by omega)]
      exact ((p8 u hu).2 y).2.2 j hj
end Su
