set_option maxRecDepth 100000
/-! The model reads its calls; as it is told. -/
section Mu
variable {P : CF} {Q : Nat → Int32}
theorem m_callBy {y : Nat} (hy : y < 256) (I : MI) : g_X5_callBy (nI y) I = some (if c_co y < 3 then nI (c_co y) else -nI 1, I) := by
  unfold g_X5_callBy c_co
  rw [i_eq (by omega) (by decide)]
  by_cases h1 : y = 114
  · simp [h1]
  · rw [if_neg h1, i_eq (by omega) (by decide)]
    by_cases h2 : y = 112
    · simp [h2]
    · rw [if_neg h2, i_eq (by omega) (by decide)]
      by_cases h3 : y = 104
      · simp [h3]
      · simp [h1, h2, h3]
abbrev m_vc (u j x : Nat) : Prop := (j = 8 ∧ 24 * u ≤ x ∧ x < 24 * u + 24) ∨ (j = 7 ∧ x = u)
theorem m_72 (hB : p_B P) {u : Nat} (hu : u < 2) (hall : ∀ b, b < P 0 (u + 2) → c_co (p_y P (u + 2) b) < 3) : ∀ (m i f : Nat), i + m = P 0 (u + 2) → m < f → ∀ I : MI, m_P P Q I → (∀ b, b < 24 → I 8 (24 * u + b) = nI (if b < i then c_co (p_y P (u + 2) b) else 1)) →
    ∃ I', g_X5_readsCalls_72 f (nI u) (nI (u + 2)) (nI i) I = some (-nI 1, I') ∧ m_f (m_vc u) I I' ∧ I' 7 u = nI (P 0 (u + 2)) ∧ ∀ b, b < 24 → I' 8 (24 * u + b) = nI (if b < P 0 (u + 2) then c_co (p_y P (u + 2) b) else 1) := by
  have hT := hB.1 (u + 2)
  rw [if_neg (by omega)] at hT
  intro m
  induction m with
  | zero =>
    intro i f hi hf I hP hb
    obtain ⟨f, rfl⟩ : ∃ q, f = q + 1 := ⟨f - 1, by omega⟩
    obtain rfl : i = P 0 (u + 2) := by omega
    refine ⟨fw_u2 I 7 u (nI (P 0 (u + 2))), ?_, (m_f.r I).w (Or.inr ⟨rfl, rfl⟩), fw_u2_self _ _ _ _, fun b hb2 => by rw [fw_u2_ne _ _ (by omega)]; exact hb b hb2⟩
    unfold g_X5_readsCalls_72
    rw [md_nI (by omega) (by decide), hP.1 _ (by omega), if_pos (nI_le (Nat.le_refl _) (by omega)), md_nI (by omega) (by decide), hP.1 _ (by omega), mw_nI (by omega) (by decide)]
  | succ m ih =>
    intro i f hi hf I hP hb
    obtain ⟨f, rfl⟩ : ∃ q, f = q + 1 := ⟨f - 1, by omega⟩
    have hy := hB.2.1 (31 * (u + 2) + i)
    have f1 : m_f (m_vc u) I (fw_u2 I 8 (24 * u + i) (nI (c_co (p_y P (u + 2) i)))) := (m_f.r I).w (Or.inl ⟨rfl, by omega, by omega⟩)
    obtain ⟨I', r1, r2, r3, r4⟩ := ih (i + 1) f (by omega) (by omega) (fw_u2 I 8 (24 * u + i) (nI (c_co (p_y P (u + 2) i)))) (hP.f (f1.m (fun j x q => by omega))) (fun b hb2 => by
      by_cases q : b = i
      · subst q; rw [fw_u2_self, if_pos (by omega)]
      · rw [fw_u2_ne _ _ (by omega), hb b hb2]
        by_cases q2 : b < i
        · rw [if_pos q2, if_pos (by omega)]
        · rw [if_neg q2, if_neg (by omega)])
    refine ⟨I', ?_, f1.t r2, r3, r4⟩
    unfold g_X5_readsCalls_72
    rw [md_nI (by omega) (by decide), hP.1 _ (by omega), if_neg (nI_ge (by omega) (by omega)), m_byteAt hB hP (by omega) (by omega), mc_e, show m_by (p_y P (u + 2)) (P 0 (u + 2)) i = nI (p_y P (u + 2) i) from if_pos (by omega), m_callBy (show p_y P (u + 2) i < 256 from Nat.lt_succ_of_le hy), mc_e, if_pos (hall i (by omega)), pk_mul, nI_add, mw_nI (by omega) (by decide), nI_add]
    exact r1
theorem m_39 (hB : p_B P) {u : Nat} (hu : u < 2) : ∀ (m i f : Nat), i + m = P 0 (u + 2) → m < f → ∀ I : MI, m_P P Q I → (∀ b, b < i → c_co (p_y P (u + 2) b) < 3) → I 7 u = nI 0 → (∀ b, b < 24 → I 8 (24 * u + b) = nI 1) →
    ∃ I', g_X5_readsCalls_39 f (nI u) (nI (u + 2)) (nI i) I = some (c_fa P (u + 2), I') ∧ m_f (m_vc u) I I' ∧ I' 7 u = nI (c_ma P (u + 2)) ∧ ∀ b, b < 24 → I' 8 (24 * u + b) = nI (c_cl P u b) := by
  have hT := hB.1 (u + 2)
  rw [if_neg (by omega)] at hT
  intro m
  induction m with
  | zero =>
    intro i f hi hf I hP hg h7 h8
    obtain ⟨f, rfl⟩ : ∃ q, f = q + 1 := ⟨f - 1, by omega⟩
    obtain rfl : i = P 0 (u + 2) := by omega
    have e := c_cf_all hg
    obtain ⟨I', r1, r2, r3, r4⟩ := m_72 (Q := Q) hB hu hg (P 0 (u + 2)) 0 fw_fuel (by omega) (by unfold fw_fuel; omega) I hP (fun b hb => by rw [h8 b hb, if_neg (by omega)])
    refine ⟨I', ?_, r2, ?_, fun b hb => ?_⟩
    · unfold g_X5_readsCalls_39 c_fa
      rw [md_nI (by omega) (by decide), hP.1 _ (by omega), if_pos (nI_le (Nat.le_refl _) (by omega)), r1, if_neg (show ¬ u + 2 < 2 by omega), if_pos e]
    · unfold c_ma
      rw [r3, if_neg (show ¬ u + 2 < 2 by omega), if_pos e]
    · unfold c_cl
      rw [r4 b hb]
      by_cases q : b < P 0 (u + 2)
      · rw [if_pos q, if_pos ⟨e, q⟩, Nat.min_eq_left (by have := hg b q; omega)]
      · rw [if_neg q, if_neg (fun z => q z.2)]
  | succ m ih =>
    intro i f hi hf I hP hg h7 h8
    obtain ⟨f, rfl⟩ : ∃ q, f = q + 1 := ⟨f - 1, by omega⟩
    have hy := hB.2.1 (31 * (u + 2) + i)
    have hco := c_co_le (p_y P (u + 2) i)
    unfold g_X5_readsCalls_39
    rw [md_nI (by omega) (by decide), hP.1 _ (by omega), if_neg (nI_ge (by omega) (by omega)), m_byteAt hB hP (by omega) (by omega), mc_e, show m_by (p_y P (u + 2)) (P 0 (u + 2)) i = nI (p_y P (u + 2) i) from if_pos (by omega), m_callBy (show p_y P (u + 2) i < 256 from Nat.lt_succ_of_le hy), mc_e]
    by_cases hc : c_co (p_y P (u + 2) i) < 3
    · rw [if_pos hc, if_neg (nI_m1 (by omega)), nI_add]
      exact ih (i + 1) f (by omega) (by omega) I hP (fun b hb => by
        by_cases q : b = i
        · subst q; exact hc
        · exact hg b (by omega)) h7 h8
    · have e := c_cf_at hg hc (T := P 0 (u + 2)) (by omega)
      rw [if_neg hc, if_pos rfl]
      refine ⟨I, ?_, m_f.r I, ?_, fun b hb => ?_⟩
      · unfold c_fa
        rw [if_neg (show ¬ u + 2 < 2 by omega), e, if_neg (by omega)]
      · unfold c_ma
        rw [h7, if_neg (show ¬ u + 2 < 2 by omega), e, if_neg (by omega)]
      · unfold c_cl
        rw [h8 b hb, e, if_neg (fun q => by omega)]
theorem m_13 (hB : p_B P) {u : Nat} (hu : u < 2) : ∀ (m i f : Nat), i + m = 24 → m < f → ∀ I : MI, m_P P Q I → I 7 u = nI 0 → (∀ b, b < i → I 8 (24 * u + b) = nI 1) →
    ∃ I', g_X5_readsCalls_13 f (nI u) (nI (u + 2)) (nI i) I = some (c_fa P (u + 2), I') ∧ m_f (m_vc u) I I' ∧ I' 7 u = nI (c_ma P (u + 2)) ∧ ∀ b, b < 24 → I' 8 (24 * u + b) = nI (c_cl P u b) := by
  have hT := hB.1 (u + 2)
  rw [if_neg (by omega)] at hT
  intro m
  induction m with
  | zero =>
    intro i f hi hf I hP h7 h8
    obtain ⟨f, rfl⟩ : ∃ q, f = q + 1 := ⟨f - 1, by omega⟩
    obtain rfl : i = 24 := by omega
    unfold g_X5_readsCalls_13
    rw [if_pos (by decide)]
    exact m_39 hB hu (P 0 (u + 2)) 0 fw_fuel (by omega) (by unfold fw_fuel; omega) I hP (fun b hb => by omega) h7 h8
  | succ m ih =>
    intro i f hi hf I hP h7 h8
    obtain ⟨f, rfl⟩ : ∃ q, f = q + 1 := ⟨f - 1, by omega⟩
    have f1 : m_f (m_vc u) I (fw_u2 I 8 (24 * u + i) (nI 1)) := (m_f.r I).w (Or.inl ⟨rfl, by omega, by omega⟩)
    obtain ⟨I', r1, r2, r3, r4⟩ := ih (i + 1) f (by omega) (by omega) (fw_u2 I 8 (24 * u + i) (nI 1)) (hP.f (f1.m (fun j x q => by omega))) (by rw [fw_u2_ne _ _ (by omega)]; exact h7) (fun b hb => by
      by_cases q : b = i
      · subst q; rw [fw_u2_self]
      · rw [fw_u2_ne _ _ (by omega)]; exact h8 b (by omega))
    refine ⟨I', ?_, f1.t r2, r3, r4⟩
    unfold g_X5_readsCalls_13
    rw [if_neg (nI_ge (by omega) (by decide)), pk_mul, nI_add, mw_nI (by omega) (by decide), nI_add]
    exact r1
theorem m_readsCalls (hB : p_B P) {u : Nat} (hu : u < 2) {I : MI} (hP : m_P P Q I) : ∃ I', g_X5_readsCalls (nI u) I = some (c_fa P (u + 2), I') ∧ m_f (m_vc u) I I' ∧ I' 7 u = nI (c_ma P (u + 2)) ∧ ∀ b, b < 24 → I' 8 (24 * u + b) = nI (c_cl P u b) := by
  have f1 : m_f (m_vc u) I (fw_u2 I 7 u (nI 0)) := (m_f.r I).w (Or.inr ⟨rfl, rfl⟩)
  obtain ⟨I', r1, r2, r3, r4⟩ := m_13 (Q := Q) hB hu 24 0 fw_fuel rfl (by decide) (fw_u2 I 7 u (nI 0)) (hP.f (f1.m (fun j x q => by omega))) (fw_u2_self _ _ _ _) (fun b hb => by omega)
  refine ⟨I', ?_, f1.t r2, r3, r4⟩
  unfold g_X5_readsCalls
  rw [mw_nI (by omega) (by decide), nI_add]
  exact r1
/-- what the four texts tell -/
def m_R (P : CF) (I : MI) : Prop := (∀ t, t < 2 → I 3 t = nI (c_ma P t) ∧ m_pu (p_y P t) t (c_ma P t) I) ∧ (∀ u, u < 2 → I 7 u = nI (c_ma P (u + 2)) ∧ ∀ b, b < 24 → I 8 (24 * u + b) = nI (c_cl P u b))
theorem c_ma_le (hB : p_B P) {t : Nat} (ht : t < 2) : c_ma P t ≤ 8 := by
  have hT := hB.1 t
  rw [if_pos ht] at hT
  unfold c_ma
  rw [if_pos ht]
  exact c_te_le hT
abbrev m_vr (j _x : Nat) : Prop := 3 ≤ j ∧ j ≤ 8
theorem m_R.f {I I' : MI} (hB : p_B P) (h : m_R P I) (e : ∀ j x, m_vr j x → I' j x = I j x) : m_R P I' := by
  refine ⟨fun t ht => ⟨(e 3 t (by omega)).trans (h.1 t ht).1, fun i hi => ?_⟩, fun u hu => ⟨(e 7 u (by omega)).trans (h.2 u hu).1, fun b hb => (e 8 _ (by omega)).trans ((h.2 u hu).2 b hb)⟩⟩
  rw [e 4 _ (by omega), e 5 _ (by omega), e 6 _ (by omega)]
  exact (h.1 t ht).2 i hi
theorem m_faultOf (hB : p_B P) {x : Nat} (hx : x < 4) {I : MI} (hP : m_P P Q I) : ∃ I', g_X5_faultOf (nI x) I = some (c_fa P x, I') ∧ m_f m_vr I I' ∧ m_R P I' := by
  obtain ⟨I1, a1, a2, a3, a4⟩ := m_readsTeam hB (show 0 < 2 by decide) hP
  have hP1 := hP.f (a2.m (fun j x q => by omega))
  obtain ⟨I2, b1, b2, b3, b4⟩ := m_readsTeam hB (show 1 < 2 by decide) hP1
  have hP2 := hP1.f (b2.m (fun j x q => by omega))
  obtain ⟨I3, c1, c2, c3, c4⟩ := m_readsCalls hB (show 0 < 2 by decide) hP2
  have hP3 := hP2.f (c2.m (fun j x q => by omega))
  obtain ⟨I4, d1, d2, d3, d4⟩ := m_readsCalls hB (show 1 < 2 by decide) hP3
  have h0 := c_ma_le hB (show 0 < 2 by decide)
  have h1 := c_ma_le hB (show 1 < 2 by decide)
  refine ⟨I4, ?_, ((a2.m (fun j x q => by omega)).t (b2.m (fun j x q => by omega))).t ((c2.m (fun j x q => by omega)).t (d2.m (fun j x q => by omega))), fun t ht => ?_, fun u hu => ?_⟩
  · unfold g_X5_faultOf
    rw [a1, mc_e, b1, mc_e, c1, mc_e, d1, mc_e, i_z (by omega)]
    rcases (show x = 0 ∨ x = 1 ∨ x = 2 ∨ x = 3 by omega) with q | q | q | q <;> subst q
    · rfl
    · rfl
    · rfl
    · rfl
  · have e3 : ∀ j x, (j = 3 ∨ j = 4 ∨ j = 5 ∨ j = 6) → I4 j x = I2 j x := fun j x q => (d2 j x (by omega)).trans (c2 j x (by omega))
    rcases (show t = 0 ∨ t = 1 by omega) with q | q <;> subst q
    · refine ⟨by rw [e3 _ _ (by omega), b2 _ _ (by omega)]; exact a3, fun i hi => ?_⟩
      rw [e3 _ _ (by omega), b2 _ _ (by omega), e3 _ _ (by omega), b2 _ _ (by omega), e3 _ _ (by omega), b2 _ _ (by omega)]
      exact a4 i hi
    · refine ⟨by rw [e3 _ _ (by omega)]; exact b3, fun i hi => ?_⟩
      rw [e3 _ _ (by omega), e3 _ _ (by omega), e3 _ _ (by omega)]
      exact b4 i hi
  · rcases (show u = 0 ∨ u = 1 by omega) with q | q <;> subst q
    · exact ⟨by rw [d2 _ _ (by omega)]; exact c3, fun b hb => by rw [d2 _ _ (by omega)]; exact c4 b hb⟩
    · exact ⟨d3, d4⟩
theorem m_reads (hB : p_B P) {I : MI} (hP : m_P P Q I) : ∃ I', g_X5_reads I = some ((), I') ∧ m_f m_vr I I' ∧ m_R P I' := by
  obtain ⟨I', r1, r2, r3⟩ := m_faultOf hB (show 0 < 4 by decide) hP
  refine ⟨I', ?_, r2, r3⟩
  unfold g_X5_reads
  rw [r1, mc_e]
theorem m_as6 {I0 : MI} : ∀ (m i f : Nat), i + m = 48 → m < f → ∀ I : MI, (∀ x, I 8 x = I0 8 x) → (∀ x, x < i → I 12 x = I0 8 x) → ∃ I', g_X5_asTold_6 f (nI i) I = g_X5_asTold_37 fw_fuel (nI 0) I' ∧ m_f (fun j x => j = 12 ∨ (j = 0 ∧ x = 14)) I I' ∧ (∀ x, x < 48 → I' 12 x = I0 8 x) ∧ I' 0 14 = nI 0 := by
  intro m
  induction m with
  | zero =>
    intro i f hi hf I h8 h12
    obtain ⟨f, rfl⟩ : ∃ q, f = q + 1 := ⟨f - 1, by omega⟩
    obtain rfl : i = 48 := by omega
    refine ⟨fw_u2 I 0 14 (nI 0), ?_, (m_f.r I).w (Or.inr ⟨rfl, rfl⟩), fun x hx => by rw [fw_u2_ne _ _ (by omega)]; exact h12 x hx, fw_u2_self _ _ _ _⟩
    unfold g_X5_asTold_6
    rw [if_pos (by decide), mp_e]
  | succ m ih =>
    intro i f hi hf I h8 h12
    obtain ⟨f, rfl⟩ : ∃ q, f = q + 1 := ⟨f - 1, by omega⟩
    have f1 : m_f (fun j x => j = 12 ∨ (j = 0 ∧ x = 14)) I (fw_u2 I 12 i (I 8 i)) := (m_f.r I).w (Or.inl rfl)
    obtain ⟨I', r1, r2, r3, r4⟩ := ih (i + 1) f (by omega) (by omega) (fw_u2 I 12 i (I 8 i)) (fun x => by rw [fw_u2_ne _ _ (by omega)]; exact h8 x) (fun x hx => by
      by_cases q : x = i
      · subst q; rw [fw_u2_self]; exact h8 x
      · rw [fw_u2_ne _ _ (by omega)]; exact h12 x (by omega))
    refine ⟨I', ?_, f1.t r2, r3, r4⟩
    unfold g_X5_asTold_6
    rw [if_neg (nI_ge (by omega) (by decide)), md_nI (by omega) (by decide), mw_nI (by omega) (by decide), nI_add]
    exact r1
theorem m_as37 : ∀ (m i f : Nat), i + m = 16 → m < f → ∀ I : MI, (∀ x, x < i → I 13 x = nI (x % 8)) → ∃ I', g_X5_asTold_37 f (nI i) I = some ((), I') ∧ m_f (fun j x => j = 13 ∨ (j = 0 ∧ x = 16)) I I' ∧ (∀ x, x < 16 → I' 13 x = nI (x % 8)) ∧ I' 0 16 = -nI 1 := by
  intro m
  induction m with
  | zero =>
    intro i f hi hf I h
    obtain ⟨f, rfl⟩ : ∃ q, f = q + 1 := ⟨f - 1, by omega⟩
    obtain rfl : i = 16 := by omega
    refine ⟨fw_u2 I 0 16 (-nI 1), ?_, (m_f.r I).w (Or.inr ⟨rfl, rfl⟩), fun x hx => by rw [fw_u2_ne _ _ (by omega)]; exact h x hx, fw_u2_self _ _ _ _⟩
    unfold g_X5_asTold_37
    rw [if_pos (by decide), mp_e]
  | succ m ih =>
    intro i f hi hf I h
    obtain ⟨f, rfl⟩ : ∃ q, f = q + 1 := ⟨f - 1, by omega⟩
    have f1 : m_f (fun j x => j = 13 ∨ (j = 0 ∧ x = 16)) I (fw_u2 I 13 i (nI (i % 8))) := (m_f.r I).w (Or.inl rfl)
    obtain ⟨I', r1, r2, r3, r4⟩ := ih (i + 1) f (by omega) (by omega) (fw_u2 I 13 i (nI (i % 8))) (fun x hx => by
      by_cases q : x = i
      · subst q; rw [fw_u2_self]
      · rw [fw_u2_ne _ _ (by omega)]; exact h x (by omega))
    refine ⟨I', ?_, f1.t r2, r3, r4⟩
    unfold g_X5_asTold_37
    rw [if_neg (nI_ge (by omega) (by decide)), pk_rem (by omega) (by decide) (by decide), mw_nI (by omega) (by decide), nI_add]
    exact r1
abbrev m_va (j x : Nat) : Prop := (3 ≤ j ∧ j ≤ 8) ∨ j = 12 ∨ j = 13 ∨ (j = 0 ∧ (x = 14 ∨ x = 16))
/-- as it is told -/
theorem m_asTold (hB : p_B P) {I : MI} (hP : m_P P Q I) : ∃ I', g_X5_asTold I = some ((), I') ∧ m_f m_va I I' ∧ m_R P I' ∧ m_CM (c_to P) I' ∧ (∀ k, k < 16 → I' 13 k = nI (k % 8)) ∧ I' 0 14 = nI 0 ∧ I' 0 16 = -nI 1 := by
  obtain ⟨I1, a1, a2, a3⟩ := m_reads hB hP
  obtain ⟨I2, b1, b2, b3, b4⟩ := m_as6 (I0 := I1) 48 0 fw_fuel rfl (by decide) I1 (fun _ => rfl) (fun x hx => by omega)
  obtain ⟨I3, c1, c2, c3, c4⟩ := m_as37 16 0 fw_fuel rfl (by decide) I2 (fun x hx => by omega)
  have hf : m_f m_va I I3 := ((a2.m (fun j x q => by omega)).t (b2.m (fun j x q => by omega))).t (c2.m (fun j x q => by omega))
  have hR3 : m_R P I3 := a3.f hB (fun j x q => by rw [c2 j x (by omega), b2 j x (by omega)])
  have hP3 : m_P P Q I3 := hP.f (hf.m (fun j x q => by omega))
  refine ⟨I3, ?_, hf, hR3, ⟨fun t ht => ?_, fun k hk => ?_, fun x hx => ?_, hP3.2.2.1, hP3.2.2.2.1, fun e he => ?_, fun k hk => ?_⟩, c3, ?_, c4⟩
  · unfold g_X5_asTold
    rw [a1, mc_e, b1, c1]
  · rw [(hR3.1 t ht).1]
    show _ = nI (if t < 2 then c_ma P t else 0)
    rw [if_pos ht]
  · have hk1 := hk.1
    have hk2 : k % 8 < (if k / 8 < 2 then c_ma P (k / 8) else 0) := hk.2
    rw [if_pos (by omega)] at hk2
    have hg := c_te_good (y := p_y P (k / 8)) (T := P 0 (k / 8)) (k % 8) (by
      have : (c_te (p_y P (k / 8)) (P 0 (k / 8))).2 = c_ma P (k / 8) := (if_pos (by omega)).symm
      rw [this]; exact hk2)
    obtain ⟨g1, g2, g3⟩ := c_g_3 hg
    obtain ⟨p1, p2, p3⟩ := (hR3.1 (k / 8) (by omega)).2 (k % 8) hk2
    rw [show 8 * (k / 8) + k % 8 = k by omega] at p1 p2 p3
    refine ⟨p1.trans (congrArg nI ?_), p2.trans (congrArg nI ?_), p3.trans (congrArg nI ?_)⟩
    · exact (Nat.min_eq_left (by omega)).symm
    · exact (Nat.min_eq_left (by omega)).symm
    · exact (Nat.min_eq_left (by omega)).symm
  · have := (hR3.2 (x / 24) (by omega)).2 (x % 24) (by omega)
    rw [show 24 * (x / 24) + x % 24 = x by omega] at this
    rw [c2 12 x (by omega), b3 x hx, ← b2 8 x (by omega), ← c2 8 x (by omega), this]
    rfl
  · obtain ⟨e1, e2, e3⟩ := hP3.2.2.2.2.1 e he
    refine ⟨e1, e2, e3, ?_⟩
    rw [c2 0 14 (by omega), b4, nI_0]
    exact ⟨fun q => absurd ((b_0 e).symm.trans q) (by decide), fun q => absurd rfl q⟩
  · rw [c4]
    exact ⟨fun q => absurd q (nI_m1 (by omega)), fun q => by have : (16 : Nat) = k := q; omega⟩
  · rw [c2 0 14 (by omega)]; exact b4
/-- the told places -/
theorem m_PL_to (hB : p_B P) {I : MI} (h : ∀ k, k < 16 → I 13 k = nI (k % 8)) {C : CF} (h0 : ∀ t, t < 2 → C 0 t = c_ma P t) (h11 : ∀ t, t < 2 → C 11 t = if c_ma P t = 0 then 16 else 8 * t + c_ma P t - 1) (h12 : 16 ≤ C 12 0) : m_PL C I := by
  refine ⟨fun k => k % 8, fun k hk => ⟨h k hk, by show k % 8 ≤ 100; omega⟩, fun k hk => ?_, fun j k hj hk hd he => by have he : j % 8 = k % 8 := he; omega⟩
  have hk1 := hk.1.1
  have hk2 := hk.1.2
  have ht : k / 8 < 2 := by omega
  rw [h0 _ ht] at hk2
  rw [h11 _ ht, if_neg (by omega)]
  constructor
  · intro e j hj hjt
    have hj1 := hj.1.1
    have hj2 := hj.1.2
    rw [hjt, h0 _ ht] at hj2
    show j % 8 ≤ k % 8
    omega
  · intro e
    have hm8 := c_ma_le hB ht
    have := e (8 * (k / 8) + c_ma P (k / 8) - 1) ⟨⟨by omega, by rw [show (8 * (k / 8) + c_ma P (k / 8) - 1) / 8 = k / 8 by omega, h0 _ ht]; omega⟩, by omega⟩ (by omega)
    have this : (8 * (k / 8) + c_ma P (k / 8) - 1) % 8 ≤ k % 8 := this
    omega
end Mu
