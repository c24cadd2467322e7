set_option maxRecDepth 100000
/-! The model's digest. -/
section Md
variable {P : CF} {Q : Nat → Int32}
theorem m_K.there (hB : p_B P) {I : MI} (h : m_K P Q I) {k : Nat} (hk : k < 16) : g_X5_isThereOne (nI k) I = some (if k % 8 < c_ma P (k / 8) then nI 1 else nI 0, I) := by
  have h0 := c_ma_le hB (show k / 8 < 2 by omega)
  have e := (h.2.1 (k / 8) (by omega)).1
  unfold g_X5_isThereOne
  rw [m_in (by omega) (by decide) (by decide), if_pos (by omega), mc_e, if_neg (by decide), pk_rem (by omega) (by decide) (by decide), pk_div (by omega) (by decide) (by decide), md_nI (by omega) (by decide), e, i_le (by omega) (by omega)]
  by_cases h : k % 8 < c_ma P (k / 8)
  · rw [if_neg (by omega), if_pos h]
  · rw [if_pos (by omega), if_neg h]
theorem m_K.pu (hB : p_B P) {I : MI} (h : m_K P Q I) {k : Nat} (hk : k < 16) (hk2 : k % 8 < c_ma P (k / 8)) : I 4 k = nI (c_to P 1 k) ∧ I 5 k = nI (c_to P 2 k) ∧ I 6 k = nI (c_to P 3 k) := by
  have hg := c_te_good (y := p_y P (k / 8)) (T := P 0 (k / 8)) (k % 8) (by
    have : (c_te (p_y P (k / 8)) (P 0 (k / 8))).2 = c_ma P (k / 8) := (if_pos (by omega)).symm
    rw [this]; exact hk2)
  obtain ⟨g1, g2, g3⟩ := c_g_3 hg
  obtain ⟨p1, p2, p3⟩ := (h.2.1 (k / 8) (by omega)).2 (k % 8) hk2
  rw [show 8 * (k / 8) + k % 8 = k by omega] at p1 p2 p3
  refine ⟨p1.trans (congrArg nI ?_), p2.trans (congrArg nI ?_), p3.trans (congrArg nI ?_)⟩
  · exact (Nat.min_eq_left (by omega)).symm
  · exact (Nat.min_eq_left (by omega)).symm
  · exact (Nat.min_eq_left (by omega)).symm
theorem m_pullerOf (hB : p_B P) {I : MI} (h : m_K P Q I) {k w : Nat} (hk : k < 16) (hk2 : k % 8 < c_ma P (k / 8)) (hw : w < 3) : g_X5_pullerOf (nI k) (nI w) I = some (nI (c_to P (w + 1) k), I) := by
  obtain ⟨h1, h2, h3⟩ := h.pu hB hk hk2
  unfold g_X5_pullerOf
  rw [i_z (by omega), i_eq (by omega) (by decide), md_nI (by omega) (by decide), md_nI (by omega) (by decide), md_nI (by omega) (by decide), h1, h2, h3]
  rcases (show w = 0 ∨ w = 1 ∨ w = 2 by omega) with q | q | q <;> subst q
  · rw [if_pos rfl]
  · rw [if_neg (by decide), if_pos rfl]
  · rw [if_neg (by decide), if_neg (by decide)]
theorem m_callOf (hB : p_B P) {I : MI} (hP : m_P P Q I) {u b : Nat} (hu : u < 2) (hb : b < 24) : ∃ I', g_X5_callOf (nI u) (nI b) I = some (nI (c_to P 4 (24 * u + b)), I') ∧ m_K P Q I' := by
  obtain ⟨I1, a1, a2, a3⟩ := m_reads hB hP
  refine ⟨I1, ?_, hP.f (a2.m fun j x q => by omega), a3⟩
  unfold g_X5_callOf
  rw [a1, mc_e, pk_mul, nI_add, md_nI (by omega) (by decide), (a3.2 u hu).2 b hb]
  show _ = some (nI (c_cl P ((24 * u + b) / 24) ((24 * u + b) % 24)), I1)
  rw [show (24 * u + b) / 24 = u by omega, show (24 * u + b) % 24 = b by omega]
theorem m_beD (hB : p_B P) {I : MI} (hP : m_P P Q I) {b k : Nat} (hb : b < 24) (hk : k < 16) (h : Int64) : ∃ I', g_X5_beatDigest h (nI b) (nI k) I = some (v_fd (fun w => nI (v_at (c_to P) b k w)) h 2, I') ∧ m_P P Q I' := by
  obtain ⟨I1, a1, a2⟩ := m_atOf hB hP hb hk (w := 0) (by decide)
  obtain ⟨I2, b1, b2⟩ := m_atOf hB a2 hb hk (w := 1) (by decide)
  refine ⟨I2, ?_, b2⟩
  unfold g_X5_beatDigest
  rw [a1, mc_e, b1, mc_e]
  rfl
theorem m_puD (hB : p_B P) {I : MI} (hK : m_K P Q I) {k : Nat} (hk : k < 16) (hk2 : k % 8 < c_ma P (k / 8)) (h : Int64) : ∃ I', g_X5_pullerDigest h (nI k) I = some (v_dp P (c_to P) k h, I') ∧ m_K P Q I' := by
  have step : ∀ n w g, w < 3 → g_X5_pullerDigest_6 (n + 1) (nI k) g (nI w) I = g_X5_pullerDigest_6 n (nI k) (v_h g (nI (c_to P (w + 1) k))) (nI (w + 1)) I := fun n w g hw => by
    rw [show g_X5_pullerDigest_6 (n + 1) (nI k) g (nI w) I = if nI 3 ≤ nI w then _ else mc (g_X5_pullerOf (nI k) (nI w) I) fun v18 I17 => g_X5_pullerDigest_6 n (nI k) (31 * g + v18.toInt64) (nI w + nI 1) I17 from rfl, if_neg (nI_ge (by omega) (by decide)), m_pullerOf hB hK hk hk2 hw, mc_e, nI_add]
    rfl
  obtain ⟨I1, a1, a2⟩ := m_beD hB hK.1 (b := 0) (by decide) hk (v_fd (fun w => nI (c_to P (w + 1) k)) h 3)
  obtain ⟨I2, b1, b2⟩ := m_beD hB a2 (b := 5) (by decide) hk (v_fd (fun w => nI (v_at (c_to P) 0 k w)) (v_fd (fun w => nI (c_to P (w + 1) k)) h 3) 2)
  obtain ⟨I3, c1, c2⟩ := m_beD hB b2 (b := 12) (by decide) hk (v_fd (fun w => nI (v_at (c_to P) 5 k w)) (v_fd (fun w => nI (v_at (c_to P) 0 k w)) (v_fd (fun w => nI (c_to P (w + 1) k)) h 3) 2) 2)
  obtain ⟨I4, d1, d2⟩ := m_beD hB c2 (b := 23) (by decide) hk (v_fd (fun w => nI (v_at (c_to P) 12 k w)) (v_fd (fun w => nI (v_at (c_to P) 5 k w)) (v_fd (fun w => nI (v_at (c_to P) 0 k w)) (v_fd (fun w => nI (c_to P (w + 1) k)) h 3) 2) 2) 2)
  obtain ⟨I5, e1, e2⟩ := m_doneOf hB d2 hk
  obtain ⟨I6, f1, f2, -⟩ := m_weightsBy hB e2 hk
  obtain ⟨I7, g1, g2⟩ := m_sortsBy hB f2.1 hk
  obtain ⟨I8, h1, h2⟩ := m_askOf hB g2 hk
  refine ⟨I8, ?_, h2⟩
  unfold g_X5_pullerDigest
  rw [show fw_fuel = fw_fuel - 4 + 1 + 1 + 1 + 1 from rfl, step _ 0 _ (by decide), step _ 1 _ (by decide), step _ 2 _ (by decide)]
  have e3 : v_h (v_h (v_h h (nI (c_to P (0 + 1) k))) (nI (c_to P (1 + 1) k))) (nI (c_to P (2 + 1) k)) = v_fd (fun w => nI (c_to P (w + 1) k)) h 3 := rfl
  rw [e3]
  unfold g_X5_pullerDigest_6
  rw [if_pos (by decide), a1, mc_e, b1, mc_e, c1, mc_e, d1, mc_e, e1, mc_e, f1, mc_e, g1, mc_e, h1, mc_e]
  rfl
theorem m_teD (hB : p_B P) {I : MI} (hP : m_P P Q I) {t : Nat} (ht : t < 2) (h : Int64) : ∃ I', g_X5_teamDigest h (nI t) I = some (v_dt P (c_to P) t h, I') ∧ m_P P Q I' := by
  obtain ⟨I1, a1, a2⟩ := m_betterOf hB hP ht (b := 4) (w := 0) (by decide) (by decide)
  obtain ⟨I2, b1, b2⟩ := m_betterOf hB a2 ht (b := 4) (w := 1) (by decide) (by decide)
  obtain ⟨I3, c1, c2⟩ := m_swapOf hB b2 ht (w := 0) (by decide)
  obtain ⟨I4, d1, d2⟩ := m_swapOf hB c2 ht (w := 1) (by decide)
  obtain ⟨I5, e1, e2⟩ := m_swapOf hB d2 ht (w := 2) (by decide)
  obtain ⟨I6, f1, f2⟩ := m_outOf hB e2 ht (w := 0) (by decide)
  obtain ⟨I7, g1, g2⟩ := m_outOf hB f2 ht (w := 1) (by decide)
  obtain ⟨I8, h1, h2⟩ := m_chanceOf hB g2 (c := 5) (t := t) (w := 0) (by decide) ht (by decide)
  obtain ⟨I9, k1, k2⟩ := m_chanceOf hB h2 (c := 5) (t := t) (w := 1) (by decide) ht (by decide)
  have step : ∀ n w g J J' v, w < 3 → g_X5_swapOf (nI t) (nI w) J = some (v, J') → g_X5_teamDigest_36 (n + 1) (nI t) g (nI w) J = g_X5_teamDigest_36 n (nI t) (v_h g v) (nI (w + 1)) J' := fun n w g J J' v hw e => by
    rw [show g_X5_teamDigest_36 (n + 1) (nI t) g (nI w) J = if nI 3 ≤ nI w then _ else mc (g_X5_swapOf (nI t) (nI w) J) fun v10 I9 => g_X5_teamDigest_36 n (nI t) (31 * g + v10.toInt64) (nI w + nI 1) I9 from rfl, if_neg (nI_ge (by omega) (by decide)), e, mc_e, nI_add]
    rfl
  refine ⟨I9, ?_, k2⟩
  unfold g_X5_teamDigest
  rw [a1, mc_e, b1, mc_e, show fw_fuel = fw_fuel - 4 + 1 + 1 + 1 + 1 from rfl, step _ 0 _ _ _ _ (by decide) c1, step _ 1 _ _ _ _ (by decide) d1, step _ 2 _ _ _ _ (by decide) e1]
  unfold g_X5_teamDigest_36
  rw [if_pos (by decide), f1, mc_e, g1, mc_e, h1, mc_e, k1, mc_e]
  rfl
theorem m_spareBy (hB : p_B P) {I : MI} (hP : m_P P Q I) : ∃ I', g_X5_spareBy I = some (v_sr (c_to P) (P 3 0) (-nI 1), I') ∧ m_P P Q I' ∧ g_X5_ofRow (v_sr (c_to P) (P 3 0) (-nI 1)) (nI 0) I' = some (v_sr (c_to P) (P 3 0) (nI 0), I') := by
  obtain ⟨I1, a1, a2⟩ := m_spare hB hP (i := -nI 1) (Or.inl rfl)
  obtain ⟨I2, b1, b2⟩ := m_spare hB hP (i := nI 0) (Or.inr (Or.inl rfl))
  cases e : g_X5_spareBy I with
  | none => rw [e] at a1; cases a1
  | some w =>
    obtain ⟨c, J⟩ := w
    rw [e, mc_e] at a1 b1
    have r1 : g_X5_ofRow c (-nI 1) J = some (c, J) := if_pos rfl
    rw [r1, mc_e] at a1
    obtain ⟨r2, r3⟩ := Prod.mk.inj (Option.some.inj a1)
    subst r3
    refine ⟨J, by rw [r2], a2, ?_⟩
    rw [← r2]
    have r4 : ∀ c : Int32, ∃ v, g_X5_ofRow c (nI 0) J = some (v, J) := fun c => by
      unfold g_X5_ofRow
      rw [if_neg (by decide), md_nI (by decide) (by decide)]
      split
      · exact ⟨_, rfl⟩
      · exact ⟨_, rfl⟩
    obtain ⟨v, r5⟩ := r4 c
    rw [r5, mc_e] at b1
    rw [r5, (Prod.mk.inj (Option.some.inj b1)).1]
theorem m_count (hB : p_B P) {I : MI} (hP : m_P P Q I) {w : Nat} (hw : w ≤ 8) : ∃ I', g_X5_count (nI w) I = some (v_co P (c_to P) w, I') ∧ m_P P Q I' := by
  have tell : (w < 4 ∨ w = 6) → ∃ I', g_X5_count_52 (nI w) I = some (v_co P (c_to P) w, I') ∧ m_P P Q I' := fun q => by
    obtain ⟨I', r1, r2⟩ := m_tellOf hB hP q
    refine ⟨I', ?_, r2⟩
    unfold g_X5_count_52 v_co
    rw [r1, mc_e]
    by_cases z : w < 4
    · rw [if_pos z, if_pos z]
    · obtain rfl : w = 6 := by omega
      rfl
  unfold g_X5_count
  rw [i_eq (by omega) (by decide), i_eq (by omega) (by decide), i_eq (by omega) (by decide), i_eq (by omega) (by decide), i_eq (by omega) (by decide), i_eq (by omega) (by decide), i_eq (by omega) (by decide), i_eq (by omega) (by decide), i_eq (by omega) (by decide)]
  rcases (show w = 0 ∨ w = 1 ∨ w = 2 ∨ w = 3 ∨ w = 4 ∨ w = 5 ∨ w = 6 ∨ w = 7 ∨ w = 8 by omega) with q | q | q | q | q | q | q | q | q <;> subst q
  · exact tell (by omega)
  · exact tell (by omega)
  · exact tell (by omega)
  · exact tell (by omega)
  · refine ⟨I, ?_, hP⟩
    show (md 4 1 (nI 0) I fun v3 => md 4 1 (nI 1) I fun v6 => md 4 1 (nI 2) I fun v9 => md 4 1 (nI 3) I fun v12 => some (v3 + v6 + v9 + v12, I)) = _
    rw [md_nI (by decide) (by decide), md_nI (by decide) (by decide), md_nI (by decide) (by decide), md_nI (by decide) (by decide), hP.1 0 (by decide), hP.1 1 (by decide), hP.1 2 (by decide), hP.1 3 (by decide), nI_add, nI_add, nI_add]
    rfl
  · refine ⟨I, ?_, hP⟩
    show some (I 0 9, I) = _
    rw [hP.2.2.2.1]
    rfl
  · exact tell (by omega)
  · refine ⟨I, ?_, hP⟩
    show some (I 0 37, I) = _
    rw [hP.2.2.2.2.2.1]
    rfl
  · refine ⟨I, ?_, hP⟩
    show some (I 0 46, I) = _
    rw [hP.2.2.2.2.2.2.2.2]
    rfl
theorem m_d6 (hB : p_B P) : ∀ (m w n : Nat), w + m = 8 → m < n → ∀ I : MI, m_P P Q I → ∃ I', g_X5_digest_6 n (v_fd (fun w => v_co P (c_to P) w) 17 w) (nI w) I = g_X5_digest_33 fw_fuel (v_fd (fun w => v_co P (c_to P) w) 17 8) (nI 0) I' ∧ m_P P Q I' := by
  intro m
  induction m with
  | zero =>
    intro w n hw hn I hP
    obtain ⟨n, rfl⟩ : ∃ q, n = q + 1 := ⟨n - 1, by omega⟩
    obtain rfl : w = 8 := by omega
    refine ⟨I, ?_, hP⟩
    unfold g_X5_digest_6
    rw [if_pos (by decide)]
  | succ m ih =>
    intro w n hw hn I hP
    obtain ⟨n, rfl⟩ : ∃ q, n = q + 1 := ⟨n - 1, by omega⟩
    obtain ⟨I1, a1, a2⟩ := m_count hB hP (w := w) (by omega)
    obtain ⟨I', q1, q2⟩ := ih (w + 1) n (by omega) (by omega) I1 a2
    refine ⟨I', ?_, q2⟩
    unfold g_X5_digest_6
    rw [if_neg (nI_ge (by omega) (by decide)), a1, mc_e, nI_add]
    exact q1
theorem m_d33 (hB : p_B P) (h : Int64) : ∀ (m t n : Nat), t + m = 4 → m < n → ∀ I : MI, m_P P Q I → ∃ I', g_X5_digest_33 n (v_fd (fun t => c_fa P t) h t) (nI t) I = g_X5_digest_59 fw_fuel (v_fd (fun t => c_fa P t) h 4) (nI 0) I' ∧ m_P P Q I' := by
  intro m
  induction m with
  | zero =>
    intro w n hw hn I hP
    obtain ⟨n, rfl⟩ : ∃ q, n = q + 1 := ⟨n - 1, by omega⟩
    obtain rfl : w = 4 := by omega
    refine ⟨I, ?_, hP⟩
    unfold g_X5_digest_33
    rw [if_pos (by decide)]
  | succ m ih =>
    intro w n hw hn I hP
    obtain ⟨n, rfl⟩ : ∃ q, n = q + 1 := ⟨n - 1, by omega⟩
    obtain ⟨I1, a1, a2, -⟩ := m_faultOf hB (show w < 4 by omega) hP
    obtain ⟨I', q1, q2⟩ := ih (w + 1) n (by omega) (by omega) I1 (hP.f (a2.m fun j x q => by omega))
    refine ⟨I', ?_, q2⟩
    unfold g_X5_digest_33
    rw [if_neg (nI_ge (by omega) (by decide)), a1, mc_e, nI_add]
    exact q1
theorem m_d96 (hB : p_B P) {rec : Int64 → Int32 → MI → Option (Int64 × MI)} {b : Nat} (hb : b < 24) (h : Int64) : ∀ (m w n : Nat), w + m = 4 → m < n → ∀ I : MI, m_P P Q I → (w = 4 → m_K P Q I) →
    ∃ I', g_X5_digest_96 rec n (v_fd (fun w => nI (v_rope (c_to P) b w)) h w) (nI b) (nI w) I = rec (v_fd (fun w => nI (v_rope (c_to P) b w)) h 4) (nI (b + 1)) I' ∧ m_K P Q I' := by
  intro m
  induction m with
  | zero =>
    intro w n hw hn I hP hK
    obtain ⟨n, rfl⟩ : ∃ q, n = q + 1 := ⟨n - 1, by omega⟩
    obtain rfl : w = 4 := by omega
    refine ⟨I, ?_, hK rfl⟩
    unfold g_X5_digest_96
    rw [if_pos (by decide), nI_add]
  | succ m ih =>
    intro w n hw hn I hP hK
    obtain ⟨n, rfl⟩ : ∃ q, n = q + 1 := ⟨n - 1, by omega⟩
    obtain ⟨I1, a1, a2⟩ := m_ropeOf hB hP hb (w := w) (by omega)
    obtain ⟨I', q1, q2⟩ := ih (w + 1) n (by omega) (by omega) I1 a2.1 (fun _ => a2)
    refine ⟨I', ?_, q2⟩
    unfold g_X5_digest_96
    rw [if_neg (nI_ge (by omega) (by decide)), a1, mc_e, nI_add]
    exact q1
theorem m_d59 (hB : p_B P) (h : Int64) : ∀ (m b n : Nat), b + m = 24 → m < n → ∀ I : MI, m_P P Q I → (b = 24 → m_K P Q I) → ∃ I', g_X5_digest_59 n (v_d3 (c_to P) h b) (nI b) I = g_X5_digest_131 fw_fuel (v_d3 (c_to P) h 24) (nI 0) I' ∧ m_K P Q I' := by
  intro m
  induction m with
  | zero =>
    intro b n hb hn I hP hK
    obtain ⟨n, rfl⟩ : ∃ q, n = q + 1 := ⟨n - 1, by omega⟩
    obtain rfl : b = 24 := by omega
    refine ⟨I, ?_, hK rfl⟩
    unfold g_X5_digest_59
    rw [if_pos (by decide)]
  | succ m ih =>
    intro b n hb hn I hP hK
    obtain ⟨n, rfl⟩ : ∃ q, n = q + 1 := ⟨n - 1, by omega⟩
    obtain ⟨I1, a1, a2⟩ := m_callOf hB hP (u := 0) (b := b) (by decide) (by omega)
    obtain ⟨I2, b1, b2⟩ := m_callOf hB a2.1 (u := 1) (b := b) (by decide) (by omega)
    obtain ⟨I3, c1, c2⟩ := m_d96 hB (rec := g_X5_digest_59 n) (b := b) (by omega) (v_fd (fun t => nI (c_to P 4 (24 * t + b))) (v_d3 (c_to P) h b) 2) 4 0 fw_fuel rfl (by decide) I2 b2.1 (fun z => by omega)
    obtain ⟨I', q1, q2⟩ := ih (b + 1) n (by omega) (by omega) I3 c2.1 (fun _ => c2)
    refine ⟨I', ?_, q2⟩
    unfold g_X5_digest_59
    rw [if_neg (nI_ge (by omega) (by decide)), a1, mc_e, b1, mc_e]
    exact Eq.trans c1 q1
theorem m_d131 (hB : p_B P) (h : Int64) {d : Int64} (hd : d = (
  let C := c_to P
  let h2 := v_dt P C 1 (v_dt P C 0 (v_d4 P C h 16))
  let h3 := v_h (v_h h2 (v_wi (c_ro C))) (v_wb (c_rs C 24 0 2))
  let h4 := v_fd (fun w => nI (v_fu C w 24)) h3 2
  let h5 := v_h (v_h (v_h h4 (v_sp C)) (v_bn C 16)) (nI (c_rs C 24 0 3))
  let h6 := v_h (v_h (v_h h5 (v_sr C (P 3 0) (-nI 1))) (v_sr C (P 3 0) (nI 0))) (v_ne P C)
  v_fd (fun w => v_ye C (nI 7) 18 w) h6 2)) : ∀ (m k n : Nat), k + m = 16 → m < n → ∀ I : MI, m_K P Q I → ∃ I', g_X5_digest_131 n (v_d4 P (c_to P) h k) (nI k) I = some (d, I') ∧ m_P P Q I' := by
  intro m
  induction m with
  | zero =>
    intro k n hk hn I hK
    obtain ⟨n, rfl⟩ : ∃ q, n = q + 1 := ⟨n - 1, by omega⟩
    obtain rfl : k = 16 := by omega
    obtain ⟨I1, a1, a2⟩ := m_teD hB hK.1 (t := 0) (by decide) (v_d4 P (c_to P) h 16)
    obtain ⟨I2, b1, b2⟩ := m_teD hB a2 (t := 1) (by decide) (v_dt P (c_to P) 0 (v_d4 P (c_to P) h 16))
    obtain ⟨I3, c1, c2⟩ := m_wonOf hB b2 (w := 0) (by decide)
    obtain ⟨I4, d1, d2⟩ := m_wonOf hB c2 (w := 1) (by decide)
    obtain ⟨I5, e1, e2⟩ := m_furthestOf hB d2 (w := 0) (by decide)
    obtain ⟨I6, f1, f2⟩ := m_furthestOf hB e2 (w := 1) (by decide)
    obtain ⟨I7, g1, g2⟩ := m_spentOf hB f2
    obtain ⟨I8, h1, h2⟩ := m_bestOf hB g2
    obtain ⟨I9, i1, i2⟩ := m_levelOf hB h2
    obtain ⟨I10, j1, j2, j3⟩ := m_spareBy hB i2
    obtain ⟨I11, k1, k2⟩ := m_neverNow hB j2
    obtain ⟨I12, l1, l2⟩ := m_yearsOf hB k2 (s := nI 7) (y := 18) (w := 0) (by decide) (by decide)
    obtain ⟨I13, n1, n2⟩ := m_yearsOf hB l2 (s := nI 7) (y := 18) (w := 1) (by decide) (by decide)
    refine ⟨I13, ?_, n2⟩
    rw [if_pos rfl] at c1
    rw [if_neg (by decide)] at d1
    unfold g_X5_digest_131
    rw [if_pos (by decide), a1, mc_e, b1, mc_e, c1, mc_e, d1, mc_e, e1, mc_e, f1, mc_e, g1, mc_e, h1, mc_e, i1, mc_e, j1, mc_e, j3, mc_e, k1, mc_e, l1, mc_e, n1, mc_e, hd]
    rfl
  | succ m ih =>
    intro k n hk hn I hK
    obtain ⟨n, rfl⟩ : ∃ q, n = q + 1 := ⟨n - 1, by omega⟩
    have e : v_d4 P (c_to P) h (k + 1) = if c_th (c_to P) k then v_dp P (c_to P) k (v_d4 P (c_to P) h k) else v_d4 P (c_to P) h k := rfl
    have eth : c_th (c_to P) k ↔ k % 8 < c_ma P (k / 8) := by
      unfold c_th
      rw [c_to_0 (by omega)]
      exact ⟨fun z => z.2, fun z => ⟨by omega, z⟩⟩
    unfold g_X5_digest_131
    rw [if_neg (nI_ge (by omega) (by decide)), hK.there hB (by omega), mc_e]
    by_cases q : k % 8 < c_ma P (k / 8)
    · obtain ⟨I1, a1, a2⟩ := m_puD hB hK (k := k) (by omega) q (v_d4 P (c_to P) h k)
      obtain ⟨I', q1, q2⟩ := ih (k + 1) n (by omega) (by omega) I1 a2
      refine ⟨I', ?_, q2⟩
      rw [if_pos q, if_neg (by decide), a1, mc_e]
      unfold g_X5_digest_152
      rw [nI_add]
      rw [e, if_pos (eth.2 q)] at q1
      exact q1
    · obtain ⟨I', q1, q2⟩ := ih (k + 1) n (by omega) (by omega) I hK
      refine ⟨I', ?_, q2⟩
      rw [if_neg q, if_pos nI_0]
      unfold g_X5_digest_152
      rw [nI_add]
      rw [e, if_neg (fun z => q (eth.1 z))] at q1
      exact q1
theorem m_digest (hB : p_B P) {I : MI} (hP : m_P P Q I) : ∃ I', g_X5_digest I = some (v_di P, I') ∧ m_P P Q I' := by
  obtain ⟨I1, a1, a2⟩ := m_d6 hB 8 0 fw_fuel rfl (by decide) I hP
  obtain ⟨I2, b1, b2⟩ := m_d33 hB (v_fd (fun w => v_co P (c_to P) w) 17 8) 4 0 fw_fuel rfl (by decide) I1 a2
  obtain ⟨I3, c1, c2⟩ := m_d59 hB (v_fd (fun t => c_fa P t) (v_fd (fun w => v_co P (c_to P) w) 17 8) 4) 24 0 fw_fuel rfl (by decide) I2 b2 (fun z => by omega)
  obtain ⟨I', d1, d2⟩ := m_d131 hB (v_d3 (c_to P) (v_fd (fun t => c_fa P t) (v_fd (fun w => v_co P (c_to P) w) 17 8) 4) 24) rfl 16 0 fw_fuel rfl (by decide) I3 c2
  exact ⟨I', ((Eq.trans a1 b1).trans c1).trans d1, d2⟩
end Md
