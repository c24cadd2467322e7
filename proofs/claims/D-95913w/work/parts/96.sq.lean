set_option maxRecDepth 100000
/-! The model's asking operations. -/
section Sq
variable {P : CF} {Q : Nat → Int32}
theorem mb1 {γ : Type} (k : Option γ) : mb (nI 1) k = k := mb_e k (Or.inr (by decide))
theorem m_inB {x : Int32} {N : Nat} (h : bd x N) (I : MI) : g_X5_in x (nI 0) (nI N) I = some (nI 0, I) := by
  unfold g_X5_in
  by_cases q : x < nI 0
  · rw [if_pos q]
  · rw [if_neg q, if_pos (h.resolve_left q)]
theorem m_inG {k N : Nat} (hk : k ≤ N) (hN : N < 2 ^ 31) (I : MI) : g_X5_in (nI k) (nI 0) (nI N) I = some (nI 1, I) := by
  rw [m_in (by omega) (by decide) hN, if_pos (by omega)]
theorem m_twoB {x : Int32} (h : bd x 1) (I : MI) : g_X5_isTwo x I = some (nI 0, I) := by
  unfold g_X5_isTwo
  rw [m_inB h, mc_e, mb_e _ (Or.inl nI_0)]
theorem m_twoG {k : Nat} (hk : k ≤ 1) (I : MI) : g_X5_isTwo (nI k) I = some (nI 1, I) := by
  unfold g_X5_isTwo
  rw [m_inG hk (by decide), mc_e, mb1]
theorem m_threeB {x : Int32} (h : bd x 2) (I : MI) : g_X5_isThree x I = some (nI 0, I) := by
  unfold g_X5_isThree
  rw [m_inB h, mc_e, mb_e _ (Or.inl nI_0)]
theorem m_threeG {k : Nat} (hk : k ≤ 2) (I : MI) : g_X5_isThree (nI k) I = some (nI 1, I) := by
  unfold g_X5_isThree
  rw [m_inG hk (by decide), mc_e, mb1]
theorem m_beatB {x : Int32} (h : bd x 23) (I : MI) : g_X5_isBeat x I = some (nI 0, I) := by
  unfold g_X5_isBeat
  rw [m_inB h, mc_e, mb_e _ (Or.inl nI_0)]
theorem m_beatG {k : Nat} (hk : k ≤ 23) (I : MI) : g_X5_isBeat (nI k) I = some (nI 1, I) := by
  unfold g_X5_isBeat
  rw [m_inG hk (by decide), mc_e, mb1]
theorem m_textB {x : Int32} (h : bd x 3) (I : MI) : g_X5_isText x I = some (nI 0, I) := by
  unfold g_X5_isText
  rw [m_inB h, mc_e, mb_e _ (Or.inl nI_0)]
theorem m_textG {k : Nat} (hk : k ≤ 3) (I : MI) : g_X5_isText (nI k) I = some (nI 1, I) := by
  unfold g_X5_isText
  rw [m_inG hk (by decide), mc_e, mb1]
theorem m_sheetB {x : Int32} (h : bd x 3) (I : MI) : g_X5_isSheet x I = some (nI 0, I) := by
  unfold g_X5_isSheet
  rw [m_inB h, mc_e, mb_e _ (Or.inl nI_0)]
theorem m_sheetG {k : Nat} (hk : k ≤ 3) (I : MI) : g_X5_isSheet (nI k) I = some (nI 1, I) := by
  unfold g_X5_isSheet
  rw [m_inG hk (by decide), mc_e, mb1]
theorem m_pB (hB : p_B P) {I : MI} (hP : m_P P Q I) {x : Int32} (h : ¬ o_iP P x) : ∃ I', g_X5_isPuller x I = some (nI 0, I') ∧ m_K P Q I' := by
  obtain ⟨I1, a1, a2, a3⟩ := m_reads hB hP
  have hK : m_K P Q I1 := ⟨hP.f (a2.m fun j x q => by omega), a3⟩
  refine ⟨I1, ?_, hK⟩
  unfold g_X5_isPuller
  rw [a1, mc_e]
  rcases bd_or x (N := 15) (by decide) with q | ⟨k, hk, rfl⟩
  · unfold g_X5_isThereOne
    rw [m_inB q, mc_e, if_pos nI_0, mc_e, mb_e _ (Or.inl nI_0)]
  · have h' : ¬ k % 8 < c_ma P (k / 8) := fun z => h ⟨bd_no hk (by decide), by rw [oN_e (by omega)]; exact z⟩
    rw [hK.there hB (by omega), if_neg h', mc_e, mb_e _ (Or.inl nI_0)]
theorem m_pG (hB : p_B P) {I : MI} (hP : m_P P Q I) {k : Nat} (hk : k ≤ 15) (h : k % 8 < c_ma P (k / 8)) : ∃ I', g_X5_isPuller (nI k) I = some (nI 1, I') ∧ m_K P Q I' := by
  obtain ⟨I1, a1, a2, a3⟩ := m_reads hB hP
  have hK : m_K P Q I1 := ⟨hP.f (a2.m fun j x q => by omega), a3⟩
  refine ⟨I1, ?_, hK⟩
  unfold g_X5_isPuller
  rw [a1, mc_e, hK.there hB (by omega), if_pos h, mc_e, mb1]
theorem o_iP_or (P : CF) (x : Int32) : ¬ o_iP P x ∨ ∃ k, k ≤ 15 ∧ x = nI k ∧ k % 8 < c_ma P (k / 8) := by
  by_cases h : o_iP P x
  · obtain ⟨k, hk, rfl⟩ := (bd_or x (N := 15) (by decide)).resolve_left h.1
    have := h.2
    rw [oN_e (by omega)] at this
    exact Or.inr ⟨k, hk, rfl, this⟩
  · exact Or.inl h
theorem o_iP_G {k : Nat} (hk : k ≤ 15) (h : k % 8 < c_ma P (k / 8)) : ¬ ¬ o_iP P (nI k) := fun z => z ⟨bd_no hk (by decide), by rw [oN_e (by omega)]; exact h⟩
theorem n0 : (nI 0 : Int32) = 0 := nI_0
theorem n1 : ¬ (nI 1 : Int32) = 0 := by decide
/-- an operation that asks -/
def m_as {α : Type} (P : CF) (Q : Nat → Int32) (F : MI → Option (α × MI)) (v : α) : Prop := ∀ I, m_P P Q I → ∃ I', F I = some (v, I') ∧ m_P P Q I'
theorem m_o_fault (hB : p_B P) (x : Int32) : m_as P Q (g_X5_fault x) (o_fault P x) := by
  intro I hP
  unfold g_X5_fault o_fault
  rcases bd_or x (N := 3) (by decide) with q | ⟨k, hk, rfl⟩
  · exact ⟨I, by rw [m_textB q, mc_e, if_pos n0, if_pos q], hP⟩
  · obtain ⟨I1, a1, a2, -⟩ := m_faultOf hB (show k < 4 by omega) hP
    exact ⟨I1, by rw [m_textG hk, mc_e, if_neg n1, a1, mc_e, if_neg (bd_no hk (by decide)), oN_e (by omega)], hP.f (a2.m fun j x q => by omega)⟩
theorem m_o_puller (hB : p_B P) (x y : Int32) : m_as P Q (g_X5_puller x y) (o_puller P x y) := by
  intro I hP
  unfold g_X5_puller o_puller
  rcases o_iP_or P x with q | ⟨k, hk, rfl, hk2⟩
  · obtain ⟨I1, a1, a2⟩ := m_pB hB hP q
    exact ⟨I1, by rw [a1, mc_e, if_pos n0, if_pos q], a2.1⟩
  · obtain ⟨I1, a1, a2⟩ := m_pG hB hP hk hk2
    rw [a1, mc_e, if_neg n1, if_neg (o_iP_G hk hk2), oN_e (by omega)]
    rcases bd_or y (N := 2) (by decide) with q | ⟨w, hw, rfl⟩
    · exact ⟨I1, by rw [m_threeB q, mc_e, if_pos n0, if_pos q], a2.1⟩
    · exact ⟨I1, by rw [m_threeG hw, mc_e, if_neg n1, m_pullerOf hB a2 (by omega) hk2 (by omega), mc_e, if_neg (bd_no hw (by decide)), oN_e (by omega)], a2.1⟩
theorem m_o_call (hB : p_B P) (x y : Int32) : m_as P Q (g_X5_call x y) (o_call P x y) := by
  intro I hP
  unfold g_X5_call o_call
  rcases bd_or x (N := 1) (by decide) with q | ⟨k, hk, rfl⟩
  · exact ⟨I, by rw [m_twoB q, mc_e, if_pos n0, if_pos q], hP⟩
  · rw [m_twoG hk, mc_e, if_neg n1, if_neg (bd_no hk (by decide)), oN_e (by omega)]
    rcases bd_or y (N := 23) (by decide) with q | ⟨b, hb, rfl⟩
    · exact ⟨I, by rw [m_beatB q, mc_e, if_pos n0, if_pos q], hP⟩
    · obtain ⟨I1, a1, a2⟩ := m_callOf hB hP (u := k) (b := b) (by omega) (by omega)
      exact ⟨I1, by rw [m_beatG hb, mc_e, if_neg n1, a1, mc_e, if_neg (bd_no hb (by decide)), oN_e (by omega)], a2.1⟩
theorem m_o_rope (hB : p_B P) (x y : Int32) : m_as P Q (g_X5_rope x y) (o_rope P x y) := by
  intro I hP
  unfold g_X5_rope o_rope
  rcases bd_or x (N := 23) (by decide) with q | ⟨k, hk, rfl⟩
  · exact ⟨I, by rw [m_beatB q, mc_e, if_pos n0, if_pos q], hP⟩
  · rw [m_beatG hk, mc_e, if_neg n1, if_neg (bd_no hk (by decide)), oN_e (by omega)]
    rcases bd_or y (N := 3) (by decide) with q | ⟨b, hb, rfl⟩
    · exact ⟨I, by rw [m_inB q, mc_e, if_pos n0, if_pos q], hP⟩
    · obtain ⟨I1, a1, a2⟩ := m_ropeOf hB hP (b := k) (w := b) (by omega) (by omega)
      exact ⟨I1, by rw [m_inG hb (by decide), mc_e, if_neg n1, a1, mc_e, if_neg (bd_no hb (by decide)), oN_e (by omega)], a2.1⟩
theorem m_o_at (hB : p_B P) (x y z : Int32) : m_as P Q (g_X5_at x y z) (o_at P x y z) := by
  intro I hP
  unfold g_X5_at o_at
  rcases bd_or x (N := 23) (by decide) with q | ⟨b, hb, rfl⟩
  · exact ⟨I, by rw [m_beatB q, mc_e, if_pos n0, if_pos q], hP⟩
  · rw [m_beatG hb, mc_e, if_neg n1, if_neg (bd_no hb (by decide)), oN_e (by omega)]
    rcases o_iP_or P y with q | ⟨k, hk, rfl, hk2⟩
    · obtain ⟨I1, a1, a2⟩ := m_pB hB hP q
      exact ⟨I1, by rw [a1, mc_e, if_pos n0, if_pos q], a2.1⟩
    · obtain ⟨I1, a1, a2⟩ := m_pG hB hP hk hk2
      rw [a1, mc_e, if_neg n1, if_neg (o_iP_G hk hk2), oN_e (by omega)]
      rcases bd_or z (N := 1) (by decide) with q | ⟨w, hw, rfl⟩
      · exact ⟨I1, by rw [m_twoB q, mc_e, if_pos n0, if_pos q], a2.1⟩
      · obtain ⟨I2, b1, b2⟩ := m_atOf hB a2.1 (b := b) (k := k) (w := w) (by omega) (by omega) (by omega)
        exact ⟨I2, by rw [m_twoG hw, mc_e, if_neg n1, b1, mc_e, if_neg (bd_no hw (by decide)), oN_e (by omega)], b2⟩
theorem m_o_won (hB : p_B P) (x : Int32) : m_as P Q (g_X5_won x) (o_won P x) := by
  intro I hP
  unfold g_X5_won o_won
  rcases bd_or x (N := 1) (by decide) with q | ⟨k, hk, rfl⟩
  · exact ⟨I, by rw [m_twoB q, mc_e, if_pos n0, if_pos q], hP⟩
  · obtain ⟨I1, a1, a2⟩ := m_wonOf hB hP (w := k) (by omega)
    exact ⟨I1, by rw [m_twoG hk, mc_e, if_neg n1, a1, mc_e, if_neg (bd_no hk (by decide)), oN_e (by omega)], a2⟩
theorem m_o_furthest (hB : p_B P) (x : Int32) : m_as P Q (g_X5_furthest x) (o_furthest P x) := by
  intro I hP
  unfold g_X5_furthest o_furthest
  rcases bd_or x (N := 1) (by decide) with q | ⟨k, hk, rfl⟩
  · exact ⟨I, by rw [m_twoB q, mc_e, if_pos n0, if_pos q], hP⟩
  · obtain ⟨I1, a1, a2⟩ := m_furthestOf hB hP (w := k) (by omega)
    exact ⟨I1, by rw [m_twoG hk, mc_e, if_neg n1, a1, mc_e, if_neg (bd_no hk (by decide)), oN_e (by omega)], a2⟩
theorem m_o_done (hB : p_B P) (x : Int32) : m_as P Q (g_X5_done x) (o_done P x) := by
  intro I hP
  unfold g_X5_done o_done
  rcases o_iP_or P x with q | ⟨k, hk, rfl, hk2⟩
  · obtain ⟨I1, a1, a2⟩ := m_pB hB hP q
    exact ⟨I1, by rw [a1, mc_e, if_pos n0, if_pos q], a2.1⟩
  · obtain ⟨I1, a1, a2⟩ := m_pG hB hP hk hk2
    obtain ⟨I2, b1, b2⟩ := m_doneOf hB a2.1 (k := k) (by omega)
    exact ⟨I2, by rw [a1, mc_e, if_neg n1, b1, mc_e, if_neg (o_iP_G hk hk2), oN_e (by omega)], b2⟩
theorem m_o_spent (hB : p_B P) : m_as P Q g_X5_spent (v_sp (c_to P)) := by
  intro I hP
  obtain ⟨I1, a1, a2⟩ := m_spentOf hB hP
  unfold g_X5_spent
  exact ⟨I1, by rw [a1, mc_e], a2⟩
theorem m_o_best (hB : p_B P) : m_as P Q g_X5_best (v_bn (c_to P) 16) := by
  intro I hP
  obtain ⟨I1, a1, a2⟩ := m_bestOf hB hP
  unfold g_X5_best
  exact ⟨I1, by rw [a1, mc_e], a2⟩
theorem m_o_level (hB : p_B P) : m_as P Q g_X5_level (nI (c_rs (c_to P) 24 0 3)) := by
  intro I hP
  obtain ⟨I1, a1, a2⟩ := m_levelOf hB hP
  unfold g_X5_level
  exact ⟨I1, by rw [a1, mc_e], a2⟩
theorem m_o_never (hB : p_B P) : m_as P Q g_X5_never (v_ne P (c_to P)) := by
  intro I hP
  obtain ⟨I1, a1, a2⟩ := m_neverNow hB hP
  unfold g_X5_never
  exact ⟨I1, by rw [a1, mc_e], a2⟩
theorem m_o_better (hB : p_B P) (x y z : Int32) : m_as P Q (g_X5_better x y z) (o_better P x y z) := by
  intro I hP
  unfold g_X5_better o_better
  rcases bd_or x (N := 1) (by decide) with q | ⟨t, ht, rfl⟩
  · exact ⟨I, by rw [m_twoB q, mc_e, if_pos n0, if_pos q], hP⟩
  · rw [m_twoG ht, mc_e, if_neg n1, if_neg (bd_no ht (by decide)), oN_e (by omega)]
    rcases bd_or y (N := 23) (by decide) with q | ⟨b, hb, rfl⟩
    · exact ⟨I, by rw [m_beatB q, mc_e, if_pos n0, if_pos q], hP⟩
    · rw [m_beatG hb, mc_e, if_neg n1, if_neg (bd_no hb (by decide)), oN_e (by omega)]
      rcases bd_or z (N := 1) (by decide) with q | ⟨w, hw, rfl⟩
      · exact ⟨I, by rw [m_twoB q, mc_e, if_pos n0, if_pos q], hP⟩
      · obtain ⟨I2, b1, b2⟩ := m_betterOf hB hP (t := t) (b := b) (w := w) (by omega) (by omega) (by omega)
        exact ⟨I2, by rw [m_twoG hw, mc_e, if_neg n1, b1, mc_e, if_neg (bd_no hw (by decide)), oN_e (by omega)], b2⟩
theorem m_o_swap (hB : p_B P) (x y : Int32) : m_as P Q (g_X5_swap x y) (o_swap P x y) := by
  intro I hP
  unfold g_X5_swap o_swap
  rcases bd_or x (N := 1) (by decide) with q | ⟨k, hk, rfl⟩
  · exact ⟨I, by rw [m_twoB q, mc_e, if_pos n0, if_pos q], hP⟩
  · rw [m_twoG hk, mc_e, if_neg n1, if_neg (bd_no hk (by decide)), oN_e (by omega)]
    rcases bd_or y (N := 2) (by decide) with q | ⟨b, hb, rfl⟩
    · exact ⟨I, by rw [m_threeB q, mc_e, if_pos n0, if_pos q], hP⟩
    · obtain ⟨I1, a1, a2⟩ := m_swapOf hB hP (t := k) (w := b) (by omega) (by omega)
      exact ⟨I1, by rw [m_threeG hb, mc_e, if_neg n1, a1, mc_e, if_neg (bd_no hb (by decide)), oN_e (by omega)], a2⟩
theorem m_o_out (hB : p_B P) (x y : Int32) : m_as P Q (g_X5_out x y) (o_out P x y) := by
  intro I hP
  unfold g_X5_out o_out
  rcases bd_or x (N := 1) (by decide) with q | ⟨k, hk, rfl⟩
  · exact ⟨I, by rw [m_twoB q, mc_e, if_pos n0, if_pos q], hP⟩
  · rw [m_twoG hk, mc_e, if_neg n1, if_neg (bd_no hk (by decide)), oN_e (by omega)]
    rcases bd_or y (N := 1) (by decide) with q | ⟨b, hb, rfl⟩
    · exact ⟨I, by rw [m_twoB q, mc_e, if_pos n0, if_pos q], hP⟩
    · obtain ⟨I1, a1, a2⟩ := m_outOf hB hP (t := k) (w := b) (by omega) (by omega)
      exact ⟨I1, by rw [m_twoG hb, mc_e, if_neg n1, a1, mc_e, if_neg (bd_no hb (by decide)), oN_e (by omega)], a2⟩
theorem m_o_spare (hB : p_B P) (x : Int32) : m_as P Q (g_X5_spare x) (o_spare P x) := by
  intro I hP
  unfold g_X5_spare o_spare
  by_cases h1 : x < -nI 1
  · refine ⟨I, ?_, hP⟩
    rw [if_pos (Or.inl h1)]
    unfold g_X5_in
    rw [if_pos h1, mc_e, if_pos n0]
  · by_cases h2 : nI 1 < x
    · refine ⟨I, ?_, hP⟩
      rw [if_pos (Or.inr h2)]
      unfold g_X5_in
      rw [if_neg h1, if_pos h2, mc_e, if_pos n0]
    · have hx : x = -nI 1 ∨ x = nI 0 ∨ x = nI 1 := by
        rcases bd_or x (N := 1) (by decide) with q | ⟨k, hk, rfl⟩
        · refine Or.inl ?_
          have q := q.resolve_right h2
          rw [Int32.lt_iff_toInt_lt, nI_toInt (by decide)] at q
          rw [Int32.lt_iff_toInt_lt, show (-nI 1 : Int32).toInt = -1 by decide] at h1
          refine Int32.toInt_inj.mp ?_
          rw [show (-nI 1 : Int32).toInt = -1 by decide]
          omega
        · rcases (show k = 0 ∨ k = 1 by omega) with e | e <;> subst e
          · exact Or.inr (Or.inl rfl)
          · exact Or.inr (Or.inr rfl)
      obtain ⟨I1, a1, a2⟩ := m_spare hB hP hx
      refine ⟨I1, ?_, a2⟩
      rw [if_neg (fun z => z.elim h1 h2)]
      unfold g_X5_in
      rw [if_neg h1, if_neg h2, mc_e, if_neg n1]
      exact a1
theorem m_o_was (hB : p_B P) (x y : Int32) : m_as P Q (g_X5_was x y) (o_was P x y) := by
  intro I hP
  unfold g_X5_was o_was
  rcases o_iP_or P x with q | ⟨k, hk, rfl, hk2⟩
  · obtain ⟨I1, a1, a2⟩ := m_pB hB hP q
    exact ⟨I1, by rw [a1, mc_e, if_pos n0, if_pos q], a2.1⟩
  · obtain ⟨I1, a1, a2⟩ := m_pG hB hP hk hk2
    rw [a1, mc_e, if_neg n1, if_neg (o_iP_G hk hk2), oN_e (by omega)]
    rcases bd_or y (N := 1) (by decide) with q | ⟨w, hw, rfl⟩
    · exact ⟨I1, by rw [m_twoB q, mc_e, if_pos n0, if_pos q], a2.1⟩
    · rw [m_twoG hw, mc_e, if_neg n1, if_neg (bd_no hw (by decide)), oN_e (by omega), i_z (by omega)]
      by_cases q : w = 0
      · obtain ⟨I2, b1, b2, -⟩ := m_weightsBy hB a2.1 (k := k) (by omega)
        exact ⟨I2, by rw [if_pos q, b1, mc_e, if_pos q], b2.1⟩
      · obtain ⟨I2, b1, b2⟩ := m_sortsBy hB a2.1 (k := k) (by omega)
        exact ⟨I2, by rw [if_neg q, b1, mc_e, if_neg q], b2⟩
theorem m_o_ask (hB : p_B P) (x : Int32) : m_as P Q (g_X5_ask x) (o_ask P x) := by
  intro I hP
  unfold g_X5_ask o_ask
  rcases o_iP_or P x with q | ⟨k, hk, rfl, hk2⟩
  · obtain ⟨I1, a1, a2⟩ := m_pB hB hP q
    exact ⟨I1, by rw [a1, mc_e, if_pos n0, if_pos q], a2.1⟩
  · obtain ⟨I1, a1, a2⟩ := m_pG hB hP hk hk2
    obtain ⟨I2, b1, b2⟩ := m_askOf hB a2.1 (k := k) (by omega)
    exact ⟨I2, by rw [a1, mc_e, if_neg n1, b1, mc_e, if_neg (o_iP_G hk hk2), oN_e (by omega)], b2.1⟩
theorem m_o_chance (hB : p_B P) (x y z : Int32) : m_as P Q (g_X5_chance x y z) (o_chance P x y z) := by
  intro I hP
  have no : ∀ I, g_X5_chance_34 I = some ((-9223372036854775808 : Int64) - (-nI 2).toInt64, I) := fun I => rfl
  unfold g_X5_chance o_chance
  rcases bd_or x (N := 16) (by decide) with q | ⟨c, hc, rfl⟩
  · exact ⟨I, by rw [m_inB q, mc_e, if_pos n0, if_pos q, no], hP⟩
  · rw [m_inG hc (by decide), mc_e, if_neg n1, if_neg (bd_no hc (by decide)), oN_e (by omega)]
    rcases bd_or y (N := 1) (by decide) with q | ⟨t, ht, rfl⟩
    · exact ⟨I, by rw [m_twoB q, mc_e, if_pos n0, if_pos q, no], hP⟩
    · rw [m_twoG ht, mc_e, if_neg n1, if_neg (bd_no ht (by decide)), oN_e (by omega)]
      rcases bd_or z (N := 1) (by decide) with q | ⟨w, hw, rfl⟩
      · exact ⟨I, by rw [m_twoB q, mc_e, if_pos n0, if_pos q, no], hP⟩
      · obtain ⟨I2, b1, b2⟩ := m_chanceOf hB hP (c := c) (t := t) (w := w) hc (by omega) (by omega)
        exact ⟨I2, by rw [m_twoG hw, mc_e, if_neg n1, b1, mc_e, if_neg (bd_no hw (by decide)), oN_e (by omega)], b2⟩
theorem m_o_years (hB : p_B P) (x y z : Int32) : m_as P Q (g_X5_years x y z) (o_years P x y z) := by
  intro I hP
  unfold g_X5_years o_years
  rcases bd_or y (N := 24) (by decide) with q | ⟨t, ht, rfl⟩
  · exact ⟨I, by rw [m_inB q, mc_e, if_pos n0, if_pos q], hP⟩
  · rw [m_inG ht (by decide), mc_e, if_neg n1, if_neg (bd_no ht (by decide)), oN_e (by omega)]
    rcases bd_or z (N := 1) (by decide) with q | ⟨w, hw, rfl⟩
    · exact ⟨I, by rw [m_twoB q, mc_e, if_pos n0, if_pos q], hP⟩
    · obtain ⟨I2, b1, b2⟩ := m_yearsOf hB hP (s := x) (y := t) (w := w) ht (by omega)
      exact ⟨I2, by rw [m_twoG hw, mc_e, if_neg n1, b1, mc_e, if_neg (bd_no hw (by decide)), oN_e (by omega)], b2⟩
theorem m_o_count (hB : p_B P) (x : Int32) : m_as P Q (g_X5_count x) (o_count P x) := by
  intro I hP
  unfold o_count
  rcases bd_or x (N := 8) (by decide) with q | ⟨k, hk, rfl⟩
  · have hn : ∀ k, k ≤ 8 → ¬ x = nI k := fun k hk e => bd_no hk (by decide) (by rw [← e]; exact q)
    refine ⟨I, ?_, hP⟩
    unfold g_X5_count
    rw [if_neg (hn 0 (by decide)), if_neg (hn 1 (by decide)), if_neg (hn 2 (by decide)), if_neg (hn 3 (by decide)), if_neg (hn 4 (by decide)), if_neg (hn 5 (by decide)), if_neg (hn 6 (by decide)), if_neg (hn 7 (by decide)), if_neg (hn 8 (by decide)), if_pos q]
  · obtain ⟨I1, a1, a2⟩ := m_count hB hP hk
    exact ⟨I1, by rw [a1, if_neg (bd_no hk (by decide)), oN_e (by omega)], a2⟩
theorem m_o_digest (hB : p_B P) : m_as P Q g_X5_digest (v_di P) := fun _ hP => m_digest hB hP
end Sq
