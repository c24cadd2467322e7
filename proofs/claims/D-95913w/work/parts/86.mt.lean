set_option maxRecDepth 100000
/-! The model reads its texts: as it is told. -/
/-- the model's ints hold what is kept -/
def m_P (P : CF) (Q : Nat → Int32) (I : MI) : Prop := (∀ t, t < 4 → I 1 t = nI (P 0 t)) ∧ (∀ t i, t < 4 → i < P 0 t → I 2 (31 * t + i) = nI (P 1 (31 * t + i))) ∧ I 0 8 = nI (P 2 0) ∧ I 0 9 = nI (P 3 0) ∧
  (∀ e, e < P 3 0 → I 9 e = nI (P 4 e) ∧ I 10 e = nI (P 5 e) ∧ I 11 e = nI (P 6 e)) ∧ I 0 37 = nI (P 7 0) ∧ (∀ e, e < P 7 0 → I 25 e = nI (P 8 e) ∧ I 26 e = nI (P 9 e)) ∧
  (∀ s, s < 4 → I 28 s = nI (P 10 s) ∧ (P 10 s = 1 → I 29 s = nI (P 11 s) ∧ I 30 s = nI (P 12 s) ∧ ∀ i, i < P 12 s → I 31 (60 * s + i) = Q (60 * s + i))) ∧ I 0 46 = nI (P 13 0)
/-- what is not kept -/
abbrev m_w (j x : Nat) : Prop := (3 ≤ j ∧ j ≤ 8) ∨ (12 ≤ j ∧ j ≤ 24) ∨ j = 27 ∨ j = 32 ∨ (j = 0 ∧ (x = 14 ∨ x = 16 ∨ (18 ≤ x ∧ x ≤ 24) ∨ x = 34 ∨ x = 35))
theorem m_P.f {P : CF} {Q : Nat → Int32} {I I' : MI} (h : m_P P Q I) (e : m_f m_w I I') : m_P P Q I' := by
  obtain ⟨h1, h2, h3, h4, h5, h6, h7, h8, h9⟩ := h
  refine ⟨fun t ht => (e 1 t (by omega)).trans (h1 t ht), fun t i ht hi => (e 2 _ (by omega)).trans (h2 t i ht hi), (e 0 8 (by omega)).trans h3, (e 0 9 (by omega)).trans h4, fun x hx => ?_, (e 0 37 (by omega)).trans h6, fun x hx => ?_, fun s hs => ⟨(e 28 s (by omega)).trans (h8 s hs).1, fun q => ?_⟩, (e 0 46 (by omega)).trans h9⟩
  · have := h5 x hx
    rw [e 9 x (by omega), e 10 x (by omega), e 11 x (by omega)]
    exact this
  · have := h7 x hx
    rw [e 25 x (by omega), e 26 x (by omega)]
    exact this
  · obtain ⟨a, b, c⟩ := (h8 s hs).2 q
    exact ⟨(e 29 s (by omega)).trans a, (e 30 s (by omega)).trans b, fun i hi => (e 31 _ (by omega)).trans (c i hi)⟩
section Mt
variable {P : CF} {Q : Nat → Int32}
/-- the byte at k, -1 if there is none -/
abbrev m_by (y : Nat → Nat) (T k : Nat) : Int32 := if k < T then nI (y k) else -nI 1
theorem m_byteAt (hB : p_B P) {I : MI} (hP : m_P P Q I) {t k : Nat} (ht : t < 4) (hk : k ≤ 40) : g_X5_byteAt (nI t) (nI k) I = some (m_by (p_y P t) (P 0 t) k, I) := by
  have hT := hB.1 t
  have hT2 : P 0 t ≤ 31 := by split at hT <;> omega
  unfold g_X5_byteAt
  rw [md_nI (by omega) (by decide), hP.1 t ht, i_le (by omega) (by omega)]
  by_cases h : k < P 0 t
  · rw [if_neg (by omega), pk_mul, nI_add, md_nI (by omega) (by decide), hP.2.1 t k ht h]
    exact congrArg (fun z => some (z, I)) (if_pos h).symm
  · rw [if_pos (by omega)]
    exact congrArg (fun z => some (z, I)) (if_neg h).symm
theorem m_fi {y : Nat → Nat} {T a : Nat} (hy : ∀ i, y i < 256) (I : MI) : g_X5_in (m_by y T a - nI 48) (nI 1) (nI 9) I = some (if a < T ∧ c_fi (y a) = true then nI 1 else nI 0, I) := by
  have hya := hy a
  unfold c_fi
  by_cases h : a < T
  · rw [show m_by y T a = nI (y a) from if_pos h]
    by_cases h2 : 48 ≤ y a
    · rw [pk_sub h2, m_in (by omega) (by decide) (by decide)]
      by_cases h3 : 1 ≤ y a - 48 ∧ y a - 48 ≤ 9
      · rw [if_pos h3, if_pos ⟨h, by simp; omega⟩]
      · rw [if_neg h3, if_neg (fun q => h3 (by have := q.2; simp at this; omega))]
    · unfold g_X5_in
      have hl : nI (y a) - nI 48 < nI 1 := by
        have := pk_sneg (a := y a) (b := 48) (by decide) (by omega)
        rw [Int32.lt_iff_toInt_lt] at this ⊢
        have e1 : (nI 1).toInt = 1 := by decide
        have e0 : (0 : Int32).toInt = 0 := by decide
        omega
      rw [if_pos hl, if_neg (fun q => h2 (by have := q.2; simp at this; omega))]
  · rw [show m_by y T a = -nI 1 from if_neg h]
    unfold g_X5_in
    rw [if_pos (by decide), if_neg (fun q => h q.1)]
theorem m_subv {y : Nat → Nat} {T a : Nat} (h : a < T ∧ c_fi (y a) = true) : m_by y T a - nI 48 = nI (y a - 48) := by
  have := of_decide_eq_true h.2
  rw [show m_by y T a = nI (y a) from if_pos h.1, pk_sub (by omega)]
/-- a team's pullers i < n have been told -/
def m_pu (y : Nat → Nat) (t n : Nat) (I : MI) : Prop := ∀ i, i < n → I 4 (8 * t + i) = nI (c_so (y (4 * i))) ∧ I 5 (8 * t + i) = nI (y (4 * i + 1) - 48) ∧ I 6 (8 * t + i) = nI (y (4 * i + 2) - 48)
abbrev m_vt (t j x : Nat) : Prop := ((j = 4 ∨ j = 5 ∨ j = 6) ∧ 8 * t ≤ x ∧ x < 8 * t + 8) ∨ (j = 3 ∧ x = t)
theorem m_vt_w {t j x : Nat} (h : m_vt t j x) : m_w j x := by omega
theorem m_readsPuller (hB : p_B P) {I : MI} (hP : m_P P Q I) {t n : Nat} (ht : t < 2) (hn : n ≤ 7) (hpu : m_pu (p_y P t) t n I) :
    ∃ I', g_X5_readsPuller (nI t) (nI n) (nI (4 * n)) I = some (nI (c_g (p_y P t) (P 0 t) (4 * n)), I') ∧ m_f (fun j x => (j = 4 ∨ j = 5 ∨ j = 6) ∧ x = 8 * t + n) I I' ∧ (c_g (p_y P t) (P 0 t) (4 * n) = 3 → m_pu (p_y P t) t (n + 1) I') := by
  have hy : ∀ i, p_y P t i < 256 := fun i => Nat.lt_succ_of_le (hB.2.1 _)
  have h42 : ∀ (s : Int32) (so : Nat), so ≤ 3 → s = (if so < 3 then nI so else -nI 1) → (4 * n < P 0 t ∧ c_so (p_y P t (4 * n)) < 3 ↔ so < 3) → (so < 3 → so = c_so (p_y P t (4 * n))) →
      ∃ I', g_X5_readsPuller_42 (nI t) (nI n) (nI (4 * n)) s I = some (nI (c_g (p_y P t) (P 0 t) (4 * n)), I') ∧ m_f (fun j x => (j = 4 ∨ j = 5 ∨ j = 6) ∧ x = 8 * t + n) I I' ∧ (c_g (p_y P t) (P 0 t) (4 * n) = 3 → m_pu (p_y P t) t (n + 1) I') := by
    intro s so hso hs hiff heq
    unfold g_X5_readsPuller_42 c_g
    rw [nI_add, nI_add, m_byteAt hB hP (by omega) (by omega), mc_e, m_byteAt hB hP (by omega) (by omega), mc_e, i_eq (by omega) (by decide), if_neg (by omega)]
    by_cases h0 : so < 3
    · rw [hs, if_pos h0, if_neg (nI_m1 (by omega)), if_pos (hiff.mpr h0), m_fi hy, mc_e]
      by_cases h1 : 4 * n + 1 < P 0 t ∧ c_fi (p_y P t (4 * n + 1)) = true
      · rw [if_pos h1, if_neg (by decide), if_pos h1, m_fi hy, mc_e]
        by_cases h2 : 4 * n + 2 < P 0 t ∧ c_fi (p_y P t (4 * n + 2)) = true
        · rw [if_pos h2, if_neg (by decide), if_pos h2, m_subv h1, m_subv h2, pk_mul, nI_add, mw_nI (by omega) (by decide), mw_nI (by omega) (by decide), mw_nI (by omega) (by decide)]
          refine ⟨_, rfl, (((m_f.r I).w (by omega)).w (by omega)).w (by omega), fun _ i hi => ?_⟩
          by_cases q : i = n
          · subst q
            rw [← heq h0]
            simp [fw_u2_at]
          · have := hpu i (by omega)
            rw [fw_u2_ne _ _ (by omega), fw_u2_ne _ _ (by omega), fw_u2_ne _ _ (by omega), fw_u2_ne _ _ (by omega), fw_u2_ne _ _ (by omega), fw_u2_ne _ _ (by omega), fw_u2_ne _ _ (by omega), fw_u2_ne _ _ (by omega), fw_u2_ne _ _ (by omega)]
            exact this
        · rw [if_neg h2, if_pos nI_0, if_neg h2]
          exact ⟨I, rfl, m_f.r I, fun q => by omega⟩
      · rw [if_neg h1, if_pos nI_0, if_neg h1]
        exact ⟨I, rfl, m_f.r I, fun q => by omega⟩
    · rw [hs, if_neg h0, if_pos rfl, if_neg (fun q => h0 (hiff.mp q))]
      exact ⟨I, rfl, m_f.r I, fun q => by omega⟩
  have hyn := hy (4 * n)
  unfold g_X5_readsPuller
  rw [m_byteAt hB hP (by omega) (by omega), mc_e]
  by_cases hT : 4 * n < P 0 t
  · rw [show m_by (p_y P t) (P 0 t) (4 * n) = nI (p_y P t (4 * n)) from if_pos hT, i_eq (by omega) (by decide)]
    by_cases q1 : p_y P t (4 * n) = 104
    · rw [if_pos q1]
      have e : c_so (p_y P t (4 * n)) = 0 := by unfold c_so; rw [if_pos q1]
      exact h42 _ 0 (by decide) rfl (by rw [e]; exact ⟨fun _ => by decide, fun _ => ⟨hT, by decide⟩⟩) (fun _ => e.symm)
    · rw [if_neg q1, i_eq (by omega) (by decide)]
      by_cases q2 : p_y P t (4 * n) = 108
      · rw [if_pos q2]
        have e : c_so (p_y P t (4 * n)) = 1 := by unfold c_so; rw [if_neg q1, if_pos q2]
        exact h42 _ 1 (by decide) rfl (by rw [e]; exact ⟨fun _ => by decide, fun _ => ⟨hT, by decide⟩⟩) (fun _ => e.symm)
      · rw [if_neg q2, i_eq (by omega) (by decide)]
        by_cases q3 : p_y P t (4 * n) = 97
        · rw [if_pos q3]
          have e : c_so (p_y P t (4 * n)) = 2 := by unfold c_so; rw [if_neg q1, if_neg q2, if_pos q3]
          exact h42 _ 2 (by decide) rfl (by rw [e]; exact ⟨fun _ => by decide, fun _ => ⟨hT, by decide⟩⟩) (fun _ => e.symm)
        · rw [if_neg q3]
          have e : c_so (p_y P t (4 * n)) = 3 := by unfold c_so; rw [if_neg q1, if_neg q2, if_neg q3]
          exact h42 _ 3 (by decide) rfl (by rw [e]; exact ⟨fun q => q.2, fun q => absurd q (by decide)⟩) (fun q => absurd q (by decide))
  · rw [show m_by (p_y P t) (P 0 t) (4 * n) = -nI 1 from if_neg hT, if_neg (by decide), if_neg (by decide), if_neg (by decide)]
    exact h42 _ 3 (by decide) rfl ⟨fun q => absurd q.1 hT, fun q => absurd q (by decide)⟩ (fun q => absurd q (by decide))
theorem m_tp (hB : p_B P) {t : Nat} (ht : t < 2) : ∀ (m n f : Nat), m + n = 9 → n ≤ 7 → 4 * n ≤ P 0 t → m ≤ f → ∀ I : MI, m_P P Q I → I 3 t = nI 0 → m_pu (p_y P t) t n I →
    ∃ I', g_X5_readsTeam_25 (g_X5_readsTeam_11 f) (nI t) (nI n) (nI (4 * n)) I = some ((c_tp (p_y P t) (P 0 t) m n).1, I') ∧ m_f (m_vt t) I I' ∧ I' 3 t = nI (c_tp (p_y P t) (P 0 t) m n).2 ∧ m_pu (p_y P t) t (c_tp (p_y P t) (P 0 t) m n).2 I' := by
  have hT := hB.1 t
  rw [if_pos ht] at hT
  intro m
  induction m with
  | zero => intro n f h1 h2; omega
  | succ m ih =>
    intro n f hmn hn hnT hf I hP h3 hpu
    obtain ⟨f, rfl⟩ : ∃ q, f = q + 1 := ⟨f - 1, by omega⟩
    obtain ⟨I1, r1, r2, r3⟩ := m_readsPuller hB hP ht hn hpu
    have f1 : m_f (m_vt t) I I1 := r2.m (fun j x q => by omega)
    have hP1 : m_P P Q I1 := hP.f (r2.m (fun j x q => by omega))
    have h31 : I1 3 t = nI 0 := (r2 3 t (by omega)).trans h3
    have hg3 : c_g (p_y P t) (P 0 t) (4 * n) ≤ 3 := by
      unfold c_g
      repeat' split
      all_goals omega
    have hyn := hB.2.1 (31 * t + (4 * n + 3))
    unfold g_X5_readsTeam_25 c_tp
    rw [r1, mc_e, i_le (by decide) (by omega)]
    by_cases hg : c_g (p_y P t) (P 0 t) (4 * n) < 3
    · rw [if_neg (by omega), if_pos hg, nI_add]
      exact ⟨I1, rfl, f1, h31, fun i hi => absurd hi (Nat.not_lt_zero _)⟩
    · have hpu1 := r3 (by omega)
      rw [if_pos (by omega), if_neg hg, md_nI (by omega) (by decide), hP1.1 t (by omega), nI_add, i_eq (by omega) (by omega)]
      by_cases hend : 4 * n + 3 = P 0 t
      · rw [if_pos hend, if_pos hend, nI_add, mw_nI (by omega) (by decide)]
        refine ⟨_, rfl, f1.w (Or.inr ⟨rfl, rfl⟩), fw_u2_self _ _ _ _, fun i hi => ?_⟩
        have := hpu1 i hi
        rw [fw_u2_ne _ _ (by omega), fw_u2_ne _ _ (by omega), fw_u2_ne _ _ (by omega)]
        exact this
      · rw [if_neg hend, if_neg hend, m_byteAt hB hP1 (by omega) (by omega), mc_e]
        by_cases hsep : 4 * n + 3 < P 0 t ∧ p_y P t (4 * n + 3) = 59
        · rw [show m_by (p_y P t) (P 0 t) (4 * n + 3) = nI (p_y P t (4 * n + 3)) from if_pos hsep.1, hsep.2, if_pos rfl, if_pos ⟨hsep.1, rfl⟩, nI_add, nI_add, show 4 * n + 3 + 1 = 4 * (n + 1) by omega]
          have e11 : g_X5_readsTeam_11 (f + 1) (nI t) (nI (n + 1)) (nI (4 * (n + 1))) I1 = g_X5_readsTeam_25 (g_X5_readsTeam_11 f) (nI t) (nI (n + 1)) (nI (4 * (n + 1))) I1 := by
            show (md 4 1 (nI t) I1 fun v3 => if nI (4 * (n + 1)) < v3 then g_X5_readsTeam_25 (g_X5_readsTeam_11 f) (nI t) (nI (n + 1)) (nI (4 * (n + 1))) I1 else if nI (4 * (n + 1)) ≤ 0 then some (-nI 1, I1) else g_X5_readsTeam_25 (g_X5_readsTeam_11 f) (nI t) (nI (n + 1)) (nI (4 * (n + 1))) I1) = _
            rw [md_nI (by omega) (by decide), i_le0 (by omega), if_neg (show ¬ 4 * (n + 1) = 0 by omega), ite_self]
          rw [e11]
          obtain ⟨I', q1, q2, q3, q4⟩ := ih (n + 1) f (by omega) (by omega) (by omega) (by omega) I1 hP1 h31 hpu1
          exact ⟨I', q1, f1.t q2, q3, q4⟩
        · rw [if_neg (fun q => ?_), if_neg hsep]
          · exact ⟨I1, rfl, f1, h31, fun i hi => absurd hi (Nat.not_lt_zero _)⟩
          · by_cases z : 4 * n + 3 < P 0 t
            · rw [show m_by (p_y P t) (P 0 t) (4 * n + 3) = nI (p_y P t (4 * n + 3)) from if_pos z] at q
              exact hsep ⟨z, (nI_eq (Nat.lt_of_le_of_lt hyn (by decide)) (by decide)).mp q⟩
            · rw [show m_by (p_y P t) (P 0 t) (4 * n + 3) = -nI 1 from if_neg z] at q
              exact absurd q (by decide)
theorem m_readsTeam (hB : p_B P) {t : Nat} (ht : t < 2) {I : MI} (hP : m_P P Q I) : ∃ I', g_X5_readsTeam (nI t) I = some (c_fa P t, I') ∧ m_f (m_vt t) I I' ∧ I' 3 t = nI (c_ma P t) ∧ m_pu (p_y P t) t (c_ma P t) I' := by
  have efa : (c_te (p_y P t) (P 0 t)).1 = c_fa P t := (if_pos ht).symm
  have ema : (c_te (p_y P t) (P 0 t)).2 = c_ma P t := (if_pos ht).symm
  have hT := hB.1 t
  rw [if_pos ht] at hT
  rw [← efa, ← ema]
  have f1 : m_f (m_vt t) I (fw_u2 I 3 t (nI 0)) := (m_f.r I).w (Or.inr ⟨rfl, rfl⟩)
  have hP1 : m_P P Q (fw_u2 I 3 t (nI 0)) := hP.f (f1.m (fun j x q => by omega))
  unfold g_X5_readsTeam c_te
  rw [mw_nI (by omega) (by decide)]
  show ∃ I', (md 4 1 (nI t) (fw_u2 I 3 t (nI 0)) fun v3 => if nI 0 < v3 then g_X5_readsTeam_25 (g_X5_readsTeam_11 (fw_fuel - 1)) (nI t) (nI 0) (nI 0) (fw_u2 I 3 t (nI 0)) else if nI 0 ≤ 0 then some (-nI 1, fw_u2 I 3 t (nI 0)) else _) = _ ∧ _
  rw [md_nI (by omega) (by decide), hP1.1 t (by omega), i_lt (by decide) (by omega)]
  by_cases h0 : P 0 t = 0
  · rw [if_neg (by omega), if_pos (by decide), if_pos h0]
    exact ⟨_, rfl, f1, fw_u2_self _ _ _ _, fun i hi => absurd hi (Nat.not_lt_zero _)⟩
  · rw [if_pos (by omega), if_neg h0]
    obtain ⟨I', r1, r2, r3, r4⟩ := m_tp hB ht 9 0 (fw_fuel - 1) rfl (by decide) (by omega) (by decide) _ hP1 (fw_u2_self _ _ _ _) (fun i hi => by omega)
    exact ⟨I', r1, f1.t r2, r3, r4⟩
end Mt
