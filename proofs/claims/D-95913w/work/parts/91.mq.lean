set_option maxRecDepth 100000
/-! The model's plans: two change places; spare, never, other weights and sorts. -/
section Mq
variable {P : CF} {Q : Nat → Int32}
theorem c_ws_B {C : CF} (hC : c_B C) (t a b : Nat) : c_B (c_ws C t a b) := ⟨hC.1, hC.2.1, hC.2.2.1, hC.2.2.2.1, hC.2.2.2.2.1, hC.2.2.2.2.2⟩
theorem m_CM.sw {C : CF} {I : MI} {t a b : Nat} (h : m_CM C I) : m_CM (c_ws C t a b) I := ⟨h.1, h.2.1, h.2.2.1, h.2.2.2.1, h.2.2.2.2.1, h.2.2.2.2.2.1, h.2.2.2.2.2.2⟩
theorem m_PL_sw (hB : p_B P) {I : MI} (h : ∀ k, k < 16 → I 13 k = nI (k % 8)) {t a b : Nat} (ht : t < 2) (hab : a < b) (hb : b < c_ma P t) : m_PL (c_ws (c_to P) t a b) (fw_u2 (fw_u2 I 13 (8 * t + a) (nI b)) 13 (8 * t + b) (nI a)) := by
  have hm := c_ma_le hB ht
  refine ⟨fun k => if k = 8 * t + b then a else if k = 8 * t + a then b else k % 8, fun k hk => ⟨?_, ?_⟩, fun k hk => ?_, fun j k hj hk hd he => ?_⟩
  · show _ = nI (if k = 8 * t + b then a else if k = 8 * t + a then b else k % 8)
    by_cases q : k = 8 * t + b
    · subst q; rw [fw_u2_self, if_pos rfl]
    · rw [fw_u2_ne _ _ (by omega), if_neg q]
      by_cases q2 : k = 8 * t + a
      · subst q2; rw [fw_u2_self, if_pos rfl]
      · rw [fw_u2_ne _ _ (by omega), if_neg q2]; exact h k hk
  · show (if k = 8 * t + b then a else if k = 8 * t + a then b else k % 8) ≤ 100
    repeat' split
    all_goals omega
  · have hk1 := hk.1.1
    have hk2 : k % 8 < c_to P 0 (k / 8) := hk.1.2
    have hkt : k / 8 < 2 := by omega
    rw [c_to_0 hkt] at hk2
    have hmk := c_ma_le hB hkt
    have e11 : c_ws (c_to P) t a b 11 (k / 8) = if k / 8 = t then (if 8 * t + c_ma P t - 1 = 8 * t + a then 8 * t + b else if 8 * t + c_ma P t - 1 = 8 * t + b then 8 * t + a else 8 * t + c_ma P t - 1) else 8 * (k / 8) + c_ma P (k / 8) - 1 := by
      show (if 11 = 11 ∧ k / 8 = t then (if c_to P 11 t = 8 * t + a then 8 * t + b else if c_to P 11 t = 8 * t + b then 8 * t + a else c_to P 11 t) else c_to P 11 (k / 8)) = _
      rw [show c_to P 11 t = if c_ma P t = 0 then 16 else 8 * t + c_ma P t - 1 from rfl, if_neg (show ¬ c_ma P t = 0 by omega), show c_to P 11 (k / 8) = if c_ma P (k / 8) = 0 then 16 else 8 * (k / 8) + c_ma P (k / 8) - 1 from rfl, if_neg (show ¬ c_ma P (k / 8) = 0 by omega)]
      by_cases q : k / 8 = t
      · rw [if_pos ⟨rfl, q⟩, if_pos q]
      · rw [if_neg (fun z => q z.2), if_neg q]
    rw [e11]
    have here : ∀ j, j < 16 → j / 8 = k / 8 → j % 8 < c_ma P (k / 8) → c_he (c_ws (c_to P) t a b) j := fun j h1 h2 h3 => ⟨⟨h1, by show j % 8 < c_to P 0 (j / 8); rw [h2, c_to_0 hkt]; exact h3⟩, by show (16 : Nat) ≠ j; omega⟩
    have low : ∀ j, c_he (c_ws (c_to P) t a b) j → j / 8 = k / 8 → j < 16 ∧ j % 8 < c_ma P (k / 8) := fun j hj hjt => by
      have h2 : j % 8 < c_to P 0 (j / 8) := hj.1.2
      rw [hjt, c_to_0 hkt] at h2
      exact ⟨hj.1.1, h2⟩
    by_cases q : k / 8 = t
    · subst q
      rw [if_pos rfl, if_neg (by omega)]
      by_cases q1 : 8 * (k / 8) + c_ma P (k / 8) - 1 = 8 * (k / 8) + b
      · rw [if_pos q1]
        constructor
        · intro e j hj hjt
          obtain ⟨l1, l2⟩ := low j hj hjt
          show (if j = 8 * (k / 8) + b then a else if j = 8 * (k / 8) + a then b else j % 8) ≤ (if k = 8 * (k / 8) + b then a else if k = 8 * (k / 8) + a then b else k % 8)
          rw [if_neg (show ¬ k = 8 * (k / 8) + b by omega), if_pos (show k = 8 * (k / 8) + a by omega)]
          repeat' split
          all_goals omega
        · intro e
          have := e (8 * (k / 8) + a) (here _ (by omega) (by omega) (by omega)) (by omega)
          have this : (if 8 * (k / 8) + a = 8 * (k / 8) + b then a else if 8 * (k / 8) + a = 8 * (k / 8) + a then b else (8 * (k / 8) + a) % 8) ≤ (if k = 8 * (k / 8) + b then a else if k = 8 * (k / 8) + a then b else k % 8) := this
          rw [if_neg (by omega), if_pos rfl] at this
          split at this
          · omega
          · split at this <;> omega
      · rw [if_neg q1]
        constructor
        · intro e j hj hjt
          obtain ⟨l1, l2⟩ := low j hj hjt
          show (if j = 8 * (k / 8) + b then a else if j = 8 * (k / 8) + a then b else j % 8) ≤ (if k = 8 * (k / 8) + b then a else if k = 8 * (k / 8) + a then b else k % 8)
          rw [if_neg (show ¬ k = 8 * (k / 8) + b by omega), if_neg (show ¬ k = 8 * (k / 8) + a by omega)]
          repeat' split
          all_goals omega
        · intro e
          have := e (8 * (k / 8) + c_ma P (k / 8) - 1) (here _ (by omega) (by omega) (by omega)) (by omega)
          have this : (if 8 * (k / 8) + c_ma P (k / 8) - 1 = 8 * (k / 8) + b then a else if 8 * (k / 8) + c_ma P (k / 8) - 1 = 8 * (k / 8) + a then b else (8 * (k / 8) + c_ma P (k / 8) - 1) % 8) ≤ (if k = 8 * (k / 8) + b then a else if k = 8 * (k / 8) + a then b else k % 8) := this
          rw [if_neg q1, if_neg (by omega)] at this
          split at this
          · omega
          · split at this <;> omega
    · rw [if_neg q]
      have pj : ∀ j, j / 8 = k / 8 → (if j = 8 * t + b then a else if j = 8 * t + a then b else j % 8) = j % 8 := fun j hj => by rw [if_neg (by omega), if_neg (by omega)]
      constructor
      · intro e j hj hjt
        obtain ⟨l1, l2⟩ := low j hj hjt
        show (if j = 8 * t + b then a else if j = 8 * t + a then b else j % 8) ≤ (if k = 8 * t + b then a else if k = 8 * t + a then b else k % 8)
        rw [pj j hjt, pj k rfl]
        omega
      · intro e
        have := e (8 * (k / 8) + c_ma P (k / 8) - 1) (here _ (by omega) (by omega) (by omega)) (by omega)
        have this : (if 8 * (k / 8) + c_ma P (k / 8) - 1 = 8 * t + b then a else if 8 * (k / 8) + c_ma P (k / 8) - 1 = 8 * t + a then b else (8 * (k / 8) + c_ma P (k / 8) - 1) % 8) ≤ (if k = 8 * t + b then a else if k = 8 * t + a then b else k % 8) := this
        rw [pj _ (by omega), pj k rfl] at this
        omega
  · have he : (if j = 8 * t + b then a else if j = 8 * t + a then b else j % 8) = (if k = 8 * t + b then a else if k = 8 * t + a then b else k % 8) := he
    have := hj.1.1
    have := hk.1.1
    split at he
    · split at he
      · omega
      · split at he <;> omega
    · split at he
      · split at he
        · omega
        · split at he <;> omega
      · split at he
        · omega
        · split at he <;> omega
/-- the plans of a swap, by their number -/
abbrev m_sp (P : CF) (t : Nat) (c : Nat) : Nat × Nat := v_pl t (fun c => decide (c / c_ma P t < c % c_ma P t)) (fun c => c_ro (c_ws (c_to P) t (c / c_ma P t) (c % c_ma P t))) c
abbrev m_sc (P : CF) (t : Nat) (c : Nat) : Nat := (16 * (8 * t + c / c_ma P t) + (8 * t + c % c_ma P t)) % 900
theorem m_sp_skip {t n c : Nat} : ∀ i, (∀ x, c ≤ x → x < c + i → ¬ x / c_ma P t < x % c_ma P t) → n = c + i → m_sp P t n = m_sp P t c
  | 0, _, h => by rw [h]; rfl
  | i + 1, hs, h => by
    subst h
    show v_pl t _ _ (c + i + 1) = _
    rw [v_pl_no (decide_eq_false (hs (c + i) (by omega) (by omega)))]
    exact m_sp_skip i (fun x h1 h2 => hs x h1 (by omega)) rfl
theorem m_31 (hB : p_B P) {rec : Int32 → Int32 → Int32 → Int32 → MI → Option (Int32 × MI)} {t w a : Nat} (ht : t < 2) (ha : a < c_ma P t) : ∀ (m b n : Nat), b + m = c_ma P t → a < b → m < n → ∀ I : MI, m_K P Q I → m_CM (c_to P) I → (∀ k, k < 16 → I 13 k = nI (k % 8)) → m_bp (m_sc P t) (m_sp P t (a * c_ma P t + b)) I →
    ∃ I', g_X5_swapOf_31 rec n (nI t) (nI w) (nI (8 * t)) (nI (8 * t + a)) (nI (8 * t + b)) I = rec (nI t) (nI w) (nI (8 * t)) (nI (8 * t + a + 1)) I' ∧ m_K P Q I' ∧ m_CM (c_to P) I' ∧ (∀ k, k < 16 → I' 13 k = nI (k % 8)) ∧ m_bp (m_sc P t) (m_sp P t ((a + 1) * c_ma P t)) I' := by
  have hm := c_ma_le hB ht
  have hr : ∀ c, c_ro (c_ws (c_to P) t (c / c_ma P t) (c % c_ma P t)) ≤ 24 := fun c => c_ro_le (c_ws_B (c_to_B hB) t _ _)
  intro m
  induction m with
  | zero =>
    intro b n hb hab hn I hK hM h13 hbp
    obtain ⟨n, rfl⟩ : ∃ q, n = q + 1 := ⟨n - 1, by omega⟩
    obtain rfl : b = c_ma P t := by omega
    refine ⟨I, ?_, hK, hM, h13, by rw [Nat.succ_mul]; exact hbp⟩
    unfold g_X5_swapOf_31
    rw [md_nI (by omega) (by decide), (hK.2.1 t ht).1, nI_add, if_pos (nI_le (Nat.le_refl _) (by omega)), nI_add]
  | succ m ih =>
    intro b n hb hab hn I hK hM h13 hbp
    obtain ⟨n, rfl⟩ : ∃ q, n = q + 1 := ⟨n - 1, by omega⟩
    have hdiv : (a * c_ma P t + b) / c_ma P t = a := by
      rw [Nat.mul_comm, Nat.mul_add_div (by omega), Nat.div_eq_of_lt (by omega), Nat.add_zero]
    have hmod : (a * c_ma P t + b) % c_ma P t = b := by
      rw [Nat.mul_comm, Nat.mul_add_mod, Nat.mod_eq_of_lt (by omega)]
    have f1 : m_f (fun j _ => j = 13) I (fw_u2 (fw_u2 I 13 (8 * t + a) (nI b)) 13 (8 * t + b) (nI a)) := m_f.w (m_f.w (m_f.r I) (j := 13) (x := 8 * t + a) rfl) (j := 13) (x := 8 * t + b) rfl
    have hM1 : m_CM (c_ws (c_to P) t a b) (fw_u2 (fw_u2 I 13 (8 * t + a) (nI b)) 13 (8 * t + b) (nI a)) := (hM.g (fun j x q => f1 j x (by omega))).sw
    obtain ⟨I1, r1, r2, r3⟩ := m_tries (c_ws_B (c_to_B hB) t a b) hM1 (m_PL_sw hB h13 ht hab (by omega)) (p := 16 * (8 * t + a) + (8 * t + b)) (n := a * c_ma P t + b) (pc := m_sc P t) ht (by show (16 * (8 * t + (a * c_ma P t + b) / c_ma P t) + (8 * t + (a * c_ma P t + b) % c_ma P t)) % 900 = _; rw [hdiv, hmod]; omega) (fun i => by show (16 * (8 * t + i / c_ma P t) + (8 * t + i % c_ma P t)) % 900 < 1000; omega) (s := m_sp P t (a * c_ma P t + b)) (v_pl_le (N := a * c_ma P t + b) (fun n _ => hr n) _ (Nat.le_refl _)) ⟨by rw [fw_u2_ne _ _ (by omega), fw_u2_ne _ _ (by omega)]; exact hbp.1, by rw [fw_u2_ne _ _ (by omega), fw_u2_ne _ _ (by omega)]; exact hbp.2⟩
    have f2 : m_f (fun j x => j = 13 ∨ m_vp j x) I (fw_u2 (fw_u2 I1 13 (8 * t + a) (nI a)) 13 (8 * t + b) (nI b)) := (((f1.m (fun j x q => Or.inl q)).t (r2.m (fun j x q => Or.inr q))).w (Or.inl rfl)).w (Or.inl rfl)
    have h13' : ∀ k, k < 16 → fw_u2 (fw_u2 I1 13 (8 * t + a) (nI a)) 13 (8 * t + b) (nI b) 13 k = nI (k % 8) := fun k hk => by
      by_cases q : k = 8 * t + b
      · subst q; rw [fw_u2_self]; exact congrArg nI (by omega)
      · rw [fw_u2_ne _ _ (by omega)]
        by_cases q2 : k = 8 * t + a
        · subst q2; rw [fw_u2_self]; exact congrArg nI (by omega)
        · rw [fw_u2_ne _ _ (by omega), r2 13 k (by omega), fw_u2_ne _ _ (by omega), fw_u2_ne _ _ (by omega)]
          exact h13 k hk
    have hyes : m_sp P t (a * c_ma P t + (b + 1)) = _ := v_pl_yes (t := t) (ok := fun c => decide (c / c_ma P t < c % c_ma P t)) (r := fun c => c_ro (c_ws (c_to P) t (c / c_ma P t) (c % c_ma P t))) (n := a * c_ma P t + b) (decide_eq_true (by rw [hdiv, hmod]; exact hab))
    rw [hdiv, hmod] at hyes
    obtain ⟨I', q1, q2⟩ := ih (b + 1) n (by omega) (by omega) (by omega) _ (hK.f hB (f2.m (fun j x q => by omega))) (hM.g (fun j x q => f2 j x (by omega))) h13' (by rw [hyes]; exact ⟨by rw [fw_u2_ne _ _ (by omega), fw_u2_ne _ _ (by omega)]; exact r3.1, by rw [fw_u2_ne _ _ (by omega), fw_u2_ne _ _ (by omega)]; exact r3.2⟩)
    refine ⟨I', ?_, q2⟩
    unfold g_X5_swapOf_31
    rw [md_nI (by omega) (by decide), (hK.2.1 t ht).1, nI_add, if_neg (nI_ge (by omega) (by omega)), pk_rem (by omega) (by decide) (by decide), pk_rem (by omega) (by decide) (by decide), mw_nI (by omega) (by decide), mw_nI (by omega) (by decide), pk_mul, nI_add, show (8 * t + b) % 8 = b by omega, show (8 * t + a) % 8 = a by omega, r1, mc_e, mw_nI (by omega) (by decide), mw_nI (by omega) (by decide), nI_add]
    exact q1
theorem m_12 (hB : p_B P) {t w : Nat} (ht : t < 2) (hw : w < 3) : ∀ (m a n : Nat), a + m = c_ma P t → m < n → ∀ I : MI, m_K P Q I → m_CM (c_to P) I → (∀ k, k < 16 → I 13 k = nI (k % 8)) → m_bp (m_sc P t) (m_sp P t (a * c_ma P t)) I →
    ∃ I', g_X5_swapOf_12 n (nI t) (nI w) (nI (8 * t)) (nI (8 * t + a)) I = some (v_sw (c_to P) t w, I') ∧ m_P P Q I' := by
  have hm := c_ma_le hB ht
  have hr : ∀ c, c_ro (c_ws (c_to P) t (c / c_ma P t) (c % c_ma P t)) ≤ 24 := fun c => c_ro_le (c_ws_B (c_to_B hB) t _ _)
  intro m
  induction m with
  | zero =>
    intro a n ha hn I hK hM h13 hbp
    obtain ⟨n, rfl⟩ : ∃ q, n = q + 1 := ⟨n - 1, by omega⟩
    obtain rfl : a = c_ma P t := by omega
    obtain ⟨b1, b2⟩ := hbp
    have hle : (m_sp P t (c_ma P t * c_ma P t)).1 ≤ c_ma P t * c_ma P t := v_pl_le1 t (fun c => decide (c / c_ma P t < c % c_ma P t)) (fun c => c_ro (c_ws (c_to P) t (c / c_ma P t) (c % c_ma P t))) (c_ma P t * c_ma P t)
    refine ⟨I, ?_, hK.1⟩
    unfold g_X5_swapOf_12 v_sw
    rw [md_nI (by omega) (by decide), (hK.2.1 t ht).1, nI_add, if_pos (nI_le (Nat.le_refl _) (by omega)), mg_e, b1, c_to_0 ht]
    dsimp only
    by_cases q : (m_sp P t (c_ma P t * c_ma P t)).1 = 0
    · rw [if_pos q, if_pos rfl]
      exact congrArg (fun z => some (z, I)) (if_pos q).symm
    · have hc : (m_sp P t (c_ma P t * c_ma P t)).1 - 1 < c_ma P t * c_ma P t := by omega
      have hm0 : 0 < c_ma P t := by
        rcases Nat.eq_zero_or_pos (c_ma P t) with z | z
        · rw [z] at hc; omega
        · exact z
      have hq1 : ((m_sp P t (c_ma P t * c_ma P t)).1 - 1) / c_ma P t < c_ma P t := Nat.div_lt_of_lt_mul hc
      have hq2 : ((m_sp P t (c_ma P t * c_ma P t)).1 - 1) % c_ma P t < c_ma P t := Nat.mod_lt _ hm0
      have e900 : m_sc P t ((m_sp P t (c_ma P t * c_ma P t)).1 - 1) = 16 * (8 * t + ((m_sp P t (c_ma P t * c_ma P t)).1 - 1) / c_ma P t) + (8 * t + ((m_sp P t (c_ma P t * c_ma P t)).1 - 1) % c_ma P t) := Nat.mod_eq_of_lt (by omega)
      rw [if_neg q, if_neg (nI_m1 (by omega)), i_z (by omega)]
      refine Eq.trans ?_ (congrArg (fun z => some (z, I)) (if_neg q).symm)
      by_cases h0 : w = 0
      · rw [if_pos h0, mg_e, b1, if_neg q, pk_div (by omega) (by decide) (by decide), if_pos h0, e900]
        exact congrArg (fun z => some (nI z, I)) (show (16 * (8 * t + ((m_sp P t (c_ma P t * c_ma P t)).1 - 1) / c_ma P t) + (8 * t + ((m_sp P t (c_ma P t * c_ma P t)).1 - 1) % c_ma P t)) / 16 = 8 * t + ((m_sp P t (c_ma P t * c_ma P t)).1 - 1) / c_ma P t by omega)
      · rw [if_neg h0, i_eq (by omega) (by decide), if_neg h0]
        by_cases h1 : w = 1
        · rw [if_pos h1, mg_e, b1, if_neg q, pk_rem (by omega) (by decide) (by decide), if_pos h1, e900]
          exact congrArg (fun z => some (nI z, I)) (show (16 * (8 * t + ((m_sp P t (c_ma P t * c_ma P t)).1 - 1) / c_ma P t) + (8 * t + ((m_sp P t (c_ma P t * c_ma P t)).1 - 1) % c_ma P t)) % 16 = 8 * t + ((m_sp P t (c_ma P t * c_ma P t)).1 - 1) % c_ma P t by omega)
        · rw [if_neg h1, mg_e, b2, if_neg q, if_neg h1]
  | succ m ih =>
    intro a n ha hn I hK hM h13 hbp
    obtain ⟨n, rfl⟩ : ∃ q, n = q + 1 := ⟨n - 1, by omega⟩
    have hsk : m_sp P t (a * c_ma P t + (a + 1)) = m_sp P t (a * c_ma P t) := m_sp_skip (a + 1) (fun x h1 h2 => by
      obtain ⟨y, rfl⟩ : ∃ y, x = a * c_ma P t + y := ⟨x - a * c_ma P t, by omega⟩
      have hdiv : (a * c_ma P t + y) / c_ma P t = a := by
        rw [Nat.mul_comm, Nat.mul_add_div (by omega), Nat.div_eq_of_lt (by omega), Nat.add_zero]
      have hmod : (a * c_ma P t + y) % c_ma P t = y := by
        rw [Nat.mul_comm, Nat.mul_add_mod, Nat.mod_eq_of_lt (by omega)]
      rw [hdiv, hmod]
      omega) rfl
    obtain ⟨I1, r1, r2, r3, r4, r5⟩ := m_31 hB (rec := g_X5_swapOf_12 n) (w := w) ht (show a < c_ma P t by omega) m (a + 1) fw_fuel (by omega) (by omega) (by unfold fw_fuel; omega) I hK hM h13 (by rw [hsk]; exact hbp)
    obtain ⟨I', q1, q2⟩ := ih (a + 1) n (by omega) (by omega) I1 r2 r3 r4 r5
    refine ⟨I', ?_, q2⟩
    unfold g_X5_swapOf_12
    rw [md_nI (by omega) (by decide), (hK.2.1 t ht).1, nI_add, if_neg (nI_ge (by omega) (by omega)), nI_add, show 8 * t + a + 1 = 8 * t + (a + 1) by omega, r1]
    exact q1
theorem m_swapOf (hB : p_B P) {I : MI} (hP : m_P P Q I) {t w : Nat} (ht : t < 2) (hw : w < 3) : ∃ I', g_X5_swapOf (nI t) (nI w) I = some (v_sw (c_to P) t w, I') ∧ m_P P Q I' := by
  obtain ⟨I1, a1, a2, a3, a4, a5⟩ := m_starts hB hP
  have hm := c_ma_le hB ht
  obtain ⟨I', r1, r2⟩ := m_12 hB ht hw (c_ma P t) 0 fw_fuel (by omega) (by unfold fw_fuel; omega) I1 a2 a3 a4 (by rw [Nat.zero_mul]; exact a5 _)
  refine ⟨I', ?_, r2⟩
  unfold g_X5_swapOf
  rw [a1, mc_e, pk_mul]
  exact r1
end Mq
