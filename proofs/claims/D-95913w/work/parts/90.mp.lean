set_option maxRecDepth 100000
/-! The model's plans. -/
theorem m_CM.g {C : CF} {I I' : MI} (h : m_CM C I) (e : ∀ j x, ((3 ≤ j ∧ j ≤ 6) ∨ (9 ≤ j ∧ j ≤ 12) ∨ (j = 0 ∧ (x = 8 ∨ x = 9 ∨ x = 14 ∨ x = 16))) → I' j x = I j x) : m_CM C I' := by
  refine ⟨fun t ht => (e 3 t (by omega)).trans (h.1 t ht), fun k hk => ⟨(e 4 k (by omega)).trans (h.2.1 k hk).1, (e 5 k (by omega)).trans (h.2.1 k hk).2.1, (e 6 k (by omega)).trans (h.2.1 k hk).2.2⟩, fun x hx => (e 12 x (by omega)).trans (h.2.2.1 x hx), (e 0 8 (by omega)).trans h.2.2.2.1, (e 0 9 (by omega)).trans h.2.2.2.2.1, fun x hx => ?_, fun k hk => ?_⟩
  · have := h.2.2.2.2.2.1 x hx
    rw [e 9 x (by omega), e 10 x (by omega), e 11 x (by omega), e 0 14 (by omega)]
    exact this
  · rw [e 0 16 (by omega)]
    exact h.2.2.2.2.2.2 k hk
section Mp
variable {P : CF} {Q : Nat → Int32}
/-- the best plan so far -/
def m_bp (pc : Nat → Nat) (s : Nat × Nat) (I : MI) : Prop := I 0 34 = (if s.1 = 0 then -nI 1 else nI (pc (s.1 - 1))) ∧ I 0 35 = (if s.1 = 0 then -nI 1 else nI s.2)
abbrev m_vp (j x : Nat) : Prop := m_v j x ∨ (j = 0 ∧ (x = 34 ∨ x = 35))
theorem c_ro_le {C : CF} (hC : c_B C) : c_ro C ≤ 24 := (c_rs_SB hC 24).1
theorem m_tries {C : CF} {I : MI} (hC : c_B C) (hM : m_CM C I) (hPL : m_PL C I) {p t n : Nat} {pc : Nat → Nat} {s : Nat × Nat} (ht : t < 2) (hpc : pc n = p) (hp : ∀ i, pc i < 1000) (hs : s.2 ≤ 24) (hbp : m_bp pc s I) :
    ∃ I', g_X5_tries (nI p) (nI t) I = some ((), I') ∧ m_f m_vp I I' ∧ m_bp pc (if s.1 = 0 ∨ (if t = 0 then s.2 < c_ro C else c_ro C < s.2) then (n + 1, c_ro C) else s) I' := by
  obtain ⟨I1, r1, r2, r3, -⟩ := m_runs hC hM hPL
  have e34 : I1 0 34 = I 0 34 := r2 0 34 (by omega)
  have e35 : I1 0 35 = I 0 35 := r2 0 35 (by omega)
  have h21 : I1 0 21 = nI (c_ro C) := r3.1
  have hro := c_ro_le hC
  obtain ⟨b1, b2⟩ := hbp
  generalize c_ro C = ro at h21 hro ⊢
  have yes : g_X5_tries_41 (nI p) I1 = some ((), fw_u2 (fw_u2 I1 0 34 (nI p)) 0 35 (nI (ro))) := by
    unfold g_X5_tries_41 g_X5_tries_46 g_X5_tries_60
    rw [if_neg (by decide), mp_e, if_neg (by decide), mg_e, fw_u2_ne _ _ (by omega), h21, mp_e]
  have no : g_X5_tries_45 (nI p) I1 = some ((), I1) := by
    unfold g_X5_tries_45 g_X5_tries_46 g_X5_tries_60
    rw [if_pos nI_0, mg_e, mp_e, if_pos nI_0, mg_e, mp_e, fw_u2_id I1 rfl, fw_u2_id I1 rfl]
  have fy : m_f m_vp I (fw_u2 (fw_u2 I1 0 34 (nI p)) 0 35 (nI (ro))) := ((r2.m (fun j x q => Or.inl q)).w (Or.inr ⟨rfl, Or.inl rfl⟩)).w (Or.inr ⟨rfl, Or.inr rfl⟩)
  have by' : m_bp pc (n + 1, ro) (fw_u2 (fw_u2 I1 0 34 (nI p)) 0 35 (nI (ro))) := by
    refine ⟨?_, ?_⟩
    · rw [fw_u2_ne _ _ (by omega), fw_u2_self]
      show _ = if n + 1 = 0 then _ else nI (pc n)
      rw [if_neg (by omega), hpc]
    · rw [fw_u2_self]
      show _ = if n + 1 = 0 then _ else nI (ro)
      rw [if_neg (by omega)]
  unfold g_X5_tries
  rw [r1, mc_e, mg_e, e34, b1]
  by_cases h0 : s.1 = 0
  · rw [if_pos h0, if_pos rfl, yes, if_pos (Or.inl h0)]
    exact ⟨_, rfl, fy, by'⟩
  · have h35 : I1 0 35 = nI s.2 := by rw [e35, b2, if_neg h0]
    have hpcs := hp (s.1 - 1)
    rw [if_neg h0, if_neg (nI_m1 (by omega)), i_z (by omega), mg_e, mg_e, mg_e, h21, h35]
    by_cases ht0 : t = 0
    · rw [if_pos ht0, i_le (by omega) (by omega)]
      by_cases q : s.2 < ro
      · rw [if_neg (by omega), yes, if_pos (Or.inr (by rw [if_pos ht0]; exact q))]
        exact ⟨_, rfl, fy, by'⟩
      · rw [if_pos (by omega), no, if_neg (fun z => z.elim h0 (fun z => by rw [if_pos ht0] at z; exact q z))]
        exact ⟨_, rfl, r2.m (fun j x q => Or.inl q), e34.trans b1, e35.trans b2⟩
    · rw [if_neg ht0, mg_e, h35, i_le (by omega) (by omega)]
      by_cases q : ro < s.2
      · rw [if_neg (by omega), yes, if_pos (Or.inr (by rw [if_neg ht0]; exact q))]
        exact ⟨_, rfl, fy, by'⟩
      · rw [if_pos (by omega), no, if_neg (fun z => z.elim h0 (fun z => by rw [if_neg ht0] at z; exact q z))]
        exact ⟨_, rfl, r2.m (fun j x q => Or.inl q), e34.trans b1, e35.trans b2⟩
theorem v_pl_or (t : Nat) (ok : Nat → Bool) (r : Nat → Nat) (n : Nat) : v_pl t ok r (n + 1) = (n + 1, r n) ∨ v_pl t ok r (n + 1) = v_pl t ok r n := by
  by_cases q : ok n = true ∧ ((v_pl t ok r n).1 = 0 ∨ (if t = 0 then (v_pl t ok r n).2 < r n else r n < (v_pl t ok r n).2))
  · exact Or.inl (if_pos q)
  · exact Or.inr (if_neg q)
theorem v_pl_le1 (t : Nat) (ok : Nat → Bool) (r : Nat → Nat) : ∀ n, (v_pl t ok r n).1 ≤ n
  | 0 => Nat.le_refl _
  | n + 1 => by
    have := v_pl_le1 t ok r n
    rcases v_pl_or t ok r n with e | e <;> rw [e]
    · exact Nat.le_refl _
    · omega
theorem v_pl_le {t : Nat} {ok : Nat → Bool} {r : Nat → Nat} {N : Nat} (hr : ∀ n, n < N → r n ≤ 24) : ∀ n, n ≤ N → (v_pl t ok r n).2 ≤ 24
  | 0, _ => Nat.zero_le _
  | n + 1, h => by
    have := v_pl_le (t := t) (ok := ok) hr n (by omega)
    rcases v_pl_or t ok r n with e | e <;> rw [e]
    · exact hr n (by omega)
    · exact this
theorem v_pl_yes {t : Nat} {ok : Nat → Bool} {r : Nat → Nat} {n : Nat} (h : ok n = true) : v_pl t ok r (n + 1) = if (v_pl t ok r n).1 = 0 ∨ (if t = 0 then (v_pl t ok r n).2 < r n else r n < (v_pl t ok r n).2) then (n + 1, r n) else v_pl t ok r n := by
  show (if ok n = true ∧ _ then _ else _) = _
  by_cases q : (v_pl t ok r n).1 = 0 ∨ (if t = 0 then (v_pl t ok r n).2 < r n else r n < (v_pl t ok r n).2)
  · rw [if_pos ⟨h, q⟩, if_pos q]
  · rw [if_neg (fun z => q z.2), if_neg q]
theorem v_pl_no {t : Nat} {ok : Nat → Bool} {r : Nat → Nat} {n : Nat} (h : ok n = false) : v_pl t ok r (n + 1) = v_pl t ok r n := if_neg (fun q => by rw [h] at q; cases q.1)
theorem v_pl_ne {t : Nat} {r : Nat → Nat} : ∀ n, (v_pl t (fun _ => true) r (n + 1)).1 ≠ 0
  | 0 => by
    have e : v_pl t (fun _ => true) r 1 = (1, r 0) := (v_pl_yes rfl).trans (if_pos (Or.inl rfl))
    rw [e]
    show 1 ≠ 0
    decide
  | n + 1 => by
    have := v_pl_ne (t := t) (r := r) n
    rcases v_pl_or t (fun _ => true) r (n + 1) with e | e <;> rw [e]
    · show n + 1 + 1 ≠ 0
      omega
    · exact this
theorem m_starts (hB : p_B P) {I : MI} (hP : m_P P Q I) : ∃ I', g_X5_starts I = some ((), I') ∧ m_K P Q I' ∧ m_CM (c_to P) I' ∧ (∀ k, k < 16 → I' 13 k = nI (k % 8)) ∧ ∀ pc, m_bp pc (0, 0) I' := by
  obtain ⟨I1, a1, a2, a3, a4, a5, a6⟩ := m_told hB hP
  have f1 : m_f (fun j x => j = 0 ∧ (x = 34 ∨ x = 35)) I1 (fw_u2 (fw_u2 I1 0 34 (-nI 1)) 0 35 (-nI 1)) := ((m_f.r I1).w (by omega)).w (by omega)
  refine ⟨_, ?_, a2.f hB (f1.m (fun j x q => by omega)), ?_, fun k hk => by rw [f1 13 k (by omega)]; exact a4 k hk, fun pc => ⟨by rw [fw_u2_ne _ _ (by omega), fw_u2_self]; rfl, by rw [fw_u2_self]; rfl⟩⟩
  · unfold g_X5_starts
    rw [a1, mc_e, mp_e, mp_e]
  · exact a3.g (fun j x q => f1 j x (by omega))
theorem c_wc_B {C : CF} (hC : c_B C) {t b v : Nat} (hv : v ≤ 2) : c_B (c_wc C t b v) := by
  refine ⟨hC.1, hC.2.1, fun x => ?_, hC.2.2.2⟩
  unfold c_wc
  rw [fw_u2_at]
  split
  · exact hv
  · exact hC.2.2.1 x
theorem m_CM.call {C : CF} {I : MI} {t b v : Nat} (ht : t < 2) (hb : b < 24) (h : ∃ v0, m_CM (c_wc C t b v0) I) : m_CM (c_wc C t b v) (fw_u2 I 12 (24 * t + b) (nI v)) := by
  obtain ⟨v0, m1, m2, m3, m4, m5, m6, m7⟩ := h
  refine ⟨m1, m2, fun x hx => ?_, m4, m5, m6, m7⟩
  by_cases q : x = 24 * t + b
  · subst q
    unfold c_wc
    rw [fw_u2_self, fw_u2_self]
  · have := m3 x hx
    unfold c_wc at this ⊢
    rw [fw_u2_ne _ _ (by omega)] at this
    rw [fw_u2_ne _ _ (by omega), fw_u2_ne _ _ (by omega)]
    exact this
theorem m_bt7 (hB : p_B P) {t b w : Nat} (ht : t < 2) (hb : b < 24) (hw : w < 2) : ∀ (m v n : Nat), v + m = 3 → m < n → ∀ I : MI, m_K P Q I → (∃ v0, m_CM (c_wc (c_to P) t b v0) I) → (∀ k, k < 16 → I 13 k = nI (k % 8)) → m_bp (fun i => i % 900) (v_pl t (fun _ => true) (fun v => c_ro (c_wc (c_to P) t b v)) v) I →
    ∃ I', g_X5_betterOf_7 n (nI t) (nI b) (nI w) (nI v) I = some (v_bt (c_to P) t b w, I') ∧ m_P P Q I' := by
  intro m
  induction m with
  | zero =>
    intro v n hv hn I hK hM h13 hbp
    obtain ⟨n, rfl⟩ : ∃ q, n = q + 1 := ⟨n - 1, by omega⟩
    obtain rfl : v = 3 := by omega
    have hne := v_pl_ne (t := t) (r := fun v => c_ro (c_wc (c_to P) t b v)) 2
    obtain ⟨b1, b2⟩ := hbp
    rw [if_neg hne] at b1 b2
    refine ⟨I, ?_, hK.1⟩
    unfold g_X5_betterOf_7 v_bt
    rw [if_pos (by decide), i_z (by omega)]
    by_cases h0 : w = 0
    · rw [if_pos h0, mg_e, b1, if_pos h0]
      have := v_pl_ne (t := t) (r := fun v => c_ro (c_wc (c_to P) t b v)) 2
      have hle := v_pl_le1 t (fun _ => true) (fun v => c_ro (c_wc (c_to P) t b v)) 3
      dsimp only
      rw [Nat.mod_eq_of_lt (by omega)]
    · rw [if_neg h0, mg_e, b2, if_neg h0]
  | succ m ih =>
    intro v n hv hn I hK hM h13 hbp
    obtain ⟨n, rfl⟩ : ∃ q, n = q + 1 := ⟨n - 1, by omega⟩
    have hM1 := m_CM.call ht hb (v := v) hM
    have hCv : c_B (c_wc (c_to P) t b v) := c_wc_B (c_to_B hB) (by omega)
    have h13' : ∀ k, k < 16 → fw_u2 I 12 (24 * t + b) (nI v) 13 k = nI (k % 8) := fun k hk => by rw [fw_u2_ne _ _ (by omega)]; exact h13 k hk
    have hPL : m_PL (c_wc (c_to P) t b v) (fw_u2 I 12 (24 * t + b) (nI v)) := m_PL_to hB h13' (fun _ ht => c_to_0 ht) (fun _ _ => rfl) (Nat.le_refl 16)
    have f1 : m_f (fun j _ => j = 12) I (fw_u2 I 12 (24 * t + b) (nI v)) := (m_f.r I).w rfl
    obtain ⟨I1, r1, r2, r3⟩ := m_tries hCv hM1 hPL (p := v) (n := v) (pc := fun i => i % 900) ht (by show v % 900 = v; omega) (fun i => by show i % 900 < 1000; omega) (s := v_pl t (fun _ => true) (fun v => c_ro (c_wc (c_to P) t b v)) v) (v_pl_le (N := 3) (fun q hq => c_ro_le (c_wc_B (c_to_B hB) (by omega))) v (by omega)) ⟨by rw [fw_u2_ne _ _ (by omega)]; exact hbp.1, by rw [fw_u2_ne _ _ (by omega)]; exact hbp.2⟩
    have f2 : m_f (fun j x => j = 12 ∨ m_vp j x) I I1 := (f1.m (fun j x q => Or.inl q)).t (r2.m (fun j x q => Or.inr q))
    have hMI : m_CM (c_wc (c_to P) t b v) I1 := hM1.g (fun j x q => r2 j x (by omega))
    obtain ⟨I', q1, q2⟩ := ih (v + 1) n (by omega) (by omega) I1 (hK.f hB (f2.m (fun j x q => by omega))) ⟨v, hMI⟩ (fun k hk => by rw [f2 13 k (by omega)]; exact h13 k hk) (by rw [v_pl_yes rfl]; exact r3)
    refine ⟨I', ?_, q2⟩
    unfold g_X5_betterOf_7
    rw [if_neg (nI_ge (by omega) (by decide)), pk_mul, nI_add, mw_nI (by omega) (by decide), r1, mc_e, nI_add]
    exact q1
theorem m_betterOf (hB : p_B P) {I : MI} (hP : m_P P Q I) {t b w : Nat} (ht : t < 2) (hb : b < 24) (hw : w < 2) : ∃ I', g_X5_betterOf (nI t) (nI b) (nI w) I = some (v_bt (c_to P) t b w, I') ∧ m_P P Q I' := by
  obtain ⟨I1, a1, a2, a3, a4, a5⟩ := m_starts hB hP
  have hid : c_wc (c_to P) t b (c_to P 4 (24 * t + b)) = c_to P := fw_u2_id _ rfl
  obtain ⟨I', r1, r2⟩ := m_bt7 hB ht hb hw 3 0 fw_fuel rfl (by decide) I1 a2 ⟨_, by rw [hid]; exact a3⟩ a4 (a5 _)
  refine ⟨I', ?_, r2⟩
  unfold g_X5_betterOf
  rw [a1, mc_e]
  exact r1
/-! one is out -/
theorem c_wo_B {C : CF} (hC : c_B C) (t i : Nat) : c_B (c_wo C t i) := ⟨hC.1, hC.2.1, hC.2.2.1, hC.2.2.2.1, hC.2.2.2.2.1, hC.2.2.2.2.2⟩
theorem m_CM.out {C : CF} {I : MI} {t i : Nat} (hi : 8 * t + i < 16) (h : ∃ J, m_CM C J ∧ ∀ j x, (j ≠ 0 ∨ x ≠ 16) → J j x = I j x) : m_CM (c_wo C t i) (fw_u2 I 0 16 (nI (8 * t + i))) := by
  obtain ⟨J, ⟨m1, m2, m3, m4, m5, m6, m7⟩, e⟩ := h
  have g : ∀ j x, (j ≠ 0 ∨ x ≠ 16) → fw_u2 I 0 16 (nI (8 * t + i)) j x = J j x := fun j x q => by rw [fw_u2_ne _ _ (by omega)]; exact (e j x q).symm
  refine ⟨fun u hu => (g _ _ (by omega)).trans (m1 u hu), fun k hk => ?_, fun x hx => (g _ _ (by omega)).trans (m3 x hx), (g _ _ (by omega)).trans m4, (g _ _ (by omega)).trans m5, fun x hx => ?_, fun k hk => ?_⟩
  · have := m2 k hk
    rw [g _ _ (by omega), g _ _ (by omega), g _ _ (by omega)]
    exact this
  · have := m6 x hx
    rw [g _ _ (by omega), g _ _ (by omega), g _ _ (by omega), g 0 14 (by omega)]
    exact this
  · rw [fw_u2_self, nI_eq (by omega) (by omega)]
    show k = 8 * t + i ↔ 8 * t + i = k
    exact eq_comm
theorem m_PL_out (hB : p_B P) {I : MI} (h : ∀ k, k < 16 → I 13 k = nI (k % 8)) {t i : Nat} (ht : t < 2) (hi : i < c_ma P t) : m_PL (c_wo (c_to P) t i) I := by
  have hm := c_ma_le hB ht
  refine ⟨fun k => k % 8, fun k hk => ⟨h k hk, by show k % 8 ≤ 100; omega⟩, fun k hk => ?_, fun j k hj hk hd he => by
    have he : j % 8 = k % 8 := he
    have := hj.1.1
    have := hk.1.1
    omega⟩
  have hk1 := hk.1.1
  have hk2 : k % 8 < c_to P 0 (k / 8) := hk.1.2
  have hk3 : 8 * t + i ≠ k := hk.2
  have hkt : k / 8 < 2 := by omega
  rw [c_to_0 hkt] at hk2
  have hmk := c_ma_le hB hkt
  have e11 : c_wo (c_to P) t i 11 (k / 8) = if k / 8 = t then (if i + 1 = c_ma P t then (if i = 0 then 16 else 8 * t + i - 1) else 8 * t + c_ma P t - 1) else 8 * (k / 8) + c_ma P (k / 8) - 1 := by
    show (if 11 = 11 ∧ k / 8 = t then (if i + 1 = c_to P 0 t then (if i = 0 then 16 else 8 * t + i - 1) else c_to P 11 t) else c_to P 11 (k / 8)) = _
    rw [c_to_0 ht, show c_to P 11 t = if c_ma P t = 0 then 16 else 8 * t + c_ma P t - 1 from rfl, if_neg (show ¬ c_ma P t = 0 by omega), show c_to P 11 (k / 8) = if c_ma P (k / 8) = 0 then 16 else 8 * (k / 8) + c_ma P (k / 8) - 1 from rfl, if_neg (show ¬ c_ma P (k / 8) = 0 by omega)]
    by_cases q : k / 8 = t
    · rw [if_pos ⟨rfl, q⟩, if_pos q]
    · rw [if_neg (fun z => q z.2), if_neg q]
  rw [e11]
  have here : ∀ j, j < 16 → j / 8 = k / 8 → j % 8 < c_ma P (k / 8) → 8 * t + i ≠ j → c_he (c_wo (c_to P) t i) j := fun j h1 h2 h3 h4 => ⟨⟨h1, by show j % 8 < c_to P 0 (j / 8); rw [h2, c_to_0 hkt]; exact h3⟩, h4⟩
  have low : ∀ j, c_he (c_wo (c_to P) t i) j → j / 8 = k / 8 → j < 16 ∧ j % 8 < c_ma P (k / 8) ∧ 8 * t + i ≠ j := fun j hj hjt => by
    have h2 : j % 8 < c_to P 0 (j / 8) := hj.1.2
    rw [hjt, c_to_0 hkt] at h2
    exact ⟨hj.1.1, h2, hj.2⟩
  by_cases q : k / 8 = t
  · subst q
    rw [if_pos rfl]
    by_cases q1 : i + 1 = c_ma P (k / 8)
    · rw [if_pos q1]
      by_cases q2 : i = 0
      · omega
      · rw [if_neg q2]
        constructor
        · intro e j hj hjt
          obtain ⟨l1, l2, l3⟩ := low j hj hjt
          show j % 8 ≤ k % 8
          omega
        · intro e
          have := e (8 * (k / 8) + i - 1) (here _ (by omega) (by omega) (by omega) (by omega)) (by omega)
          have this : (8 * (k / 8) + i - 1) % 8 ≤ k % 8 := this
          omega
    · rw [if_neg q1]
      constructor
      · intro e j hj hjt
        obtain ⟨l1, l2, l3⟩ := low j hj hjt
        show j % 8 ≤ k % 8
        omega
      · intro e
        have := e (8 * (k / 8) + c_ma P (k / 8) - 1) (here _ (by omega) (by omega) (by omega) (by omega)) (by omega)
        have this : (8 * (k / 8) + c_ma P (k / 8) - 1) % 8 ≤ k % 8 := this
        omega
  · rw [if_neg q]
    constructor
    · intro e j hj hjt
      obtain ⟨l1, l2, l3⟩ := low j hj hjt
      show j % 8 ≤ k % 8
      omega
    · intro e
      have := e (8 * (k / 8) + c_ma P (k / 8) - 1) (here _ (by omega) (by omega) (by omega) (by omega)) (by omega)
      have this : (8 * (k / 8) + c_ma P (k / 8) - 1) % 8 ≤ k % 8 := this
      omega
theorem m_ou9 (hB : p_B P) {t w : Nat} (ht : t < 2) (hw : w < 2) : ∀ (m i n : Nat), i + m = c_ma P t → m < n → ∀ I : MI, m_K P Q I → (∃ J, m_CM (c_to P) J ∧ ∀ j x, (j ≠ 0 ∨ x ≠ 16) → J j x = I j x) → (∀ k, k < 16 → I 13 k = nI (k % 8)) → m_bp (fun i => (8 * t + i) % 900) (v_pl t (fun _ => true) (fun i => c_ro (c_wo (c_to P) t i)) i) I →
    ∃ I', g_X5_outOf_9 n (nI t) (nI w) (nI (8 * t + i)) I = some (v_ou (c_to P) t w, I') ∧ m_P P Q I' := by
  have hm := c_ma_le hB ht
  have hr : ∀ i, c_ro (c_wo (c_to P) t i) ≤ 24 := fun i => c_ro_le (c_wo_B (c_to_B hB) t i)
  intro m
  induction m with
  | zero =>
    intro i n hi hn I hK hM h13 hbp
    obtain ⟨n, rfl⟩ : ∃ q, n = q + 1 := ⟨n - 1, by omega⟩
    obtain rfl : i = c_ma P t := by omega
    obtain ⟨b1, b2⟩ := hbp
    have hle := v_pl_le1 t (fun _ => true) (fun i => c_ro (c_wo (c_to P) t i)) (c_ma P t)
    refine ⟨I, ?_, hK.1⟩
    unfold g_X5_outOf_9 v_ou
    rw [md_nI (by omega) (by decide), (hK.2.1 t ht).1, pk_mul, nI_add, if_pos (nI_le (Nat.le_refl _) (by omega)), i_z (by omega), c_to_0 ht]
    dsimp only
    by_cases h0 : w = 0
    · rw [if_pos h0, mg_e, b1]
      by_cases q : (v_pl t (fun _ => true) (fun i => c_ro (c_wo (c_to P) t i)) (c_ma P t)).1 = 0
      · rw [if_pos q, if_pos q]
      · rw [if_neg q, if_neg q, if_pos h0]
        dsimp only
        rw [Nat.mod_eq_of_lt (by omega)]
        exact congrArg (fun z => some (nI z, I)) (by omega)
    · rw [if_neg h0, mg_e, b2]
      by_cases q : (v_pl t (fun _ => true) (fun i => c_ro (c_wo (c_to P) t i)) (c_ma P t)).1 = 0
      · rw [if_pos q, if_pos q]
      · rw [if_neg q, if_neg q, if_neg h0]
  | succ m ih =>
    intro i n hi hn I hK hM h13 hbp
    obtain ⟨n, rfl⟩ : ∃ q, n = q + 1 := ⟨n - 1, by omega⟩
    have hM1 := m_CM.out (t := t) (i := i) (by omega) hM
    have f1 : m_f (fun j x => j = 0 ∧ x = 16) I (fw_u2 I 0 16 (nI (8 * t + i))) := (m_f.r I).w ⟨rfl, rfl⟩
    have h13' : ∀ k, k < 16 → fw_u2 I 0 16 (nI (8 * t + i)) 13 k = nI (k % 8) := fun k hk => by rw [fw_u2_ne _ _ (by omega)]; exact h13 k hk
    obtain ⟨I1, r1, r2, r3⟩ := m_tries (c_wo_B (c_to_B hB) t i) hM1 (m_PL_out hB h13' ht (by omega)) (p := 8 * t + i) (n := i) (pc := fun i => (8 * t + i) % 900) ht (by show (8 * t + i) % 900 = _; omega) (fun i => by show (8 * t + i) % 900 < 1000; omega) (s := v_pl t (fun _ => true) (fun i => c_ro (c_wo (c_to P) t i)) i) (v_pl_le (N := i) (fun n _ => hr n) i (Nat.le_refl _)) ⟨by rw [fw_u2_ne _ _ (by omega)]; exact hbp.1, by rw [fw_u2_ne _ _ (by omega)]; exact hbp.2⟩
    have f2 : m_f (fun j x => (j = 0 ∧ x = 16) ∨ m_vp j x) I I1 := (f1.m (fun j x q => Or.inl q)).t (r2.m (fun j x q => Or.inr q))
    obtain ⟨J, hJ, eJ⟩ := hM
    have hMn : ∃ J, m_CM (c_to P) J ∧ ∀ j x, (j ≠ 0 ∨ x ≠ 16) → J j x = I1 j x := ⟨fun j x => if j = 0 ∧ x = 16 then J 0 16 else I1 j x, hJ.g (fun j x q => by
      by_cases z : j = 0 ∧ x = 16
      · show (if j = 0 ∧ x = 16 then J 0 16 else I1 j x) = J j x
        rw [if_pos z, z.1, z.2]
      · show (if j = 0 ∧ x = 16 then J 0 16 else I1 j x) = J j x
        rw [if_neg z, f2 j x (by omega)]
        exact (eJ j x (by omega)).symm), fun j x q => if_neg (by omega)⟩
    obtain ⟨I', q1, q2⟩ := ih (i + 1) n (by omega) (by omega) I1 (hK.f hB (f2.m (fun j x q => by omega))) hMn (fun k hk => by rw [f2 13 k (by omega)]; exact h13 k hk) (by rw [v_pl_yes rfl]; exact r3)
    refine ⟨I', ?_, q2⟩
    unfold g_X5_outOf_9
    rw [md_nI (by omega) (by decide), (hK.2.1 t ht).1, pk_mul, nI_add, if_neg (nI_ge (by omega) (by omega)), mp_e, r1, mc_e, nI_add]
    exact q1
theorem m_outOf (hB : p_B P) {I : MI} (hP : m_P P Q I) {t w : Nat} (ht : t < 2) (hw : w < 2) : ∃ I', g_X5_outOf (nI t) (nI w) I = some (v_ou (c_to P) t w, I') ∧ m_P P Q I' := by
  obtain ⟨I1, a1, a2, a3, a4, a5⟩ := m_starts hB hP
  have hm := c_ma_le hB ht
  obtain ⟨I', r1, r2⟩ := m_ou9 hB ht hw (c_ma P t) 0 fw_fuel (by omega) (by unfold fw_fuel; omega) I1 a2 ⟨I1, a3, fun _ _ _ => rfl⟩ a4 (a5 _)
  refine ⟨I', ?_, r2⟩
  unfold g_X5_outOf
  rw [a1, mc_e, pk_mul]
  exact r1
end Mp
