set_option maxRecDepth 100000
/-! The model: chance, ask. -/
section Mc
variable {P : CF} {Q : Nat → Int32}
/-! the lowest terms -/
theorem mz_e {γ : Type} {v : Int64} (k : Option γ) (h : v ≠ 0) : mz v k = k := if_neg h
theorem lN_z {n : Nat} (h : n < 2 ^ 63) : lN n = 0 ↔ n = 0 := pk_lEQ (b := 0) h (by decide)
theorem v_gcds (a b : Nat) : Nat.gcd a b = Nat.gcd b (a % b) := by
  rw [Nat.gcd_comm a b, Nat.gcd_rec b a, Nat.gcd_comm]
theorem m_low6 {s d w : Nat} (hs : s < 2 ^ 62) (hd : d < 2 ^ 62) (hw : w < 2) (I : MI) : ∀ (k a b n : Nat), b < 2 ^ k → 2 * k + 1 ≤ n → a < 2 ^ 62 → b < 2 ^ 62 → 0 < a ∨ 0 < b →
    g_X5_lowest_6 n (lN s) (lN d) (nI w) (lN a) (lN b) I = some (lN ((if w = 0 then s else d) / Nat.gcd a b), I) := by
  have done : ∀ a n : Nat, 0 < a → a < 2 ^ 62 → 1 ≤ n → g_X5_lowest_6 n (lN s) (lN d) (nI w) (lN a) (lN 0) I = some (lN ((if w = 0 then s else d) / Nat.gcd a 0), I) := by
    intro a n ha h2 hn
    obtain ⟨n, rfl⟩ : ∃ q, n = q + 1 := ⟨n - 1, by omega⟩
    unfold g_X5_lowest_6
    rw [if_pos ((lN_z (by decide)).2 rfl), i_z (by omega), Nat.gcd_zero_right]
    have h0 : lN a ≠ 0 := fun z => by have := (lN_z (by omega)).1 z; omega
    by_cases q : w = 0
    · rw [if_pos q, mz_e _ h0, pk_lDiv (by omega) ha (by omega), if_pos q]
    · rw [if_neg q, mz_e _ h0, pk_lDiv (by omega) ha (by omega), if_neg q]
  have step : ∀ a b n : Nat, 0 < b → a < 2 ^ 62 → b < 2 ^ 62 → 1 ≤ n → g_X5_lowest_6 n (lN s) (lN d) (nI w) (lN a) (lN b) I = g_X5_lowest_6 (n - 1) (lN s) (lN d) (nI w) (lN b) (lN (a % b)) I := by
    intro a b n hb h1 h2 hn
    obtain ⟨n, rfl⟩ : ∃ q, n = q + 1 := ⟨n - 1, by omega⟩
    have h0 : lN b ≠ 0 := fun z => by have := (lN_z (by omega)).1 z; omega
    show (if lN b = (0 : Int64) then _ else mz (lN b) (g_X5_lowest_6 n (lN s) (lN d) (nI w) (lN b) (lN a - lN a / lN b * lN b) I)) = _
    rw [if_neg h0, mz_e _ h0, pk_lRem (by omega) hb (by omega)]
    rfl
  intro k
  induction k with
  | zero =>
    intro a b n hb hn ha h2 h
    obtain rfl : b = 0 := by omega
    exact done a n (by omega) ha (by omega)
  | succ k ih =>
    intro a b n hb hn ha h2 h
    by_cases hb0 : b = 0
    · subst hb0
      exact done a n (by omega) ha (by omega)
    · rw [step a b n (by omega) ha h2 (by omega), v_gcds a b]
      have hr := Nat.mod_lt a (show 0 < b by omega)
      by_cases hr0 : a % b = 0
      · rw [hr0]
        exact done b _ (by omega) h2 (by omega)
      · rw [step b (a % b) _ (by omega) h2 (by omega) (by omega), v_gcds b (a % b)]
        have hr2 := Nat.mod_lt b (show 0 < a % b by omega)
        have hh : b % (a % b) < 2 ^ k := by
          have h1 := Nat.mod_add_div b (a % b)
          have h2 : 1 ≤ b / (a % b) := (Nat.one_le_div_iff (by omega)).2 (by omega)
          have h3 : a % b * 1 ≤ a % b * (b / (a % b)) := Nat.mul_le_mul_left _ h2
          rw [Nat.pow_succ] at hb
          omega
        exact ih (a % b) (b % (a % b)) _ hh (by omega) (by omega) (by omega) (by omega)
theorem m_lowest {s d w : Nat} (hs : s < 2 ^ 60) (hd : 0 < d) (hd2 : d ≤ 2 ^ 32) (hw : w < 2) (I : MI) : g_X5_lowest (lN s) (lN d) (nI w) I = some (lN ((if w = 0 then s else d) / Nat.gcd s d), I) :=
  m_low6 (by omega) (by omega) hw I 33 s d fw_fuel (by omega) (by decide) (by omega) (by omega) (Or.inr hd)
/-! chance -/
theorem v_shN : ∀ n, n < 31 → nI 1 <<< (nI n &&& 31) = nI (2 ^ n) := by decide +kernel
theorem v_shL : ∀ n, n < 9 → (1 : Int64) <<< ((nI 4 * nI n).toInt64 &&& 63) = lN (16 ^ n) := by decide +kernel
theorem v_cw_le {c : Nat} (hc : c ≤ 16) (g : Nat) : ∀ i, v_cw c g i ≤ 16 ^ i
  | 0 => Nat.le_refl _
  | i + 1 => by
    have := v_cw_le hc g i
    rw [Nat.pow_succ]
    show v_cw c g i * (if bt (nI g) i = true then 16 - c else c) ≤ _
    split
    · exact Nat.mul_le_mul this (by omega)
    · exact Nat.mul_le_mul this hc
theorem v_cs_le {C : CF} {c : Nat} (hc : c ≤ 16) (t n : Nat) : ∀ g, v_cs C c t n g ≤ g * 16 ^ n
  | 0 => Nat.zero_le _
  | g + 1 => by
    have h1 := v_cs_le (C := C) hc t n g
    have h2 := v_cw_le hc g n
    rw [Nat.succ_mul]
    show v_cs C c t n g + (if v_wi (c_ro (c_wg C (nI g))) = nI t then v_cw c g n else 0) ≤ _
    split <;> omega
theorem v_p16 {n : Nat} (h : n ≤ 8) : 16 ^ n ≤ 2 ^ 32 := Nat.le_trans (Nat.pow_le_pow_right (by decide) h) (by decide)
theorem v_p2 {n : Nat} (h : n ≤ 8) : 2 ^ n ≤ 256 := Nat.le_trans (Nat.pow_le_pow_right (by decide) h) (by decide)
theorem m_ch27 (hB : p_B P) {rec : Int32 → Int32 → Int32 → Int64 → Int32 → MI → Option (Int64 × MI)} {c t w g : Nat} (hc : c ≤ 16) (ht : t < 2) {y : Nat} (hy : y = v_cs (c_to P) c t (P 3 0) g) : ∀ (m i n : Nat), i + m = P 3 0 → m < n → ∀ I : MI, m_G P Q I →
    ∃ I', g_X5_chanceOf_27 rec n (nI c) (nI t) (nI w) (lN y) (nI g) (lN (v_cw c g i)) (nI i) I = rec (nI c) (nI t) (nI w) (lN (v_cs (c_to P) c t (P 3 0) (g + 1))) (nI (g + 1)) I' ∧ m_G P Q I' := by
  have h3 := hB.2.2.2.1
  have h16 := v_p16 h3
  intro m
  induction m with
  | zero =>
    intro i n hi hn I hG
    obtain ⟨n, rfl⟩ : ∃ q, n = q + 1 := ⟨n - 1, by omega⟩
    obtain rfl : i = P 3 0 := by omega
    have hle := v_cw_le hc g (P 3 0)
    have e : v_cs (c_to P) c t (P 3 0) (g + 1) = y + (if v_wi (c_ro (c_wg (c_to P) (nI g))) = nI t then v_cw c g (P 3 0) else 0) := by rw [hy]; rfl
    unfold g_X5_chanceOf_27
    rw [mg_e, hG.1.2.2.2.1, if_pos (nI_le (Nat.le_refl _) (by omega)), e]
    by_cases q : v_cw c g (P 3 0) = 0
    · refine ⟨I, ?_, hG⟩
      rw [if_pos (show lN (v_cw c g (P 3 0)) ≤ 0 from (pk_lLE (a := v_cw c g (P 3 0)) (b := 0) (by omega) (by decide)).2 (by omega)), q]
      unfold g_X5_chanceOf_103
      rw [nI_add, show (if v_wi (c_ro (c_wg (c_to P) (nI g))) = nI t then 0 else 0) = 0 from ite_self _]
      rfl
    · obtain ⟨I1, r1, r2, r3, r4, -, -⟩ := m_grun hB hG (nI g)
      refine ⟨I1, ?_, r3⟩
      rw [if_neg (show ¬ lN (v_cw c g (P 3 0)) ≤ 0 from fun z => by have := (pk_lLE (a := v_cw c g (P 3 0)) (b := 0) (by omega) (by decide)).1 z; omega), mp_e, r1, mc_e, mg_e, r4.2.2.1]
      unfold g_X5_chanceOf_100 g_X5_chanceOf_103
      show (if v_wi (c_ro (c_wg (c_to P) (nI g))) = nI t then _ else _) = _
      by_cases z : v_wi (c_ro (c_wg (c_to P) (nI g))) = nI t
      · rw [if_pos z, if_pos z, lN_add, nI_add]
      · rw [if_neg z, if_neg z, nI_add, show (0 : Int64) = lN 0 from rfl, lN_add]
  | succ m ih =>
    intro i n hi hn I hG
    obtain ⟨n, rfl⟩ : ∃ q, n = q + 1 := ⟨n - 1, by omega⟩
    obtain ⟨I', q1, q2⟩ := ih (i + 1) n (by omega) (by omega) I hG
    refine ⟨I', ?_, q2⟩
    have e : v_cw c g (i + 1) = v_cw c g i * (if bt (nI g) i = true then 16 - c else c) := rfl
    unfold g_X5_chanceOf_27
    rw [mg_e, hG.1.2.2.2.1, if_neg (nI_ge (by omega) (by omega)), m_isIn _ (by omega), mc_e]
    unfold g_X5_chanceOf_58
    rw [e] at q1
    by_cases z : bt (nI g) i = true
    · rw [if_pos z] at q1 ⊢
      rw [if_neg (by decide), pk_sub (by omega), nI_l (by omega), lN_mul, nI_add]
      exact q1
    · rw [if_neg z] at q1 ⊢
      rw [if_pos nI_0, nI_l (by omega), lN_mul, nI_add]
      exact q1
theorem m_ch10 (hB : p_B P) {c t w : Nat} (hc : c ≤ 16) (ht : t < 2) (hw : w < 2) : ∀ (m g n : Nat), g + m = 2 ^ P 3 0 → m < n → ∀ I : MI, m_G P Q I →
    ∃ I', g_X5_chanceOf_10 n (nI c) (nI t) (nI w) (lN (v_cs (c_to P) c t (P 3 0) g)) (nI g) I = some (v_ch P (c_to P) c t w, I') ∧ m_P P Q I' := by
  have h3 := hB.2.2.2.1
  have h16 := v_p16 h3
  have h2 := v_p2 h3
  intro m
  induction m with
  | zero =>
    intro g n hg hn I hG
    obtain ⟨n, rfl⟩ : ∃ q, n = q + 1 := ⟨n - 1, by omega⟩
    obtain rfl : g = 2 ^ P 3 0 := by omega
    have hle := v_cs_le (C := c_to P) hc t (P 3 0) (2 ^ P 3 0)
    have hm : 2 ^ P 3 0 * 16 ^ P 3 0 ≤ 256 * 2 ^ 32 := Nat.mul_le_mul h2 h16
    refine ⟨I, ?_, hG.1⟩
    unfold g_X5_chanceOf_10
    rw [mg_e, hG.1.2.2.2.1, v_shN _ (by omega), if_pos (nI_le (Nat.le_refl _) (by omega)), mg_e, hG.1.2.2.2.1, v_shL _ (by omega), m_lowest (by omega) (Nat.pow_pos (by decide)) h16 hw, mc_e]
    rfl
  | succ m ih =>
    intro g n hg hn I hG
    obtain ⟨n, rfl⟩ : ∃ q, n = q + 1 := ⟨n - 1, by omega⟩
    obtain ⟨I1, r1, r2⟩ := m_ch27 hB (rec := g_X5_chanceOf_10 n) (w := w) (g := g) hc ht rfl (P 3 0) 0 fw_fuel (by omega) (by unfold fw_fuel; omega) I hG
    obtain ⟨I', q1, q2⟩ := ih (g + 1) n (by omega) (by omega) I1 r2
    refine ⟨I', ?_, q2⟩
    unfold g_X5_chanceOf_10
    rw [mg_e, hG.1.2.2.2.1, v_shN _ (by omega), if_neg (nI_ge (by omega) (by omega))]
    exact r1.trans q1
theorem m_chanceOf (hB : p_B P) {I : MI} (hP : m_P P Q I) {c t w : Nat} (hc : c ≤ 16) (ht : t < 2) (hw : w < 2) : ∃ I', g_X5_chanceOf (nI c) (nI t) (nI w) I = some (v_ch P (c_to P) c t w, I') ∧ m_P P Q I' := by
  have h2 := v_p2 hB.2.2.2.1
  obtain ⟨I1, a1, a2⟩ := m_G.o hB hP
  obtain ⟨I', r1, r2⟩ := m_ch10 hB hc ht hw (2 ^ P 3 0) 0 fw_fuel (by omega) (by unfold fw_fuel; omega) I1 a2
  refine ⟨I', ?_, r2⟩
  unfold g_X5_chanceOf
  rw [a1, mc_e]
  exact r1
/-! ask -/
abbrev v_rw (P : CF) (k : Nat) : Nat → Nat → Nat := fun v b => c_rs (fw_u2 (c_to P) 2 k v) (b + 1) 0 0
theorem v_cn_le (g : Int32) (r : Nat → Nat → Nat) (b a : Nat) : ∀ n, v_cn g r b a n ≤ n
  | 0 => Nat.le_refl _
  | n + 1 => by
    have := v_cn_le g r b a n
    show v_cn g r b a n + (if bt g a = true ∧ bt g (n + 1) = true ∧ r a b = r (n + 1) b then 1 else 0) ≤ n + 1
    split <;> omega
theorem v_mx_le (g : Int32) (r : Nat → Nat → Nat) (b : Nat) : ∀ n, v_mx g r b n ≤ 9
  | 0 => Nat.zero_le _
  | n + 1 => by
    have h1 := v_mx_le g r b n
    have h2 := v_cn_le g r b (n + 1) 9
    show max (v_cn g r b (n + 1) 9) (v_mx g r b n) ≤ 9
    omega
theorem v_as_le (g : Int32) (r : Nat → Nat → Nat) : ∀ n, v_as g r n ≤ n
  | 0 => Nat.le_refl _
  | n + 1 => by
    have := v_as_le g r n
    show (if v_mx g r n 9 < v_mx g r (v_as g r n) 9 then n else v_as g r n) ≤ n + 1
    split <;> omega
theorem m_ak40 (hB : p_B P) {k : Nat} {rec14 : Int32 → Int32 → Int32 → Int32 → MI → Option (Int32 × MI)} {rec27 : Int32 → Int32 → Int32 → Int32 → Int32 → Int32 → MI → Option (Int32 × MI)} {g x3 x4 : Int32} {b a M : Nat} (hb : b < 24) (ha : 1 ≤ a) (ha9 : a ≤ 9) (hMx : M ≤ 9) {I : MI} (hT : m_tab P k 10 I) :
    ∀ (m i n : Nat), i + m = 9 → m < n → g_X5_askOf_40 rec14 rec27 n g x3 x4 (nI b) (nI M) (nI a) (nI (v_cn g (v_rw P k) b a i)) (nI (i + 1)) I = rec27 g x3 x4 (nI b) (nI (max (v_cn g (v_rw P k) b a 9) M)) (nI (a + 1)) I := by
  have hr : ∀ v, v ≤ 9 → v_rw P k v b < 2 ^ 31 := fun v hv => by have := (c_rs_SB (c_wt_B (c_to_B hB) (k := k) hv) (b + 1)).1; exact Nat.lt_of_le_of_lt this (by decide)
  intro m
  induction m with
  | zero =>
    intro i n hi hn
    obtain ⟨n, rfl⟩ : ∃ q, n = q + 1 := ⟨n - 1, by omega⟩
    obtain rfl : i = 9 := by omega
    have hle := v_cn_le g (v_rw P k) b a 9
    unfold g_X5_askOf_40
    rw [if_pos (by decide), i_le (by omega) (by omega)]
    unfold g_X5_askOf_124
    rw [nI_add]
    by_cases q : v_cn g (v_rw P k) b a 9 ≤ M
    · rw [if_pos q, show max (v_cn g (v_rw P k) b a 9) M = M by omega]
    · rw [if_neg q, show max (v_cn g (v_rw P k) b a 9) M = v_cn g (v_rw P k) b a 9 by omega]
  | succ m ih =>
    intro i n hi hn
    obtain ⟨n, rfl⟩ : ∃ q, n = q + 1 := ⟨n - 1, by omega⟩
    have h := ih (i + 1) n (by omega) (by omega)
    have hT1 := hT a ha (by omega) b hb
    have hT2 := hT (i + 1) (by omega) (by omega) b hb
    have e : v_cn g (v_rw P k) b a (i + 1) = v_cn g (v_rw P k) b a i + (if bt g a = true ∧ bt g (i + 1) = true ∧ v_rw P k a b = v_rw P k (i + 1) b then 1 else 0) := rfl
    rw [e] at h
    unfold g_X5_askOf_40
    rw [if_neg (nI_ge (by omega) (by decide)), m_isIn _ (by omega), mc_e]
    unfold g_X5_askOf_100 g_X5_askOf_101
    by_cases q1 : bt g a = true
    · rw [if_pos q1, if_neg (by decide), m_isIn _ (by omega), mc_e]
      by_cases q2 : bt g (i + 1) = true
      · rw [if_pos q2, if_neg (by decide), pk_mul, nI_add, md_nI (by omega) (by decide), pk_mul, nI_add, md_nI (by omega) (by decide), hT1, hT2, i_eq (hr a ha9) (hr (i + 1) (by omega)), nI_add, nI_add]
        by_cases q3 : v_rw P k a b = v_rw P k (i + 1) b
        · rw [if_pos q3]
          rw [if_pos ⟨q1, q2, q3⟩] at h
          exact h
        · rw [if_neg q3, nI_add]
          rw [if_neg (fun z => q3 z.2.2)] at h
          exact h
      · rw [if_neg q2, if_pos nI_0, nI_add, nI_add]
        rw [if_neg (fun z => q2 z.2.1)] at h
        exact h
    · rw [if_neg q1, if_pos nI_0, nI_add, nI_add]
      rw [if_neg (fun z => q1 z.1)] at h
      exact h
theorem m_ak27 (hB : p_B P) {k : Nat} {rec14 : Int32 → Int32 → Int32 → Int32 → MI → Option (Int32 × MI)} {g x3 : Int32} {b B : Nat} (hb : b < 24) (hBd : B ≤ 9) (hx3 : x3 = -nI 1 ∨ ∃ q, q < 24 ∧ x3 = nI q) {I : MI} (hT : m_tab P k 10 I) :
    ∀ (m a n : Nat), a + m = 9 → m < n → g_X5_askOf_27 rec14 n g x3 (nI B) (nI b) (nI (v_mx g (v_rw P k) b a)) (nI (a + 1)) I = if x3 = -nI 1 ∨ v_mx g (v_rw P k) b 9 < B then rec14 g (nI b) (nI (v_mx g (v_rw P k) b 9)) (nI (b + 1)) I else rec14 g x3 (nI B) (nI (b + 1)) I := by
  intro m
  induction m with
  | zero =>
    intro a n ha hn
    obtain ⟨n, rfl⟩ : ∃ q, n = q + 1 := ⟨n - 1, by omega⟩
    obtain rfl : a = 9 := by omega
    have hle := v_mx_le g (v_rw P k) b 9
    unfold g_X5_askOf_27
    rw [if_pos (by decide), i_le (by omega) (by omega)]
    unfold g_X5_askOf_144 g_X5_askOf_149 g_X5_askOf_162 g_X5_askOf_175
    have n1 : ¬ (nI 1 : Int32) = 0 := by decide
    simp only [n1, nI_0, nI_add, eq_self, if_true, if_false]
    rcases hx3 with q | ⟨z, hz, q⟩
    · rw [if_pos q, if_pos (Or.inl q)]
    · have hne : ¬ x3 = -nI 1 := by rw [q]; exact nI_m1 (by omega)
      rw [if_neg hne]
      by_cases y : B ≤ v_mx g (v_rw P k) b 9
      · rw [if_pos y, if_neg (fun z => z.elim hne (fun z => by omega))]
      · rw [if_neg y, if_pos (Or.inr (by omega))]
  | succ m ih =>
    intro a n ha hn
    obtain ⟨n, rfl⟩ : ∃ q, n = q + 1 := ⟨n - 1, by omega⟩
    have h := ih (a + 1) n (by omega) (by omega)
    have h4 := m_ak40 hB (rec14 := rec14) (rec27 := g_X5_askOf_27 rec14 n) (g := g) (x3 := x3) (x4 := nI B) hb (show 1 ≤ a + 1 by omega) (by omega) (v_mx_le g (v_rw P k) b a) hT 9 0 fw_fuel rfl (by decide)
    unfold g_X5_askOf_27
    rw [if_neg (nI_ge (by omega) (by decide))]
    exact h4.trans h
theorem m_ak14 (hB : p_B P) {k : Nat} {g : Int32} {I : MI} (hT : m_tab P k 10 I) : ∀ (m b n : Nat), b + m = 24 → m < n →
    g_X5_askOf_14 n g (if b = 0 then -nI 1 else nI (v_as g (v_rw P k) b)) (if b = 0 then nI 0 else nI (v_mx g (v_rw P k) (v_as g (v_rw P k) b) 9)) (nI b) I = some (nI (v_as g (v_rw P k) 24), I) := by
  intro m
  induction m with
  | zero =>
    intro b n hb hn
    obtain ⟨n, rfl⟩ : ∃ q, n = q + 1 := ⟨n - 1, by omega⟩
    obtain rfl : b = 24 := by omega
    unfold g_X5_askOf_14
    rw [if_pos (by decide), if_neg (by decide)]
  | succ m ih =>
    intro b n hb hn
    obtain ⟨n, rfl⟩ : ∃ q, n = q + 1 := ⟨n - 1, by omega⟩
    have h := ih (b + 1) n (by omega) (by omega)
    rw [if_neg (by omega), if_neg (by omega)] at h
    have ea : v_as g (v_rw P k) (b + 1) = if v_mx g (v_rw P k) b 9 < v_mx g (v_rw P k) (v_as g (v_rw P k) b) 9 then b else v_as g (v_rw P k) b := rfl
    have e0 : v_mx g (v_rw P k) b 0 = 0 := rfl
    unfold g_X5_askOf_14
    rw [if_neg (nI_ge (by omega) (by decide))]
    by_cases q : b = 0
    · subst q
      have h27 := m_ak27 hB (rec14 := g_X5_askOf_14 n) (g := g) (x3 := -nI 1) (B := 0) (b := 0) (by decide) (by decide) (Or.inl rfl) hT 9 0 fw_fuel rfl (by decide)
      rw [if_pos (Or.inl rfl), e0] at h27
      rw [if_pos rfl, if_pos rfl]
      refine h27.trans ?_
      have e1 : v_as g (v_rw P k) (0 + 1) = 0 := by rw [ea]; split <;> rfl
      rw [e1] at h
      exact h
    · have hle := v_as_le g (v_rw P k) b
      have h27 := m_ak27 hB (rec14 := g_X5_askOf_14 n) (g := g) (x3 := nI (v_as g (v_rw P k) b)) (B := v_mx g (v_rw P k) (v_as g (v_rw P k) b) 9) (b := b) (by omega) (v_mx_le _ _ _ _) (Or.inr ⟨_, by omega, rfl⟩) hT 9 0 fw_fuel rfl (by decide)
      rw [e0] at h27
      rw [if_neg q, if_neg q]
      refine h27.trans ?_
      rw [ea] at h
      by_cases z : v_mx g (v_rw P k) b 9 < v_mx g (v_rw P k) (v_as g (v_rw P k) b) 9
      · rw [if_pos z] at h
        rw [if_pos (Or.inr z)]
        exact h
      · rw [if_neg z] at h
        rw [if_neg (fun y => y.elim (nI_m1 (by omega)) z)]
        exact h
theorem m_askOf (hB : p_B P) {I : MI} (hP : m_P P Q I) {k : Nat} (hk : k < 16) : ∃ I', g_X5_askOf (nI k) I = some (v_ak P (c_to P) k, I') ∧ m_K P Q I' := by
  obtain ⟨I1, a1, a2, a3⟩ := m_weightsBy hB hP hk
  have h := m_ak14 hB (g := v_wt P (c_to P) k) a3 24 0 fw_fuel rfl (by decide)
  rw [if_pos rfl, if_pos rfl] at h
  refine ⟨I1, ?_, a2⟩
  unfold g_X5_askOf
  rw [a1, mc_e]
  exact h
end Mc
