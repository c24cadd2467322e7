set_option maxRecDepth 100000
/-! The model: what was seen, weights, sorts, events that never were, events to spare. -/
section Mr
variable {P : CF} {Q : Nat → Int32}
abbrev b2 (b : Bool) : Int32 := if b = true then nI 1 else nI 0
def v_sq (P C : CF) : Nat → Bool
  | 0 => true
  | j + 1 => v_sq P C j && (c_rs C (P 8 j + 1) 0 0 == P 9 j)
theorem v_sq_e (P C : CF) : ∀ n, (List.range n).all (fun j => c_rs C (P 8 j + 1) 0 0 == P 9 j) = v_sq P C n
  | 0 => rfl
  | n + 1 => by
    rw [List.range_succ, List.all_append, v_sq_e P C n]
    simp only [List.all_cons, List.all_nil, Bool.and_true]
    rfl
theorem v_sq_no {P C : CF} {j : Nat} (h : v_sq P C j = false) : ∀ m, v_sq P C (j + m) = false
  | 0 => h
  | m + 1 => by
    show (v_sq P C (j + m) && _) = false
    rw [v_sq_no h m, Bool.false_and]
theorem m_se8 (hB : p_B P) {C : CF} (hC : c_B C) {I : MI} (hP : m_P P Q I) (hH : m_H C 24 I) : ∀ (m j n : Nat), j + m = P 7 0 → m < n → g_X5_isSeen_8 n (b2 (v_sq P C j)) (nI j) I = some (b2 (v_sq P C (P 7 0)), I) := by
  have h7 := hB.2.2.2.2.2.1
  have h37 := hP.2.2.2.2.2.1
  have h25 := hP.2.2.2.2.2.2.1
  have hb : ∀ b : Bool, b2 b = 0 ∨ b2 b = 1 := fun b => by
    cases b
    · exact Or.inl nI_0
    · exact Or.inr rfl
  intro m
  induction m with
  | zero =>
    intro j n hj hn
    obtain ⟨n, rfl⟩ : ∃ q, n = q + 1 := ⟨n - 1, by omega⟩
    obtain rfl : j = P 7 0 := by omega
    unfold g_X5_isSeen_8
    rw [mg_e, h37, if_pos (nI_le (Nat.le_refl _) (by omega)), mb_e _ (hb _)]
  | succ m ih =>
    intro j n hj hn
    obtain ⟨n, rfl⟩ : ∃ q, n = q + 1 := ⟨n - 1, by omega⟩
    have i := ih (j + 1) n (by omega) (by omega)
    have hb8 := hB.2.2.2.2.2.2.1 j
    have hro := (c_rs_SB hC (P 8 j + 1)).1
    unfold g_X5_isSeen_8
    rw [mg_e, h37, if_neg (nI_ge (by omega) (by omega))]
    cases e : v_sq P C j with
    | false =>
      rw [show b2 false = nI 0 from rfl, if_pos nI_0, mb_e _ (Or.inl nI_0)]
      have := v_sq_no e (m + 1)
      rw [hj] at this
      rw [this]
      rfl
    | true =>
      rw [show b2 true = nI 1 from rfl, if_neg (by decide), md_nI (by omega) (by decide), (h25 j (by omega)).1, md_nI (by omega) (by decide), (hH (P 8 j) (by omega)).1, md_nI (by omega) (by decide), (h25 j (by omega)).2, i_eq (by omega) (by omega)]
      unfold g_X5_isSeen_45
      rw [nI_add]
      by_cases q : c_rs C (P 8 j + 1) 0 0 = P 9 j
      · rw [if_pos q]
        rw [show v_sq P C (j + 1) = true by show (v_sq P C j && (c_rs C (P 8 j + 1) 0 0 == P 9 j)) = true; rw [e, q]; simp] at i
        exact i
      · rw [if_neg q]
        rw [show v_sq P C (j + 1) = false by show (v_sq P C j && (c_rs C (P 8 j + 1) 0 0 == P 9 j)) = false; rw [e]; simp [q]] at i
        exact i
theorem m_isSeen (hB : p_B P) {C : CF} (hC : c_B C) {I : MI} (hM : m_CM C I) (hPL : m_PL C I) (hP : m_P P Q I) : ∃ I', g_X5_isSeen I = some (b2 (v_se P C), I') ∧ m_f m_v I I' ∧ m_H C 24 I' := by
  have h7 := hB.2.2.2.2.2.1
  obtain ⟨I1, r1, r2, -, r4⟩ := m_runs hC hM hPL
  refine ⟨I1, ?_, r2, r4⟩
  unfold g_X5_isSeen v_se
  rw [r1, mc_e, v_sq_e]
  exact m_se8 hB hC (hP.f (r2.m fun j x q => (m_v_w q).1)) r4 (P 7 0) 0 fw_fuel (by omega) (by unfold fw_fuel; omega)
/-! weights -/
theorem m_CM.wt {C : CF} {I : MI} {k v : Nat} (h : ∃ v0, m_CM (fw_u2 C 2 k v0) I) : m_CM (fw_u2 C 2 k v) (fw_u2 I 5 k (nI v)) := by
  obtain ⟨v0, m1, m2, m3, m4, m5, m6, m7⟩ := h
  refine ⟨m1, fun x hx => ?_, m3, m4, m5, m6, m7⟩
  have := m2 x hx
  by_cases q : x = k
  · subst q
    exact ⟨this.1, by rw [fw_u2_self, fw_u2_self], this.2.2⟩
  · refine ⟨this.1, ?_, this.2.2⟩
    have := this.2.1
    rw [fw_u2_ne _ _ (by omega)] at this
    rw [fw_u2_ne _ _ (by omega), fw_u2_ne _ _ (by omega)]
    exact this
theorem m_CM.so {C : CF} {I : MI} {k v : Nat} (h : ∃ v0, m_CM (fw_u2 C 1 k v0) I) : m_CM (fw_u2 C 1 k v) (fw_u2 I 4 k (nI v)) := by
  obtain ⟨v0, m1, m2, m3, m4, m5, m6, m7⟩ := h
  refine ⟨m1, fun x hx => ?_, m3, m4, m5, m6, m7⟩
  have := m2 x hx
  by_cases q : x = k
  · subst q
    exact ⟨by rw [fw_u2_self, fw_u2_self], this.2⟩
  · refine ⟨?_, this.2⟩
    have := this.1
    rw [fw_u2_ne _ _ (by omega)] at this
    rw [fw_u2_ne _ _ (by omega), fw_u2_ne _ _ (by omega)]
    exact this
theorem c_wt_B {C : CF} (hC : c_B C) {k v : Nat} (hv : v ≤ 9) : c_B (fw_u2 C 2 k v) := by
  refine ⟨hC.1, fun x => ⟨(hC.2.1 x).1, ?_, (hC.2.1 x).2.2⟩, hC.2.2⟩
  rw [fw_u2_at]
  split
  · exact hv
  · exact (hC.2.1 x).2.1
theorem c_so_B {C : CF} (hC : c_B C) {k v : Nat} (hv : v ≤ 2) : c_B (fw_u2 C 1 k v) := by
  refine ⟨hC.1, fun x => ⟨?_, (hC.2.1 x).2⟩, hC.2.2⟩
  rw [fw_u2_at]
  split
  · exact hv
  · exact (hC.2.1 x).1
theorem m_wt52 {rec : Int32 → Int32 → Int32 → Int32 → MI → Option (Int32 × MI)} {x1 x2 x3 : Int32} {v : Nat} (hv : v ≤ 9) {R : Nat → Nat} : ∀ (m b n : Nat), b + m = 24 → m < n → ∀ I : MI, (∀ q, q < 24 → I 19 q = nI (R q)) →
    ∃ I', g_X5_weightsBy_52 rec n x1 x2 x3 (nI v) (nI b) I = rec x1 x2 x3 (nI (v + 1)) I' ∧ m_f (fun j x => j = 27 ∧ 24 * v ≤ x ∧ x < 24 * v + 24) I I' ∧ (∀ q, q < b → I' 27 (24 * v + q) = I 27 (24 * v + q)) ∧ ∀ q, b ≤ q → q < 24 → I' 27 (24 * v + q) = nI (R q) := by
  intro m
  induction m with
  | zero =>
    intro b n hb hn I h
    obtain ⟨n, rfl⟩ : ∃ q, n = q + 1 := ⟨n - 1, by omega⟩
    obtain rfl : b = 24 := by omega
    refine ⟨I, ?_, m_f.r I, fun _ _ => rfl, fun q h1 h2 => by omega⟩
    unfold g_X5_weightsBy_52
    rw [if_pos (by decide), nI_add]
  | succ m ih =>
    intro b n hb hn I h
    obtain ⟨n, rfl⟩ : ∃ q, n = q + 1 := ⟨n - 1, by omega⟩
    obtain ⟨I', r1, r2, r3, r4⟩ := ih (b + 1) n (by omega) (by omega) (fw_u2 I 27 (24 * v + b) (nI (R b))) (fun q hq => by rw [fw_u2_ne _ _ (by omega)]; exact h q hq)
    refine ⟨I', ?_, ((m_f.r I).w (by omega)).t r2, fun q hq => by rw [r3 q (by omega), fw_u2_ne _ _ (by omega)], fun q h1 h2 => ?_⟩
    · unfold g_X5_weightsBy_52
      rw [if_neg (nI_ge (by omega) (by decide)), md_nI (by omega) (by decide), h b (by omega), pk_mul, nI_add, mw_nI (by omega) (by decide), nI_add]
      exact r1
    · by_cases q0 : q = b
      · subst q0
        rw [r3 q (by omega), fw_u2_self]
      · exact r4 q (by omega) h2
abbrev v_wp (P : CF) (k : Nat) : Nat → Bool := fun v => decide (1 ≤ v) && v_se P (fw_u2 (c_to P) 2 k v)
/-- the ropes by weight -/
def m_tab (P : CF) (k v : Nat) (I : MI) : Prop := ∀ u, 1 ≤ u → u < v → ∀ b, b < 24 → I 27 (24 * u + b) = nI (c_rs (fw_u2 (c_to P) 2 k u) (b + 1) 0 0)
theorem v_bi_s {p : Nat → Bool} {n : Nat} {b : Bool} (h : p n = b) : v_bi p (n + 1) = v_bi p n ||| (if b = true then nI 1 <<< (nI n &&& 31) else nI 0) := by
  subst h
  rfl
theorem m_wt16 (hB : p_B P) {k : Nat} (hk : k < 16) {o : Int32} : ∀ (m v n : Nat), v + m = 10 → 1 ≤ v → m < n → ∀ I : MI, m_P P Q I → (∃ v0, m_CM (fw_u2 (c_to P) 2 k v0) I) → (∀ k, k < 16 → I 13 k = nI (k % 8)) → m_tab P k v I →
    ∃ I', g_X5_weightsBy_16 n (nI k) o (v_bi (v_wp P k) v) (nI v) I = some (v_wt P (c_to P) k, I') ∧ m_f (fun j x => m_w j x ∧ ¬ (3 ≤ j ∧ j ≤ 8)) (fw_u2 I 5 k o) I' ∧ m_tab P k 10 I' := by
  intro m
  induction m with
  | zero =>
    intro v n hv h1 hn I hP hM h13 hT
    obtain ⟨n, rfl⟩ : ∃ q, n = q + 1 := ⟨n - 1, by omega⟩
    obtain rfl : v = 10 := by omega
    refine ⟨fw_u2 I 5 k o, ?_, m_f.r _, fun u h1 h2 b hb => by rw [fw_u2_ne _ _ (by omega)]; exact hT u h1 h2 b hb⟩
    unfold g_X5_weightsBy_16
    rw [if_pos (by decide), mw_nI (by omega) (by decide)]
    rfl
  | succ m ih =>
    intro v n hv h1 hn I hP hM h13 hT
    obtain ⟨n, rfl⟩ : ∃ q, n = q + 1 := ⟨n - 1, by omega⟩
    have hM6 := m_CM.wt (v := v) hM
    have f6 : m_f (fun j x => j = 5 ∧ x = k) I (fw_u2 I 5 k (nI v)) := (m_f.r I).w ⟨rfl, rfl⟩
    have h13' : ∀ k, k < 16 → (fw_u2 I 5 k (nI v)) 13 k = nI (k % 8) := fun k hk => by rw [fw_u2_ne _ _ (by omega)]; exact h13 k hk
    have h136 : ∀ q, q < 16 → (fw_u2 I 5 k (nI v)) 13 q = nI (q % 8) := fun q hq => by rw [fw_u2_ne _ _ (by omega)]; exact h13 q hq
    obtain ⟨I7, r1, r2, r3⟩ := m_isSeen hB (c_wt_B (c_to_B hB) (by omega)) hM6 (m_PL_to hB h136 (fun _ ht => c_to_0 ht) (fun _ _ => rfl) (Nat.le_refl 16)) (hP.f (f6.m (fun j x q => by omega)))
    have f7 : m_f (fun j x => m_v j x ∨ (j = 5 ∧ x = k)) I I7 := (f6.m (fun j x q => Or.inr q)).t (r2.m (fun j x q => Or.inl q))
    obtain ⟨I8, a1, a2, a3, a4⟩ := m_wt52 (rec := g_X5_weightsBy_16 n) (x1 := nI k) (x2 := o) (x3 := v_bi (v_wp P k) (v + 1)) (show v ≤ 9 by omega) (R := fun b => c_rs (fw_u2 (c_to P) 2 k v) (b + 1) 0 0) 24 0 fw_fuel rfl (by decide) I7 (fun q hq => (r3 q hq).1)
    have f8 : m_f (fun j x => (m_v j x ∨ (j = 5 ∧ x = k)) ∨ (j = 27 ∧ 24 * v ≤ x ∧ x < 24 * v + 24)) I I8 := (f7.m (fun j x q => Or.inl q)).t (a2.m (fun j x q => Or.inr q))
    obtain ⟨I', q1, q2, q3⟩ := ih (v + 1) n (by omega) (by omega) (by omega) I8 (hP.f (f8.m (fun j x q => by omega))) ⟨v, (hM6.f r2).g (fun j x q => a2 j x (by omega))⟩ (fun k hk => by rw [f8 13 k (by omega)]; exact h13 k hk) (fun u h1 h2 b hb => by
      by_cases q : u = v
      · subst q
        exact a4 b (Nat.zero_le _) hb
      · rw [f8 27 _ (by omega)]
        exact hT u h1 (by omega) b hb)
    refine ⟨I', ?_, fun j x q => ?_, q3⟩
    rotate_left
    · rw [q2 j x q]
      by_cases z : j = 5 ∧ x = k
      · rw [z.1, z.2, fw_u2_self, fw_u2_self]
      · rw [fw_u2_ne _ _ z, fw_u2_ne _ _ z, f8 j x (by omega)]
    unfold g_X5_weightsBy_16
    rw [if_neg (nI_ge (by omega) (by decide)), mw_nI (by omega) (by decide), r1, mc_e]
    cases e : v_se P (fw_u2 (c_to P) 2 k v) with
    | false =>
      rw [show b2 false = nI 0 from rfl, if_pos nI_0]
      unfold g_X5_weightsBy_47
      rw [v_bi_s (show v_wp P k v = false by show (decide (1 ≤ v) && v_se P (fw_u2 (c_to P) 2 k v)) = false; rw [e, Bool.and_false])] at a1 q1
      exact a1.trans q1
    | true =>
      rw [show b2 true = nI 1 from rfl, if_neg (by decide)]
      unfold g_X5_weightsBy_47
      rw [v_bi_s (show v_wp P k v = true by show (decide (1 ≤ v) && v_se P (fw_u2 (c_to P) 2 k v)) = true; rw [e, Bool.and_true]; exact decide_eq_true h1)] at a1 q1
      exact a1.trans q1
theorem m_weightsBy (hB : p_B P) {I : MI} (hP : m_P P Q I) {k : Nat} (hk : k < 16) : ∃ I', g_X5_weightsBy (nI k) I = some (v_wt P (c_to P) k, I') ∧ m_K P Q I' ∧ m_tab P k 10 I' := by
  obtain ⟨I1, a1, a2, a3, a4, a5⟩ := m_told hB hP
  have hid : fw_u2 (c_to P) 2 k (c_to P 2 k) = c_to P := fw_u2_id _ rfl
  obtain ⟨I', r1, r2, r3⟩ := m_wt16 hB hk (o := I1 5 k) 9 1 fw_fuel rfl (by decide) (by decide) I1 a2.1 ⟨_, by rw [hid]; exact a3⟩ a4 (fun u h1 h2 => by omega)
  have e1 : v_bi (v_wp P k) 1 = nI 0 := by
    rw [v_bi_s (n := 0) (b := false) (by show (decide (1 ≤ 0) && _) = false; rw [show decide (1 ≤ 0) = false from rfl, Bool.false_and]), if_neg (by decide)]
    show nI 0 ||| nI 0 = nI 0
    decide +kernel
  rw [e1] at r1
  rw [fw_u2_id I1 rfl] at r2
  refine ⟨I', ?_, a2.f hB r2, r3⟩
  unfold g_X5_weightsBy
  rw [a1, mc_e, md_nI (by omega) (by decide)]
  exact r1
/-! sorts -/
abbrev v_op (P : CF) (k : Nat) : Nat → Bool := fun v => v_se P (fw_u2 (c_to P) 1 k v)
theorem m_so16 (hB : p_B P) {k : Nat} (hk : k < 16) {o : Int32} : ∀ (m v n : Nat), v + m = 3 → m < n → ∀ I : MI, m_P P Q I → (∃ v0, m_CM (fw_u2 (c_to P) 1 k v0) I) → (∀ k, k < 16 → I 13 k = nI (k % 8)) →
    ∃ I', g_X5_sortsBy_16 n (nI k) o (v_bi (v_op P k) v) (nI v) I = some (v_so P (c_to P) k, I') ∧ m_P P Q I' := by
  intro m
  induction m with
  | zero =>
    intro v n hv hn I hP hM h13
    obtain ⟨n, rfl⟩ : ∃ q, n = q + 1 := ⟨n - 1, by omega⟩
    obtain rfl : v = 3 := by omega
    refine ⟨fw_u2 I 4 k o, ?_, hP.f ((m_f.r I).w (by omega))⟩
    unfold g_X5_sortsBy_16
    rw [if_pos (by decide), mw_nI (by omega) (by decide)]
    rfl
  | succ m ih =>
    intro v n hv hn I hP hM h13
    obtain ⟨n, rfl⟩ : ∃ q, n = q + 1 := ⟨n - 1, by omega⟩
    have hM6 := m_CM.so (v := v) hM
    have f6 : m_f (fun j _ => j = 4) I (fw_u2 I 4 k (nI v)) := m_f.w (m_f.r I) (j := 4) (x := k) rfl
    have h136 : ∀ q, q < 16 → (fw_u2 I 4 k (nI v)) 13 q = nI (q % 8) := fun q hq => by rw [fw_u2_ne _ _ (by omega)]; exact h13 q hq
    obtain ⟨I7, r1, r2, r3⟩ := m_isSeen hB (c_so_B (c_to_B hB) (by omega)) hM6 (m_PL_to hB h136 (fun _ ht => c_to_0 ht) (fun _ _ => rfl) (Nat.le_refl 16)) (hP.f (f6.m (fun j x q => by omega)))
    have f7 : m_f (fun j x => m_v j x ∨ j = 4) I I7 := (f6.m (fun j x q => Or.inr q)).t (r2.m (fun j x q => Or.inl q))
    obtain ⟨I', q1, q2⟩ := ih (v + 1) n (by omega) (by omega) I7 (hP.f (f7.m (fun j x q => by omega))) ⟨v, hM6.f r2⟩ (fun k hk => by rw [f7 13 k (by omega)]; exact h13 k hk)
    refine ⟨I', ?_, q2⟩
    unfold g_X5_sortsBy_16
    rw [if_neg (nI_ge (by omega) (by decide)), mw_nI (by omega) (by decide), r1, mc_e]
    cases e : v_se P (fw_u2 (c_to P) 1 k v) with
    | false =>
      rw [show b2 false = nI 0 from rfl, if_pos nI_0]
      unfold g_X5_sortsBy_46
      rw [v_bi_s (show v_op P k v = false from e)] at q1
      rw [nI_add]
      exact q1
    | true =>
      rw [show b2 true = nI 1 from rfl, if_neg (by decide)]
      unfold g_X5_sortsBy_46
      rw [v_bi_s (show v_op P k v = true from e)] at q1
      rw [nI_add]
      exact q1
theorem m_sortsBy (hB : p_B P) {I : MI} (hP : m_P P Q I) {k : Nat} (hk : k < 16) : ∃ I', g_X5_sortsBy (nI k) I = some (v_so P (c_to P) k, I') ∧ m_P P Q I' := by
  obtain ⟨I1, a1, a2, a3, a4, a5⟩ := m_told hB hP
  have hid : fw_u2 (c_to P) 1 k (c_to P 1 k) = c_to P := fw_u2_id _ rfl
  obtain ⟨I', r1, r2⟩ := m_so16 hB hk (o := I1 4 k) 3 0 fw_fuel rfl (by decide) I1 a2.1 ⟨_, by rw [hid]; exact a3⟩ a4
  rw [show v_bi (v_op P k) 0 = nI 0 from rfl] at r1
  refine ⟨I', ?_, r2⟩
  unfold g_X5_sortsBy
  rw [a1, mc_e, md_nI (by omega) (by decide)]
  exact r1
end Mr
