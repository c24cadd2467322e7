set_option maxRecDepth 100000
/-! The component's texts: a captain's is read. -/
section Cap
variable {L : LH} {j T : Nat} {y : Nat → Nat}
/-- a captain's cells: object j, bytes j + 1, calls j + 2 -/
def x_ck3 (L : LH) (j : Nat) : Prop := lh_k L j = 3 ∧ x_tk L j 24 ∧ lh_R L j 5 = some (j + 2) ∧ lh_k L (j + 2) = 100 ∧ lh_n L (j + 2) = 24
theorem x_ck3.x {L' : LH} (hS : x_Sh L) (h : x_ck3 L j) (e : x_ex L L') : x_ck3 L' j := by
  obtain ⟨h1, ⟨h2, h3, h4, h5⟩, h6, h7, h8⟩ := h
  have z0 := e.2.1 j (x_lt hS (by rw [h1]; decide))
  have z1 := e.2.1 (j + 1) (x_lt hS (by rw [h4]; decide))
  have z2 := e.2.1 (j + 2) (x_lt hS (by rw [h7]; decide))
  exact ⟨z0.1.trans h1, ⟨by rw [z0.1]; exact h2, (z0.2.2 0).trans h3, z1.1.trans h4, z1.2.1.trans h5⟩, (z0.2.2 5).trans h6, z2.1.trans h7, z2.2.1.trans h8⟩
def x_cst (j : Nat) (y : Nat → Nat) (i : Nat) (I0 I : MI) : Prop := (∀ a x, a ≠ j + 2 → ¬ (a = j ∧ x ≠ 1) → I a x = I0 a x) ∧ I j 2 = nI i ∧ I j 6 = nI i ∧ (∀ b, b < 24 → I (j + 2) b = nI (if b < i then c_co (y b) else 1)) ∧ ∀ b, b < i → c_co (y b) < 3
theorem x_clr3 {I : MI} (h : x_ck3 L j) : f_X3_clear j (lh_wI L I) = some ((), lh_wI L (fw_u2 (fun a x => if a = j + 2 ∧ x < 24 then nI 1 else I a x) j 6 (nI 0)), 0, 0) := by
  obtain ⟨h1, h2, h6, h7, h8⟩ := h
  unfold f_X3_clear
  rw [show ∀ {β : Type} (k : Option Nat → Rs β), fw_gR 3 (lh_wI L I) j 5 k = k (lh_R L j 5) from fun k => if_pos h1, h6, x_fill h7 h8 (by decide), x_cl]
  exact if_pos h1
theorem x_nx3 {I0 I : MI} {i : Nat} (h : x_ck3 L j) (hT : T ≤ 24) (hIT : I j 1 = nI T) (hi : i < T) (hy : I (j + 1) i &&& nI 255 = nI (y i)) (hy2 : y i < 256) (hc : x_cst j y i I0 I) (hg : c_co (y i) < 3) : ∃ I', f_X1_next j (lh_wI L I) = some (.inl (), lh_wI L I', 0, 0) ∧ x_cst j y (i + 1) I0 I' := by
  obtain ⟨h1, h2, h6, h7, h8⟩ := h
  obtain ⟨c1, c2, c3, c4, c5⟩ := hc
  have gI : ∀ {β : Type} (J : MI) (s : Nat) (k : Int32 → Rs β), fw_gI 3 (lh_wI L J) j s k = k (J j s) := fun J s k => if_pos h1
  refine ⟨fw_u2 (fw_u2 (fw_u2 I j 2 (nI (i + 1))) (j + 2) i (nI (c_co (y i)))) j 6 (nI (i + 1)), ?_, fun a x ha hx => ?_, ?_, ?_, fun b hb => ?_, fun b hb => ?_⟩
  · have e1 : fw_td (lh_wI L I) j (f_X2_isFull j (lh_wI L I)) (f_X3_isFull j (lh_wI L I)) = some (nI 0, lh_wI L I, 0, 0) := by
      unfold fw_td
      rw [if_neg (by show ¬ lh_k L j = 2; omega), if_pos (show lh_k (lh_wI L I) j = 3 from h1)]
      unfold f_X3_isFull
      rw [gI, c3, i_eq (by omega) (by decide), if_neg (by omega)]
    have e2 : fw_td (lh_wI L I) j (f_X2_part j (lh_wI L I)) (f_X3_part j (lh_wI L I)) = some (.inl (), lh_wI L (fw_u2 (fw_u2 (fw_u2 I j 2 (nI (i + 1))) (j + 2) i (nI (c_co (y i)))) j 6 (nI (i + 1))), 0, 0) := by
      unfold fw_td
      rw [if_neg (by show ¬ lh_k L j = 2; omega), if_pos (show lh_k (lh_wI L I) j = 3 from h1)]
      unfold f_X3_part
      rw [show ∀ {β : Type} (k : Option Nat → Rs β), fw_gR 3 (lh_wI L I) j 5 k = k (lh_R L j 5) from fun k => if_pos h1, h6, gI, c3, show ∀ {β : Type} (k : Rs β), fw_is 3 (lh_wI L I) j k = k from fun k => if_pos h1]
      rw [x_pass (v := nI (c_co (y i))) h2 (by decide) c2 hIT (by omega) hT ⟨by decide, by decide⟩ (fun _ => hy) (fun _ M => by rw [x_io3 hy2, if_pos hg]) (fun q => absurd hi q), x_p32 h2.1 c2 (by omega), x_cxI, x_nn, x_wrA h7 h8 (by omega) (by decide), gI, fw_u2_ne _ _ (by omega), fw_u2_ne _ _ (by omega), c3, nI_add]
      exact if_pos h1
    unfold f_X1_next
    rw [e1, x_cl, if_pos nI_0, e2, x_cxI]
  · rw [fw_u2_ne _ _ (fun q => hx ⟨q.1, by omega⟩), fw_u2_ne _ _ (fun q => ha q.1), fw_u2_ne _ _ (fun q => hx ⟨q.1, by omega⟩)]
    exact c1 a x ha hx
  · rw [fw_u2_ne _ _ (by omega), fw_u2_ne _ _ (by omega), fw_u2_self]
  · exact fw_u2_self _ _ _ _
  · rw [fw_u2_ne _ _ (by omega)]
    by_cases q : b = i
    · subst q
      rw [fw_u2_self, if_pos (by omega)]
    · rw [fw_u2_ne _ _ (by omega), fw_u2_ne _ _ (by omega), c4 b hb]
      by_cases q2 : b < i
      · rw [if_pos q2, if_pos (by omega)]
      · rw [if_neg q2, if_neg (by omega)]
  · by_cases q : b = i
    · subst q; exact hg
    · exact c5 b (by omega)
theorem x_nx3n {I0 I : MI} {i : Nat} (hS : x_Sh L) (hz : lh_z L + 1 < fw_RO) (h : x_ck3 L j) (hT : T ≤ 24) (hIT : I j 1 = nI T) (hi : i < T) (hy : I (j + 1) i &&& nI 255 = nI (y i)) (hy2 : y i < 256) (hc : x_cst j y i I0 I) (hg : ¬ c_co (y i) < 3) : ∃ L' I', x_Tn L I i L' I' ∧ f_X1_next j (lh_wI L I) = some (.inr (.inl (lh_z L)), lh_wI L' I', 1, 7) := by
  obtain ⟨h1, h2, h6, h7, h8⟩ := h
  obtain ⟨c1, c2, c3, c4, c5⟩ := hc
  have gI : ∀ {β : Type} (J : MI) (s : Nat) (k : Int32 → Rs β), fw_gI 3 (lh_wI L J) j s k = k (J j s) := fun J s k => if_pos h1
  obtain ⟨L', I', t1, t2⟩ := x_p32n (I := I) (a := i) hS hz h2.1 c2
  refine ⟨L', I', t1, ?_⟩
  have e1 : fw_td (lh_wI L I) j (f_X2_isFull j (lh_wI L I)) (f_X3_isFull j (lh_wI L I)) = some (nI 0, lh_wI L I, 0, 0) := by
    unfold fw_td
    rw [if_neg (by show ¬ lh_k L j = 2; omega), if_pos (show lh_k (lh_wI L I) j = 3 from h1)]
    unfold f_X3_isFull
    rw [gI, c3, i_eq (by omega) (by decide), if_neg (by omega)]
  have e2 : fw_td (lh_wI L I) j (f_X2_part j (lh_wI L I)) (f_X3_part j (lh_wI L I)) = some (.inr (.inl (lh_z L)), lh_wI L' I', 1, 7) := by
    unfold fw_td
    rw [if_neg (by show ¬ lh_k L j = 2; omega), if_pos (show lh_k (lh_wI L I) j = 3 from h1)]
    unfold f_X3_part
    rw [show ∀ {β : Type} (k : Option Nat → Rs β), fw_gR 3 (lh_wI L I) j 5 k = k (lh_R L j 5) from fun k => if_pos h1, h6, gI, show ∀ {β : Type} (k : Rs β), fw_is 3 (lh_wI L I) j k = k from fun k => if_pos h1]
    rw [x_pass (v := -nI 1) h2 (by decide) c2 hIT (by omega) hT ⟨by decide, by decide⟩ (fun _ => hy) (fun _ M => by rw [x_io3 hy2, if_neg hg]) (fun _ => rfl), t2]
    exact x_cxr (c2 := 0) (s2 := 0) rfl
  unfold f_X1_next
  rw [e1, x_cl, if_pos nI_0, e2]
  exact x_cxr (c2 := 0) (s2 := 0) rfl
/-- how a captain's text ends -/
def x_cen (L : LH) (j T : Nat) (y : Nat → Nat) (I0 : MI) (o : Rs Int32) : Prop := ∃ L' I' c s, o = some ((if c_cf y T = T then -nI 1 else nI (c_cf y T)), lh_wI L' I', c, s) ∧ c ≤ 1 ∧ s ≤ 10 * c ∧ lh_z L' = lh_z L + c ∧ x_ex L L' ∧ (∀ a x, a < lh_z L → a ≠ j + 2 → ¬ (a = j ∧ x ≠ 1) → I' a x = I0 a x) ∧ I' j 6 = nI (if c_cf y T = T then T else 0) ∧ ∀ b, b < 24 → I' (j + 2) b = nI (if c_cf y T = T ∧ b < T then c_co (y b) else 1)
theorem x_44 {I0 I I1 : MI} {L1 : LH} {i : Nat} (hS : x_Sh L) (h : x_ck3 L j) (hi : i < T) (hc : x_cst j y i I0 I) (hg : ¬ c_co (y i) < 3) (ht : x_Tn L I i L1 I1) : ∃ I', f_X1_reads_44 j (some (lh_z L)) (lh_wI L1 I1) = some (nI i, lh_wI L1 I', 0, 0) ∧ (∀ a x, a < lh_z L → a ≠ j + 2 → ¬ (a = j ∧ x ≠ 1) → I' a x = I0 a x) ∧ I' j 6 = nI 0 ∧ ∀ b, b < 24 → I' (j + 2) b = nI 1 := by
  obtain ⟨t1, t2, t3, t4, t5⟩ := ht
  have hk := h.x hS t1
  have hj : j < lh_z L := x_lt hS (by rw [h.1]; decide)
  have hj2 : j + 2 < lh_z L := x_lt hS (by rw [h.2.2.2.1]; decide)
  refine ⟨fw_u2 (fun a x => if a = j + 2 ∧ x < 24 then nI 1 else I1 a x) j 6 (nI 0), ?_, fun a x ha hx hx2 => ?_, fw_u2_self _ _ _ _, fun b hb => ?_⟩
  · unfold f_X1_reads_44 fw_td
    rw [if_neg (by show ¬ lh_k L1 j = 2; rw [hk.1]; decide), if_pos (show lh_k (lh_wI L1 I1) j = 3 from hk.1), x_clr3 hk, x_cl, x_nn]
    rw [show ∀ {β : Type} (J : MI) (k : Int32 → Rs β), fw_gI 7 (lh_wI L1 J) (lh_z L) 6 k = k (J (lh_z L) 6) from fun J k => if_pos t4]
    show some (fw_u2 (fun a x => if a = j + 2 ∧ x < 24 then nI 1 else I1 a x) j 6 (nI 0) (lh_z L) 6, _, 0, 0) = _
    rw [fw_u2_ne _ _ (by omega)]
    show some ((if lh_z L = j + 2 ∧ 6 < 24 then nI 1 else I1 (lh_z L) 6), _, 0, 0) = _
    rw [if_neg (by omega), t5]
  · rw [fw_u2_ne _ _ (fun q => hx2 ⟨q.1, by omega⟩)]
    show (if a = j + 2 ∧ x < 24 then nI 1 else I1 a x) = _
    rw [if_neg (fun q => hx q.1), t3 a x (by omega)]
    exact hc.1 a x hx hx2
  · rw [fw_u2_ne _ _ (by omega)]
    exact if_pos ⟨rfl, hb⟩
theorem x_r20 {I0 : MI} (hS : x_Sh L) (hz : lh_z L + 1 < fw_RO) (h : x_ck3 L j) (hT : T ≤ 24) (hIT : I0 j 1 = nI T) (hy : ∀ i, i < T → I0 (j + 1) i &&& nI 255 = nI (y i)) (hy2 : ∀ i, y i < 256) : ∀ (m i n : Nat), i + m = T → m < n → ∀ I : MI, x_cst j y i I0 I → x_cen L j T y I0 (f_X1_reads_20 n j (lh_wI L I)) := by
  intro m
  induction m with
  | zero =>
    intro i n hi hn I hc
    obtain ⟨n, rfl⟩ : ∃ q, n = q + 1 := ⟨n - 1, by omega⟩
    obtain rfl : i = T := by omega
    have e : c_cf y i = i := c_cf_all hc.2.2.2.2
    refine ⟨L, I, 0, 0, ?_, by decide, by decide, rfl, x_ex.r hS, fun a x _ => hc.1 a x, ?_, fun b hb => ?_⟩
    · unfold f_X1_reads_20
      rw [x_tI (Or.inr h.1), x_tI (Or.inr h.1), hc.2.1, hc.1 j 1 (by omega) (by omega), hIT, i_le (by omega) (by omega), if_pos (Nat.le_refl _), if_pos e]
    · rw [if_pos e]; exact hc.2.2.1
    · rw [hc.2.2.2.1 b hb]
      by_cases q : b < i
      · rw [if_pos q, if_pos ⟨e, q⟩]
      · rw [if_neg q, if_neg (fun z => q z.2)]
  | succ m ih =>
    intro i n hi hn I hc
    obtain ⟨n, rfl⟩ : ∃ q, n = q + 1 := ⟨n - 1, by omega⟩
    have hIT' : I j 1 = nI T := (hc.1 j 1 (by omega) (by omega)).trans hIT
    have hyi : I (j + 1) i &&& nI 255 = nI (y i) := by rw [hc.1 (j + 1) i (by omega) (by omega)]; exact hy i (by omega)
    have hb : fw_td (lh_wI L I) j (f_X2_between j (lh_wI L I)) (f_X1_between j (lh_wI L I)) = some (.inl (), lh_wI L I, 0, 0) := by
      unfold fw_td
      rw [if_neg (by show ¬ lh_k L j = 2; rw [h.1]; decide), if_pos (show lh_k (lh_wI L I) j = 3 from h.1)]
      rfl
    have ht : ∀ (M : MI) (A : Rs (Unit ⊕ XO)), fw_td (lh_wI L M) j A A = A := fun M A => by
      unfold fw_td
      rw [if_neg (by show ¬ lh_k L j = 2; rw [h.1]; decide), if_pos (show lh_k (lh_wI L M) j = 3 from h.1)]
    unfold f_X1_reads_20
    rw [x_tI (Or.inr h.1), x_tI (Or.inr h.1), hc.2.1, hIT', i_le (by omega) (by omega), if_neg (by omega), hb, x_cxI, ht]
    by_cases hg : c_co (y i) < 3
    · obtain ⟨I', e1, e2⟩ := x_nx3 (I0 := I0) h hT hIT' (by omega) hyi (hy2 i) hc hg
      rw [e1, x_cxI]
      exact ih (i + 1) n (by omega) (by omega) I' e2
    · obtain ⟨L1, I1, e1, e2⟩ := x_nx3n (I0 := I0) hS hz h hT hIT' (by omega) hyi (hy2 i) hc hg
      obtain ⟨I2, f1, f2, f3, f4⟩ := x_44 (T := T) hS h (by omega) hc hg e1
      have e : c_cf y T = i := c_cf_at hc.2.2.2.2 hg (by omega)
      rw [e2]
      refine ⟨L1, I2, 1, 7, ?_, by decide, by decide, e1.2.1, e1.1, f2, ?_, fun b hb => ?_⟩
      · refine (x_cxr (c2 := 0) (s2 := 0) (b := nI i) (L2 := lh_wI L1 I2) f1).trans ?_
        rw [e, if_neg (by omega)]
      · rw [e, if_neg (by omega)]; exact f3
      · rw [e, if_neg (fun q => by omega)]; exact f4 b hb
theorem x_rd3 {I0 : MI} (hS : x_Sh L) (hz : lh_z L + 1 < fw_RO) (h : x_ck3 L j) (hT : T ≤ 24) (hIT : I0 j 1 = nI T) (hy : ∀ i, i < T → I0 (j + 1) i &&& nI 255 = nI (y i)) (hy2 : ∀ i, y i < 256) : x_cen L j T y I0 (f_X1_reads j (lh_wI L I0)) := by
  have ht : ∀ (M : MI) {α : Type} (A B : Rs α), fw_td (lh_wI L M) j A B = B := fun M α A B => by
    unfold fw_td
    rw [if_neg (by show ¬ lh_k L j = 2; rw [h.1]; decide), if_pos (show lh_k (lh_wI L M) j = 3 from h.1)]
  have hc : x_cst j y 0 I0 (fw_u2 (fun a x => if a = j + 2 ∧ x < 24 then nI 1 else fw_u2 I0 j 2 (nI 0) a x) j 6 (nI 0)) := by
    refine ⟨fun a x ha hx => ?_, ?_, fw_u2_self _ _ _ _, fun b hb => ?_, fun b hb => by omega⟩
    · rw [fw_u2_ne _ _ (fun q => hx ⟨q.1, by omega⟩)]
      show (if a = j + 2 ∧ x < 24 then nI 1 else fw_u2 I0 j 2 (nI 0) a x) = _
      rw [if_neg (fun q => ha q.1), fw_u2_ne _ _ (fun q => hx ⟨q.1, by omega⟩)]
    · rw [fw_u2_ne _ _ (by omega)]
      show (if j = j + 2 ∧ 2 < 24 then nI 1 else fw_u2 I0 j 2 (nI 0) j 2) = _
      rw [if_neg (by omega), fw_u2_self]
    · rw [fw_u2_ne _ _ (by omega)]
      show (if j + 2 = j + 2 ∧ b < 24 then nI 1 else _) = nI (if b < 0 then _ else 1)
      rw [if_pos ⟨rfl, hb⟩, if_neg (by omega)]
  have h20 := x_r20 hS hz h hT hIT hy hy2
  unfold f_X1_reads
  rw [x_tpI (Or.inr h.1), ht, x_clr3 h, x_cl, x_tI (Or.inr h.1), hc.1 j 1 (by omega) (by omega), hIT, i_le0 (by omega)]
  by_cases h0 : T = 0
  · rw [if_pos h0]
    exact h20 0 0 fw_fuel (by omega) (by decide) _ (by subst h0; exact hc)
  · have e := h20 T 0 (T + 1) (by omega) (by omega) _ hc
    rw [if_neg h0]
    -- the loop's first turn is the same
    have hyi : (fw_u2 (fun a x => if a = j + 2 ∧ x < 24 then nI 1 else fw_u2 I0 j 2 (nI 0) a x) j 6 (nI 0)) (j + 1) 0 &&& nI 255 = nI (y 0) := by rw [hc.1 (j + 1) 0 (by omega) (by omega)]; exact hy 0 (by omega)
    have hIT' := (hc.1 j 1 (by omega) (by omega)).trans hIT
    rw [ht]
    by_cases hg : c_co (y 0) < 3
    · obtain ⟨I', e1, e2⟩ := x_nx3 (I0 := I0) h hT hIT' (by omega) hyi (hy2 0) hc hg
      rw [e1, x_cxI]
      exact h20 (T - 1) 1 fw_fuel (by omega) (by unfold fw_fuel; omega) I' e2
    · obtain ⟨L1, I1, e1, e2⟩ := x_nx3n (I0 := I0) hS hz h hT hIT' (by omega) hyi (hy2 0) hc hg
      obtain ⟨I2, f1, f2, f3, f4⟩ := x_44 (T := T) hS h (by omega) hc hg e1
      have e : c_cf y T = 0 := c_cf_at hc.2.2.2.2 hg (by omega)
      rw [e2]
      refine ⟨L1, I2, 1, 7, ?_, by decide, by decide, e1.2.1, e1.1, f2, ?_, fun b hb => ?_⟩
      · refine (x_cxr (c2 := 0) (s2 := 0) (b := nI 0) (L2 := lh_wI L1 I2) f1).trans ?_
        rw [e, if_neg (by omega)]
      · rw [e, if_neg (by omega)]; exact f3
      · rw [e, if_neg (fun q => by omega)]; exact f4 b hb
end Cap
