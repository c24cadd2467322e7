set_option maxRecDepth 100000
/-! The component's texts: a team's is read, from puller to puller. -/
section Tg
variable {L : LH} {I : MI} {j n T : Nat} {y : Nat → Nat}
theorem x_clrT {m : Nat} (hj : j = 2 ∨ j = 5) (hS : x_Sh L) (ht : x_tm L j) (hs : I (j + 2) 2 = nI m) (hm : m ≤ 8) (hl : x_Li L (j + 2) m) : ∃ L' I', f_X2_clear j (lh_wI L I) = some ((), lh_wI L' I', 0, 0) ∧ lh_z L' = lh_z L ∧ lh_k L' = lh_k L ∧ x_tf j L I L' I' ∧ (∀ a x, a ≠ j + 2 → I' a x = I a x) ∧ x_ts j y 0 L' I' := by
  obtain ⟨R, I', e1, e2, e3, e4⟩ := x_clear ht.2.2.2 hs hm hl
  have h113 := hS.2.2.1
  have rl : R (j + 2) 1 = lh_R L (j + 2) 1 := e2 _ _ (by omega)
  refine ⟨lh_wR L R, I', ?_, rfl, rfl, ⟨Nat.le_refl _, fun _ _ => ⟨rfl, rfl⟩, hS.2.2.2, fun a x _ _ h => e2 a x h, fun a x _ h _ => e3 a x h, fun d hd _ => Or.inl (by rw [← rl]; exact hd)⟩, e3, e4, ?_, fun i hi => absurd hi (by omega)⟩
  · unfold f_X2_clear
    rw [show ∀ {β : Type} (k : Option Nat → Rs β), fw_gR 2 (lh_wI L I) j 5 k = k (lh_R L j 5) from fun k => if_pos ht.1, ht.2.2.1, x_nn, x_lis ht.2.2.2, e1, x_cl]
  · rcases hl with ⟨h1, h2⟩ | ⟨d, h1, h2, h3, h4⟩
    · exact Or.inl ⟨rl.trans h1, rfl⟩
    · exact Or.inr ⟨d, rl.trans h1, h2, h3, h4⟩
theorem x_han {q v : Nat} (hj : j = 2 ∨ j = 5) (hS : x_Sh L) (ht : x_tm L j) (hs : x_ts j y n L I) (hn : n ≤ 8) (hq : 113 ≤ q) (hk : lh_k L q = 7) (hv : I q 6 = nI v) : ∃ L' I', f_X1_reads_44 j (some q) (lh_wI L I) = some (nI v, lh_wI L' I', 0, 0) ∧ lh_z L' = lh_z L ∧ x_tf j L I L' I' ∧ x_ts j y 0 L' I' := by
  obtain ⟨L', I', e1, e2, e3, e4, e5, e6⟩ := x_clrT (y := y) hj hS ht hs.1 hn hs.2.1
  refine ⟨L', I', ?_, e2, e4, e6⟩
  unfold f_X1_reads_44 fw_td
  rw [if_pos (show lh_k (lh_wI L I) j = 2 from ht.1), e1, x_cl, x_nn, show ∀ {β : Type} (k : Int32 → Rs β), fw_gI 7 (lh_wI L' I') q 6 k = k (I' q 6) from fun k => if_pos (by show lh_k L' q = 7; rw [e3]; exact hk), e5 q 6 (by omega), hv]
theorem x_td2 (ht : x_tm L j) {α : Type} (A B : Rs α) : fw_td (lh_wI L I) j A B = A := if_pos ht.1
/-- from puller n on -/
theorem x_Gr (hj : j = 2 ∨ j = 5) (hT : T ≤ 31) (hy2 : ∀ i, y i < 256) : ∀ (m n f : Nat), m + n = 9 → n ≤ 7 → 4 * n ≤ T → m ≤ f → ∀ (L : LH) (I : MI), x_Sh L → x_tm L j → I j 1 = nI T → (∀ i, i < T → I (j + 1) i &&& nI 255 = nI (y i)) → I j 2 = nI (4 * n) → x_ts j y n L I → lh_z L + 2 * m + 20 < fw_RO →
    ∃ L' I', x_ev (lh_z L) (fw_cx (fw_td (lh_wI L I) j (f_X1_next j (lh_wI L I)) (f_X1_next j (lh_wI L I))) (fun x L4 => fw_tj x fun jx => f_X1_reads_44 j (some jx) L4) fun _ L4 => f_X1_reads_20 f j L4) (c_tp y T m n).1 (lh_wI L' I') ∧ x_tf j L I L' I' ∧ lh_z L' ≤ lh_z L + 2 * m + 2 ∧ x_ts j y (c_tp y T m n).2 L' I' := by
  intro m
  induction m with
  | zero => intro n f h1 h2; omega
  | succ m ih =>
    intro n f hmn hn hnT hf L I hS ht hIT hy ha hs hz
    obtain ⟨f, rfl⟩ : ∃ q, f = q + 1 := ⟨f - 1, by omega⟩
    have h113 := hS.2.2.1
    have hfull : fw_td (lh_wI L I) j (f_X2_isFull j (lh_wI L I)) (f_X3_isFull j (lh_wI L I)) = some (nI 0, lh_wI L I, 0, 0) := by
      rw [x_td2 ht]
      unfold f_X2_isFull
      rw [show ∀ {β : Type} (k : Option Nat → Rs β), fw_gR 2 (lh_wI L I) j 5 k = k (lh_R L j 5) from fun k => if_pos ht.1, ht.2.2.1, x_nn, x_lis ht.2.2.2, x_sz ht.2.2.2, x_cl, hs.1, i_eq (by omega) (by decide), if_neg (by omega)]
    have enx : ∀ {β : Type} (kx : XO → LH → Rs β) (k : Unit → LH → Rs β), fw_cx (fw_td (lh_wI L I) j (f_X1_next j (lh_wI L I)) (f_X1_next j (lh_wI L I))) kx k = fw_cx (fw_cx (f_X2_part j (lh_wI L I)) (fun x L3 => some (.inr x, L3, 0, 0)) fun _ L3 => some (.inl (), L3, 0, 0)) kx k := by
      intro β kx k
      rw [x_td2 ht]
      unfold f_X1_next
      rw [hfull, x_cl, if_pos nI_0, x_td2 ht]
    rw [enx]
    rcases x_part (n := n) hj hS (by omega) ht hT hIT hy hy2 hn hnT ha hs with ⟨hg, L1, I1, p1, p2, p3, p4, p5⟩ | ⟨hg, L1, I1, q, p1, p2, p3, p4, p5, p6, p7⟩
    · have hS1 := p2.Sh hj hS
      have ht1 := p2.tm hj hS ht
      have h1T : I1 j 1 = nI T := (p2.2.2.2.2.1 j 1 (by omega) (by omega) (by omega)).trans hIT
      have h1y : ∀ i, i < T → I1 (j + 1) i &&& nI 255 = nI (y i) := fun i hi => by rw [p2.2.2.2.2.1 (j + 1) i (by omega) (by omega) (by omega)]; exact hy i hi
      have hgT : 4 * n + 3 ≤ T := by
        unfold c_g at hg
        split at hg
        · split at hg
          · split at hg
            · omega
            · omega
          · omega
        · omega
      have p3' : lh_z L1 ≤ lh_z L + 2 := by split at p3 <;> omega
      have go : ∀ (o : Rs Int32) (v : Int32) (cnt : Nat), f_X1_reads_20 (f + 1) j (lh_wI L1 I1) = o → (∃ L' I', x_ev (lh_z L1) o v (lh_wI L' I') ∧ x_tf j L1 I1 L' I' ∧ lh_z L' ≤ lh_z L1 + 2 * m + 2 ∧ x_ts j y cnt L' I') → ∃ L' I', x_ev (lh_z L) (fw_cx (fw_cx (f_X2_part j (lh_wI L I)) (fun x L3 => some (.inr x, L3, 0, 0)) fun _ L3 => some (.inl (), L3, 0, 0)) (fun x L4 => fw_tj x fun jx => f_X1_reads_44 j (some jx) L4) fun _ L4 => f_X1_reads_20 (f + 1) j L4) v (lh_wI L' I') ∧ x_tf j L I L' I' ∧ lh_z L' ≤ lh_z L + 2 * (m + 1) + 2 ∧ x_ts j y cnt L' I' := by
        intro o v cnt ho ⟨L', I', r1, r2, r3, r4⟩
        refine ⟨L', I', x_ev.cxi (v := ()) (x_ev.cxi p1 (x_ev.of rfl rfl)) ?_, p2.t r2 (by omega), by omega, r4⟩
        rw [ho]
        exact r1
      have e20 : f_X1_reads_20 (f + 1) j (lh_wI L1 I1) = if T ≤ 4 * n + 3 then some (-nI 1, lh_wI L1 I1, 0, 0) else fw_cx (fw_td (lh_wI L1 I1) j (f_X2_between j (lh_wI L1 I1)) (f_X1_between j (lh_wI L1 I1))) (fun x L3 => fw_tj x fun jx => f_X1_reads_44 j (some jx) L3) fun _ L3 => fw_cx (fw_td L3 j (f_X1_next j L3) (f_X1_next j L3)) (fun x L4 => fw_tj x fun jx => f_X1_reads_44 j (some jx) L4) fun _ L4 => f_X1_reads_20 f j L4 := by
        show (fw_tI (lh_wI L1 I1) j 2 fun v1 => fw_tI (lh_wI L1 I1) j 1 fun v2 => if v2 ≤ v1 then some (-nI 1, lh_wI L1 I1, 0, 0) else _) = _
        rw [x_tI (Or.inl ht1.1), x_tI (Or.inl ht1.1), p4, h1T, i_le (by omega) (by omega)]
      have hbt : f_X2_between j (lh_wI L1 I1) = fw_cx (f_X1_passes j (some (fw_RO + 7)) (lh_wI L1 I1)) (fun x L1 => some (.inr x, L1, 0, 0)) fun v2 L1 => some (.inl (), L1, 0, 0) := if_pos ht1.1
      unfold c_tp
      rw [hg, if_neg (by decide)]
      by_cases hend : 4 * n + 3 = T
      · rw [if_pos hend]
        refine go _ _ _ (by rw [e20, if_pos (by omega)]) ⟨L1, I1, x_ev.of rfl rfl, x_tf.r hS1, by omega, p5⟩
      · rw [if_neg hend]
        by_cases hsep : 4 * n + 3 < T ∧ y (4 * n + 3) = 59
        · rw [if_pos hsep]
          have f1 : x_tf j L1 I1 L1 (fw_u2 I1 j 2 (nI (4 * n + 3 + 1))) := x_tf.ii hS1 (fun a x _ h => fw_u2_ne _ _ (fun q => h ⟨q.1, by omega⟩))
          have s1 : x_ts j y (n + 1) L1 (fw_u2 I1 j 2 (nI (4 * n + 3 + 1))) := p5.ex hS1 (x_ex.r hS1) (by have := hS1.2.2.1; omega) (fw_u2_ne _ _ (by omega)) (fun a x h _ => fw_u2_ne _ _ (by omega))
          obtain ⟨L', I', r1, r2, r3, r4⟩ := ih (n + 1) f (by omega) (by omega) (by omega) (by omega) L1 _ hS1 ht1 (by rw [fw_u2_ne _ _ (by omega)]; exact h1T) (fun i hi => by rw [fw_u2_ne _ _ (by omega)]; exact h1y i hi) (by rw [fw_u2_self]; exact congrArg nI (by omega)) s1 (by omega)
          refine go _ _ _ (by rw [e20, if_neg (by omega)]) ⟨L', I', ?_, f1.t r2 (by omega), r3, r4⟩
          rw [x_td2 ht1, hbt, x_pass (v := nI 0) ht1.2.1 (by decide) p4 h1T hgT hT ⟨by decide, by decide⟩ (fun h => h1y _ h) (fun _ M => by rw [x_io2 (hy2 _), if_pos hsep.2]) (fun h => absurd hsep.1 h), x_p32 (Or.inl ht1.1) p4 (by decide), x_cxI, x_cxI]
          exact r1
        · rw [if_neg hsep]
          obtain ⟨L2, I2, t1, t2⟩ := x_p32n (j := j) hS1 (by omega) (Or.inl ht1.1) p4
          have hl1 : j + 2 < lh_z L1 := by have := hS1.2.2.1; omega
          have f2 : x_tf j L1 I1 L2 I2 := x_tf.ex t1.1 (fun a x ha _ _ => t1.2.2.1 a x (by omega)) hl1
          have s2 := p5.ex hS1 t1.1 hl1 (t1.2.2.1 _ _ (by omega)) (fun a x _ ha => t1.2.2.1 a x (by omega))
          obtain ⟨L3, I3, k1, k2, k3, k4⟩ := x_han (n := n + 1) hj (f2.Sh hj hS1) (f2.tm hj hS1 ht1) s2 (by omega) hS1.2.2.1 t1.2.2.2.1 t1.2.2.2.2
          refine go _ _ _ (by rw [e20, if_neg (by omega)]) ⟨L3, I3, ?_, f2.t k3 (by have := t1.2.1; omega), by have := t1.2.1; omega, k4⟩
          rw [x_td2 ht1, hbt, x_pass (v := -nI 1) ht1.2.1 (by decide) p4 h1T hgT hT ⟨by decide, by decide⟩ (fun h => h1y _ h) (fun h M => by rw [x_io2 (hy2 _), if_neg (fun q => hsep ⟨h, q⟩)]) (fun _ => rfl), t2]
          refine x_ev.cxr (x := .inl (lh_z L1)) (M1 := lh_wI L2 I2) (x_ev.cxr (M1 := lh_wI L2 I2) ⟨1, 7, rfl, t1.2.1, by decide⟩ (x_ev.of rfl rfl)) (x_ev.of ?_ ?_)
          · exact k1
          · exact k2
    · have hS1 := p2.Sh hj hS
      have ht1 := p2.tm hj hS ht
      obtain ⟨L3, I3, k1, k2, k3, k4⟩ := x_han (n := n) hj hS1 ht1 p4 (by omega) p5 p6 p7
      unfold c_tp
      rw [if_pos hg]
      refine ⟨L3, I3, x_ev.cxr (x := .inl q) (M1 := lh_wI L1 I1) (x_ev.cxr p1 (x_ev.of rfl rfl)) (x_ev.of k1 k2), p2.t k3 (by omega), by omega, k4⟩
theorem x_rdT (hj : j = 2 ∨ j = 5) (hS : x_Sh L) (ht : x_tm L j) (hT : T ≤ 31) (hIT : I j 1 = nI T) (hy : ∀ i, i < T → I (j + 1) i &&& nI 255 = nI (y i)) (hy2 : ∀ i, y i < 256) {m : Nat} (hs : I (j + 2) 2 = nI m) (hm : m ≤ 8) (hl : x_Li L (j + 2) m) (hz : lh_z L + 40 < fw_RO) :
    ∃ L' I', x_ev (lh_z L) (f_X1_reads j (lh_wI L I)) (c_te y T).1 (lh_wI L' I') ∧ x_tf j L I L' I' ∧ lh_z L' ≤ lh_z L + 20 ∧ x_ts j y (c_te y T).2 L' I' := by
  have h113 := hS.2.2.1
  have f0 : x_tf j L I L (fw_u2 I j 2 (nI 0)) := x_tf.ii hS (fun a x _ h => fw_u2_ne _ _ (fun q => h ⟨q.1, by omega⟩))
  obtain ⟨L1, I1, e1, e2, e3, e4, e5, e6⟩ := x_clrT (I := fw_u2 I j 2 (nI 0)) (y := y) hj hS ht (by rw [fw_u2_ne _ _ (by omega)]; exact hs) hm hl
  have f1 := f0.t e4 (by omega)
  have hS1 := f1.Sh hj hS
  have ht1 := f1.tm hj hS ht
  have h1T : I1 j 1 = nI T := by rw [e5 _ _ (by omega), fw_u2_ne _ _ (by omega)]; exact hIT
  have h1y : ∀ i, i < T → I1 (j + 1) i &&& nI 255 = nI (y i) := fun i hi => by rw [e5 _ _ (by omega), fw_u2_ne _ _ (by omega)]; exact hy i hi
  have h12 : I1 j 2 = nI 0 := by rw [e5 _ _ (by omega), fw_u2_self]
  unfold f_X1_reads
  rw [x_tpI (Or.inl ht.1), x_td2 ht, e1, x_cl, x_tI (Or.inl ht1.1), h1T, i_le0 (by omega)]
  unfold c_te
  by_cases h0 : T = 0
  · rw [if_pos h0, if_pos h0]
    refine ⟨L1, I1, x_ev.of ?_ e2, f1, by omega, e6⟩
    unfold fw_fuel f_X1_reads_20
    rw [x_tI (Or.inl ht1.1), x_tI (Or.inl ht1.1), h12, h1T, i_le (by omega) (by decide), if_pos (by omega)]
  · rw [if_neg h0, if_neg h0]
    obtain ⟨L', I', r1, r2, r3, r4⟩ := x_Gr hj hT hy2 9 0 fw_fuel rfl (by decide) (by omega) (by decide) L1 I1 hS1 ht1 h1T h1y h12 e6 (by omega)
    refine ⟨L', I', ?_, f1.t r2 (by omega), by omega, r4⟩
    rw [e2] at r1
    exact r1
end Tg
