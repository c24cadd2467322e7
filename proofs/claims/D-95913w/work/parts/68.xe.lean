set_option maxRecDepth 100000
/-! The component's texts: a team's is read. -/
/-- a team's cells: object j, bytes j + 1, list j + 2 -/
def x_tm (L : LH) (j : Nat) : Prop := lh_k L j = 2 ∧ x_tk L j 31 ∧ lh_R L j 5 = some (j + 2) ∧ lh_k L (j + 2) = 5
/-- what a team's reading may have changed since L0, I0 -/
def x_tf (j : Nat) (L0 : LH) (I0 : MI) (L : LH) (I : MI) : Prop := lh_z L0 ≤ lh_z L ∧ (∀ a, a < lh_z L0 → lh_k L a = lh_k L0 a ∧ lh_n L a = lh_n L0 a) ∧ (∀ a, lh_z L ≤ a → lh_k L a = 0) ∧
  (∀ a x, a < lh_z L0 → ¬ (a = j + 2 ∧ x = 1) → ¬ (113 ≤ a ∧ lh_R L0 (j + 2) 1 = some a) → lh_R L a x = lh_R L0 a x) ∧ (∀ a x, a < lh_z L0 → a ≠ j + 2 → ¬ (a = j ∧ x ≠ 1) → I a x = I0 a x) ∧ (∀ d, lh_R L (j + 2) 1 = some d → d < fw_RO → lh_R L0 (j + 2) 1 = some d ∨ lh_z L0 ≤ d)
theorem x_tf.r {j : Nat} {L : LH} {I : MI} (h : x_Sh L) : x_tf j L I L I := ⟨Nat.le_refl _, fun _ _ => ⟨rfl, rfl⟩, h.2.2.2, fun _ _ _ _ _ => rfl, fun _ _ _ _ _ => rfl, fun _ h _ => Or.inl h⟩
theorem x_tf.t {j : Nat} {L0 L1 L2 : LH} {I0 I1 I2 : MI} (h : x_tf j L0 I0 L1 I1) (h2 : x_tf j L1 I1 L2 I2) (hz : lh_z L1 < fw_RO) : x_tf j L0 I0 L2 I2 := by
  obtain ⟨a1, a2, a3, a4, a5, a6⟩ := h
  obtain ⟨b1, b2, b3, b4, b5, b6⟩ := h2
  refine ⟨Nat.le_trans a1 b1, fun a ha => ⟨(b2 a (by omega)).1.trans (a2 a ha).1, (b2 a (by omega)).2.trans (a2 a ha).2⟩, b3, fun a x ha h1 h2 => ?_, fun a x ha h1 h2 => (b5 a x (by omega) h1 h2).trans (a5 a x ha h1 h2), fun d hd hR => ?_⟩
  · rw [b4 a x (by omega) h1 (fun q => ?_)]
    · exact a4 a x ha h1 h2
    · rcases a6 a q.2 (by omega) with z | z
      · exact h2 ⟨q.1, z⟩
      · omega
  · rcases b6 d hd hR with z | z
    · exact a6 d z hR
    · exact Or.inr (Nat.le_trans a1 z)
theorem x_tf.Sh {j : Nat} {L0 L : LH} {I0 I : MI} (hj : j = 2 ∨ j = 5) (h0 : x_Sh L0) (h : x_tf j L0 I0 L I) : x_Sh L := by
  obtain ⟨a1, a2, a3, a4, -, -⟩ := h
  have hz := h0.2.2.1
  refine ⟨fun i hi => ⟨(a2 i (by omega)).1.trans (h0.1 i hi).1, (a2 i (by omega)).2.trans (h0.1 i hi).2⟩, fun i x r hr => ?_, Nat.le_trans hz a1, a3⟩
  have hi := x_rf_lt hr
  rw [a4 i x (by omega) (fun q => ?_) (fun q => by omega)]
  · exact h0.2.1 i x r hr
  · rw [q.1] at hr
    rcases hj with e | e <;> subst e <;> cases hr
theorem x_tf.tm {j : Nat} {L0 L : LH} {I0 I : MI} (hj : j = 2 ∨ j = 5) (h0 : x_Sh L0) (ht : x_tm L0 j) (h : x_tf j L0 I0 L I) : x_tm L j := by
  obtain ⟨a1, a2, a3, a4, -, -⟩ := h
  obtain ⟨t1, ⟨t2, t3, t4, t5⟩, t6, t7⟩ := ht
  have hz := h0.2.2.1
  have k0 := a2 j (by omega)
  have k1 := a2 (j + 1) (by omega)
  have k2 := a2 (j + 2) (by omega)
  exact ⟨k0.1.trans t1, ⟨by rw [k0.1]; exact t2, (a4 j 0 (by omega) (by omega) (fun q => by omega)).trans t3, k1.1.trans t4, k1.2.trans t5⟩, (a4 j 5 (by omega) (by omega) (fun q => by omega)).trans t6, k2.1.trans t7⟩
/-- n pullers have been read -/
def x_ts (j : Nat) (y : Nat → Nat) (n : Nat) (L : LH) (I : MI) : Prop := I (j + 2) 2 = nI n ∧ x_Li L (j + 2) n ∧ ∀ i, i < n → ∃ p, x_at L (j + 2) i p ∧ x_Pu L I p (c_so (y (4 * i))) (y (4 * i + 1) - 48) (y (4 * i + 2) - 48)
theorem x_srt {β : Type} {s : Nat} (hs : s < 3) {k : Option Nat → Rs β} : fw_srt (fw_RO + 0) (nI s) k = k (some (x_so s)) := by
  unfold fw_srt
  rw [nI_clamp (by omega), if_pos ⟨rfl, fun q => by
    rcases q with q | q
    · exact nI_pos (by omega) q
    · omega⟩]
section Tm
variable {L : LH} {I : MI} {j n T : Nat} {y : Nat → Nat}
theorem x_tf.ii {I' : MI} (hS : x_Sh L) (h : ∀ a x, a ≠ j + 2 → ¬ (a = j ∧ x ≠ 1) → I' a x = I a x) : x_tf j L I L I' := ⟨Nat.le_refl _, fun _ _ => ⟨rfl, rfl⟩, hS.2.2.2, fun _ _ _ _ _ => rfl, fun a x _ => h a x, fun _ h _ => Or.inl h⟩
theorem x_tf.ex {L' : LH} {I' : MI} (e : x_ex L L') (h : ∀ a x, a < lh_z L → a ≠ j + 2 → ¬ (a = j ∧ x ≠ 1) → I' a x = I a x) (hl : j + 2 < lh_z L) : x_tf j L I L' I' :=
  ⟨e.1, fun a ha => ⟨(e.2.1 a ha).1, (e.2.1 a ha).2.1⟩, e.2.2, fun a x ha _ _ => (e.2.1 a ha).2.2 x, h, fun d hd _ => Or.inl (by rw [← (e.2.1 _ hl).2.2 1]; exact hd)⟩
theorem x_ts.ex {L' : LH} {I' : MI} (hS : x_Sh L) (e : x_ex L L') (hl : j + 2 < lh_z L) (h : x_ts j y n L I) (h2 : I' (j + 2) 2 = I (j + 2) 2) (h3 : ∀ a x, 113 ≤ a → a < lh_z L → I' a x = I a x) : x_ts j y n L' I' := by
  obtain ⟨a1, a2, a3⟩ := h
  refine ⟨h2.trans a1, ?_, fun i hi => ?_⟩
  · rcases a2 with ⟨b1, b2⟩ | ⟨d, b1, b2, b3, b4⟩
    · exact Or.inl ⟨((e.2.1 _ hl).2.2 1).trans b1, b2⟩
    · have z := e.2.1 d (x_lt hS (by rw [b3]; decide))
      exact Or.inr ⟨d, ((e.2.1 _ hl).2.2 1).trans b1, b2, z.1.trans b3, z.2.1.trans b4⟩
  · obtain ⟨p, ⟨d, b1, b2, b3, b4⟩, c1, c2, c3, c4, c5⟩ := a3 i hi
    have z := e.2.1 d (x_lt hS (by rw [b2]; decide))
    have hpz := x_lt hS (show lh_k L p ≠ 0 by rw [c2]; decide)
    have z2 := e.2.1 p hpz
    exact ⟨p, ⟨d, ((e.2.1 _ hl).2.2 1).trans b1, z.1.trans b2, by rw [z.2.1]; exact b3, (z.2.2 i).trans b4⟩, c1, z2.1.trans c2, (z2.2.2 0).trans c3, (h3 p 1 c1 hpz).trans c4, (h3 p 2 c1 hpz).trans c5⟩
theorem x_newex (hS : x_Sh L) (c n : Nat) : x_ex L (lh_new L c n) := by
  refine ⟨Nat.le_succ _, fun a ha => ⟨fw_u1_ne _ _ (by omega), fw_u1_ne _ _ (by omega), fun x => ?_⟩, fun a ha => ?_⟩
  · show fw_u1 (lh_R L) (lh_z L) (fun _ => none) a x = _
    rw [fw_u1_ne _ _ (by omega)]
  · have ha : lh_z L + 1 ≤ a := ha
    show fw_u1 (lh_k L) (lh_z L) c a = 0
    rw [fw_u1_ne _ _ (by omega)]
    exact hS.2.2.2 a (by omega)
theorem x_Ad.tf {p : Nat} {L' : LH} {I' : MI} (h : x_Ad L I (j + 2) n p L' I') : x_tf j L I L' I' := by
  obtain ⟨d, h1, h2, h3, h4, h5, h6, h7, h8, h9, h10, h11, h12, h13, h14⟩ := h
  refine ⟨h11, h9, h10, fun a x ha q1 q2 => h8 a x ha (fun q => ?_) q1, fun a x ha q1 _ => h13 a x ha q1, fun d' hd' _ => ?_⟩
  · rcases h5 with z | z
    · exact q2 ⟨by rw [q]; exact h2, by rw [q]; exact z⟩
    · omega
  · rw [h1] at hd'
    obtain rfl := Option.some.inj hd'
    rcases h5 with z | z
    · exact Or.inl z
    · exact Or.inr (by omega)
theorem x_Ad.ts {p : Nat} {L' : LH} {I' : MI} (hS : x_Sh L) (hk5 : lh_k L (j + 2) = 5) (h : x_Ad L I (j + 2) n p L' I') (hs : x_ts j y n L I) (hp : x_Pu L I p (c_so (y (4 * n))) (y (4 * n + 1) - 48) (y (4 * n + 2) - 48)) (hl : j + 2 < 113) (hn10 : n < 10) : x_ts j y (n + 1) L' I' := by
  obtain ⟨d, h1, h2, h3, h4, h5, h6, h7, h8, h9, h10, h11, h12, h13, h14⟩ := h
  obtain ⟨s1, s2, s3⟩ := hs
  have pu : ∀ p s w wi, x_Pu L I p s w wi → x_Pu L' I' p s w wi := by
    intro p s w wi ⟨c1, c2, c3, c4, c5⟩
    have hpz := x_lt hS (show lh_k L p ≠ 0 by rw [c2]; decide)
    have hpd : p ≠ d := fun q => by
      have := (h9 p hpz).1
      rw [q, h3, ← q, c2] at this
      cases this
    exact ⟨c1, (h9 p hpz).1.trans c2, (h8 p 0 hpz hpd (by omega)).trans c3, (h13 p 1 hpz (by omega)).trans c4, (h13 p 2 hpz (by omega)).trans c5⟩
  refine ⟨h14, Or.inr ⟨d, h1, h2, h3, h4⟩, fun i hi => ?_⟩
  by_cases q : i = n
  · subst q
    exact ⟨p, ⟨d, h1, h3, by rw [h4]; exact hn10, h6⟩, pu _ _ _ _ hp⟩
  · obtain ⟨p', ⟨d', b1, b2, b3, b4⟩, b5⟩ := s3 i (by omega)
    have hdd : d' = d := by
      rcases h5 with z | z
      · rw [z] at b1; exact (Option.some.inj b1).symm
      · omega
    subst hdd
    exact ⟨p', ⟨d', h1, h3, by rw [h4]; omega, (h7 i q (by omega)).trans b4⟩, pu _ _ _ _ b5⟩
/-- one puller is read -/
theorem x_part (hj : j = 2 ∨ j = 5) (hS : x_Sh L) (hz : lh_z L + 9 < fw_RO) (ht : x_tm L j) (hT : T ≤ 31) (hIT : I j 1 = nI T) (hy : ∀ i, i < T → I (j + 1) i &&& nI 255 = nI (y i)) (hy2 : ∀ i, y i < 256) (hn : n ≤ 7) (hnT : 4 * n ≤ T) (ha : I j 2 = nI (4 * n)) (hs : x_ts j y n L I) :
    (c_g y T (4 * n) = 3 ∧ ∃ L' I', x_ev (lh_z L) (f_X2_part j (lh_wI L I)) (.inl ()) (lh_wI L' I') ∧ x_tf j L I L' I' ∧ lh_z L' ≤ lh_z L + (if n = 0 then 2 else 1) ∧ I' j 2 = nI (4 * n + 3) ∧ x_ts j y (n + 1) L' I') ∨
    (c_g y T (4 * n) < 3 ∧ ∃ L' I' q, x_ev (lh_z L) (f_X2_part j (lh_wI L I)) (.inr (.inl q)) (lh_wI L' I') ∧ x_tf j L I L' I' ∧ lh_z L' ≤ lh_z L + 2 ∧ x_ts j y n L' I' ∧ 113 ≤ q ∧ lh_k L' q = 7 ∧ I' q 6 = nI (4 * n + c_g y T (4 * n))) := by
  have hlz : j + 2 < lh_z L := by have := hS.2.2.1; omega
  have h113 := hS.2.2.1
  have his : ∀ {β : Type} (M : LH) (J : MI) (k : Rs β), x_tm M j → fw_is 2 (lh_wI M J) j k = k := fun M J k h => if_pos h.1
  have hgr : ∀ {β : Type} (M : LH) (J : MI) (k : Option Nat → Rs β), x_tm M j → fw_gR 2 (lh_wI M J) j 5 k = k (some (j + 2)) := fun M J k h => by
    unfold fw_gR
    rw [if_pos (show lh_k (lh_wI M J) j = 2 from h.1)]
    exact congrArg k h.2.2.1
  -- what a Torn leaves
  have torn : ∀ (M : LH) (J : MI) (g : Nat) (M' : LH) (J' : MI), x_Sh M → x_tf j L I M J → x_ts j y n M J → lh_z M ≤ lh_z L + 1 → x_Tn M J (4 * n + g) M' J' → x_tf j L I M' J' ∧ lh_z M' ≤ lh_z L + 2 ∧ x_ts j y n M' J' ∧ 113 ≤ lh_z M ∧ lh_k M' (lh_z M) = 7 ∧ J' (lh_z M) 6 = nI (4 * n + g) := by
    intro M J g M' J' hSM hf hts hzM ⟨t1, t2, t3, t4, t5⟩
    have hl2 : j + 2 < lh_z M := by have := hSM.2.2.1; omega
    exact ⟨hf.t (x_tf.ex t1 (fun a x ha _ _ => t3 a x (by omega)) hl2) (by omega), by omega, hts.ex hSM t1 hl2 (t3 _ _ (by omega)) (fun a x _ ha => t3 a x (by omega)), hSM.2.2.1, t4, t5⟩
  have g1 : ∀ v : Int32, x_tf j L I L (fw_u2 I j 2 v) := fun v => x_tf.ii hS (fun a x _ h => fw_u2_ne _ _ (fun q => h ⟨q.1, by omega⟩))
  have g2 : ∀ v : Int32, x_ts j y n L (fw_u2 I j 2 v) := fun v => hs.ex hS (x_ex.r hS) hlz (fw_u2_ne _ _ (by omega)) (fun a x h _ => fw_u2_ne _ _ (by omega))
  have tI : ∀ v : Int32, fw_u2 I j 2 v j 1 = nI T := fun v => by rw [fw_u2_ne _ _ (by omega)]; exact hIT
  have tY : ∀ (v : Int32) i, i < T → fw_u2 I j 2 v (j + 1) i &&& nI 255 = nI (y i) := fun v i hi => by rw [fw_u2_ne _ _ (by omega)]; exact hy i hi
  unfold f_X2_part
  rw [his _ _ _ ht]
  by_cases q0 : 4 * n < T ∧ c_so (y (4 * n)) < 3
  · -- the sort is good
    rw [x_pass (v := nI (c_so (y (4 * n)))) ht.2.1 (by decide) ha hIT hnT hT ⟨by decide, by decide⟩ (fun h => hy _ h) (fun _ M => by rw [x_io0 (hy2 _), if_pos q0.2]) (fun h => absurd q0.1 h), x_p32 ht.2.1.1 ha (by omega), x_cxI, x_srt q0.2, his _ _ _ ht]
    have a1 : fw_u2 I j 2 (nI (4 * n + 1)) j 2 = nI (4 * n + 1) := fw_u2_self _ _ _ _
    by_cases q1 : 4 * n + 1 < T ∧ c_fi (y (4 * n + 1)) = true
    · have f1 : 49 ≤ y (4 * n + 1) ∧ y (4 * n + 1) ≤ 57 := by have := q1.2; unfold c_fi at this; exact of_decide_eq_true this
      rw [x_pass (v := nI (y (4 * n + 1) - 49)) ht.2.1 (by decide) a1 (tI _) (by omega) hT ⟨by decide, by decide⟩ (fun h => tY _ _ h) (fun _ M => by rw [x_io1 (hy2 _), if_pos q1.2]) (fun h => absurd q1.1 h), x_p32 ht.2.1.1 a1 (by omega), x_cxI, fw_u2_tw, hgr _ _ _ ht]
      -- the puller's cell
      have eN : x_ex L (lh_new L 6 0) := x_newex hS 6 0
      have hSN : x_Sh (lh_new L 6 0) := hS.x eN
      have hfN : x_tf j L I (lh_new L 6 0) (fw_u1 (fw_u2 I j 2 (nI (4 * n + 1 + 1))) (lh_z L) (fun _ => 0)) := x_tf.ex eN (fun a x ha _ h => by rw [fw_u1_ne _ _ (by omega), fw_u2_ne _ _ (fun q => h ⟨q.1, by omega⟩)]) hlz
      have htN : x_tm (lh_new L 6 0) j := hfN.tm hj hS ht
      have hsN : x_ts j y n (lh_new L 6 0) (fw_u1 (fw_u2 I j 2 (nI (4 * n + 1 + 1))) (lh_z L) (fun _ => 0)) := hs.ex hS eN hlz (by rw [fw_u1_ne _ _ (by omega), fw_u2_ne _ _ (by omega)]) (fun a x h1 h2 => by rw [fw_u1_ne _ _ (by omega), fw_u2_ne _ _ (by omega)])
      have a2 : fw_u1 (fw_u2 I j 2 (nI (4 * n + 1 + 1))) (lh_z L) (fun _ => 0) j 2 = nI (4 * n + 2) := by rw [fw_u1_ne _ _ (by omega), fw_u2_self]
      have hIN : fw_u1 (fw_u2 I j 2 (nI (4 * n + 1 + 1))) (lh_z L) (fun _ => 0) j 1 = nI T := by rw [fw_u1_ne _ _ (by omega)]; exact tI _
      have hYN : ∀ i, i < T → fw_u1 (fw_u2 I j 2 (nI (4 * n + 1 + 1))) (lh_z L) (fun _ => 0) (j + 1) i &&& nI 255 = nI (y i) := fun i hi => by rw [fw_u1_ne _ _ (by omega)]; exact tY _ i hi
      have hzN : lh_z (lh_new L 6 0) = lh_z L + 1 := rfl
      have eD : lh_new (lh_wI L (fw_u2 I j 2 (nI (4 * n + 1 + 1)))) 6 0 = lh_wI (lh_new L 6 0) (fw_u1 (fw_u2 I j 2 (nI (4 * n + 1 + 1))) (lh_z L) (fun _ => 0)) := rfl
      by_cases q2 : 4 * n + 2 < T ∧ c_fi (y (4 * n + 2)) = true
      · have f2 : 49 ≤ y (4 * n + 2) ∧ y (4 * n + 2) ≤ 57 := by have := q2.2; unfold c_fi at this; exact of_decide_eq_true this
        have hg : c_g y T (4 * n) = 3 := by unfold c_g; rw [if_pos q0, if_pos q1, if_pos q2]
        refine Or.inl ⟨hg, ?_⟩
        have hk6 : lh_k (lh_new L 6 0) (lh_z L) = 6 := fw_u1_self _ _ _
        have eR : x_ex L (lh_sR (lh_new L 6 0) (lh_z L) 0 (some (x_so (c_so (y (4 * n)))))) := ⟨eN.1, fun a ha => ⟨(eN.2.1 a ha).1, (eN.2.1 a ha).2.1, fun x => by
          show fw_u2 (lh_R (lh_new L 6 0)) (lh_z L) 0 _ a x = _
          rw [fw_u2_ne _ _ (by omega)]
          exact (eN.2.1 a ha).2.2 x⟩, eN.2.2⟩
        have hJ : ∀ a x, a < lh_z L → ¬ (a = j ∧ x = 2) → fw_u2 (fw_u2 (fw_u2 (fw_u1 (fw_u2 I j 2 (nI (4 * n + 1 + 1))) (lh_z L) (fun _ => 0)) j 2 (nI (4 * n + 3))) (lh_z L) 1 (nI (y (4 * n + 1) - 48))) (lh_z L) 2 (nI (y (4 * n + 2) - 48)) a x = I a x := fun a x ha h => by
          rw [fw_u2_ne _ _ (by omega), fw_u2_ne _ _ (by omega), fw_u2_ne _ _ (by omega), fw_u1_ne _ _ (by omega), fw_u2_ne _ _ (by omega)]
        have hf2 := x_tf.ex (j := j) (I := I) eR (fun a x ha _ h => hJ a x ha (fun q => h ⟨q.1, by omega⟩)) hlz
        have hs2 := hs.ex hS eR hlz (hJ _ 2 hlz (by omega)) (fun a x h1 h2 => hJ a x h2 (by omega))
        have hS2 := hS.x eR
        have ht2 := hf2.tm hj hS ht
        have hPu : x_Pu (lh_sR (lh_new L 6 0) (lh_z L) 0 (some (x_so (c_so (y (4 * n)))))) (fw_u2 (fw_u2 (fw_u2 (fw_u1 (fw_u2 I j 2 (nI (4 * n + 1 + 1))) (lh_z L) (fun _ => 0)) j 2 (nI (4 * n + 3))) (lh_z L) 1 (nI (y (4 * n + 1) - 48))) (lh_z L) 2 (nI (y (4 * n + 2) - 48))) (lh_z L) (c_so (y (4 * n))) (y (4 * n + 1) - 48) (y (4 * n + 2) - 48) :=
          ⟨h113, hk6, fw_u2_self _ _ _ _, by rw [fw_u2_ne _ _ (by omega), fw_u2_self], fw_u2_self _ _ _ _⟩
        obtain ⟨M3, J4, r1, r2⟩ := x_add (p := lh_z L) hS2 (by show lh_z L + 1 + 1 < fw_RO; omega) ht2.2.2.2 hs2.1 (by omega) hs2.2.1 (Or.inl hk6)
        refine ⟨M3, J4, ?_, hf2.t r2.tf (by show lh_z L + 1 < fw_RO; omega), ?_, ?_, r2.ts hS2 ht2.2.2.2 hs2 hPu (by omega) (by omega)⟩
        · refine x_ev.nw (L := lh_wI L (fw_u2 I j 2 (nI (4 * n + 1 + 1)))) (by show lh_z L + 1 < fw_RO; omega) (by decide) ?_
          rw [eD, his _ _ _ htN, x_pass (v := nI (y (4 * n + 2) - 49)) htN.2.1 (by decide) a2 hIN (by omega) hT ⟨by decide, by decide⟩ (fun h => hYN _ h) (fun _ M => by rw [x_io1 (hy2 _), if_pos q2.2]) (fun h => absurd q2.1 h), x_p32 htN.2.1.1 a2 (by omega), x_cxI]
          refine x_ev.cl (v := ()) (M1 := lh_wI (lh_sR (lh_new L 6 0) (lh_z L) 0 (some (x_so (c_so (y (4 * n)))))) (fw_u2 (fw_u2 (fw_u2 (fw_u1 (fw_u2 I j 2 (nI (4 * n + 1 + 1))) (lh_z L) (fun _ => 0)) j 2 (nI (4 * n + 3))) (lh_z L) 1 (nI (y (4 * n + 1) - 48))) (lh_z L) 2 (nI (y (4 * n + 2) - 48)))) (x_ev.of ?_ rfl) ?_
          · unfold f_X7_init
            rw [nI_add, nI_add, show 1 + (y (4 * n + 1) - 49) = y (4 * n + 1) - 48 by omega, show 1 + (y (4 * n + 2) - 49) = y (4 * n + 2) - 48 by omega]
            refine (if_pos hk6).trans ?_
            refine (if_pos hk6).trans ?_
            exact if_pos hk6
          · rw [x_nn, x_lis ht2.2.2.2]
            exact x_ev.cl r1 (x_ev.of rfl rfl)
        · have := r2
          obtain ⟨d, -, -, -, -, -, -, -, -, -, -, -, h12, -⟩ := this
          have h12 : lh_z M3 ≤ lh_z L + 1 + (if n = 0 then 1 else 0) := h12
          split at h12 <;> split <;> omega
        · obtain ⟨d, -, -, -, -, -, -, -, -, -, -, -, -, h13, -⟩ := r2
          rw [h13 j 2 (by show j < lh_z L + 1; omega) (by omega), fw_u2_ne _ _ (by omega), fw_u2_ne _ _ (by omega), fw_u2_self]
      · have hg : c_g y T (4 * n) = 2 := by unfold c_g; rw [if_pos q0, if_pos q1, if_neg q2]
        rw [hg]
        refine Or.inr ⟨by decide, ?_⟩
        obtain ⟨M', J', t1, t2⟩ := x_p32n (j := j) hSN (by show lh_z L + 1 + 1 < fw_RO; omega) htN.2.1.1 a2
        obtain ⟨z1, z2, z3, z4, z5, z6⟩ := torn _ _ 2 _ _ hSN hfN hsN (Nat.le_refl _) t1
        refine ⟨M', J', lh_z L + 1, ?_, z1, z2, z3, z4, z5, z6⟩
        refine x_ev.nw (L := lh_wI L (fw_u2 I j 2 (nI (4 * n + 1 + 1)))) (by show lh_z L + 1 < fw_RO; omega) (by decide) ?_
        rw [eD, his _ _ _ htN, x_pass (v := -nI 1) htN.2.1 (by decide) a2 hIN (by omega) hT ⟨by decide, by decide⟩ (fun h => hYN _ h) (fun h M => by rw [x_io1 (hy2 _), if_neg (fun q => q2 ⟨h, q⟩)]) (fun _ => rfl), t2]
        exact x_ev.cxr (M1 := lh_wI M' J') ⟨1, 7, rfl, t1.2.1, by decide⟩ (x_ev.of rfl rfl)
    · have hg : c_g y T (4 * n) = 1 := by unfold c_g; rw [if_pos q0, if_neg q1]
      rw [hg]
      refine Or.inr ⟨by decide, ?_⟩
      obtain ⟨M', J', t1, t2⟩ := x_p32n (j := j) hS (by omega) ht.2.1.1 a1
      obtain ⟨z1, z2, z3, z4, z5, z6⟩ := torn _ _ 1 _ _ hS (g1 _) (g2 _) (Nat.le_succ _) t1
      refine ⟨M', J', lh_z L, ?_, z1, z2, z3, z4, z5, z6⟩
      rw [x_pass (v := -nI 1) ht.2.1 (by decide) a1 (tI _) (by omega) hT ⟨by decide, by decide⟩ (fun h => tY _ _ h) (fun h M => by rw [x_io1 (hy2 _), if_neg (fun q => q1 ⟨h, q⟩)]) (fun _ => rfl), t2]
      exact x_ev.cxr (M1 := lh_wI M' J') ⟨1, 7, rfl, t1.2.1, by decide⟩ (x_ev.of rfl rfl)
  · have hg : c_g y T (4 * n) = 0 := by unfold c_g; rw [if_neg q0]
    rw [hg]
    refine Or.inr ⟨by decide, ?_⟩
    obtain ⟨M', J', t1, t2⟩ := x_p32n (j := j) hS (by omega) ht.2.1.1 ha
    obtain ⟨z1, z2, z3, z4, z5, z6⟩ := torn _ _ 0 _ _ hS (x_tf.r hS) hs (Nat.le_succ _) t1
    refine ⟨M', J', lh_z L, ?_, z1, z2, z3, z4, z5, z6⟩
    rw [x_pass (v := -nI 1) ht.2.1 (by decide) ha hIT hnT hT ⟨by decide, by decide⟩ (fun h => hy _ h) (fun h M => by rw [x_io0 (hy2 _), if_neg (fun q => q0 ⟨h, q⟩)]) (fun _ => rfl), t2]
    exact x_ev.cxr (M1 := lh_wI M' J') ⟨1, 7, rfl, t1.2.1, by decide⟩ (x_ev.of rfl rfl)
end Tm
