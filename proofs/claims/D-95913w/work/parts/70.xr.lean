set_option maxRecDepth 100000
/-! The component's texts in its world: read when they are needed. -/
theorem x_TL.go {P C : CF} {L L' : LH} {I I' : MI} {t : Nat} (hS : x_Sh L) (h : x_TL P C L I t) (h1 : ∀ x, I' (2 + 3 * t) x = I (2 + 3 * t) x) (h2 : I' (4 + 3 * t) 2 = I (4 + 3 * t) 2) (hk : ∀ j, j < lh_z L → lh_k L' j = lh_k L j ∧ lh_n L' j = lh_n L j) (hR : lh_R L' (4 + 3 * t) 1 = lh_R L (4 + 3 * t) 1) (hRd : ∀ d x, 113 ≤ d → d < lh_z L → lh_R L (4 + 3 * t) 1 = some d → lh_R L' d x = lh_R L d x) (hp : ∀ p x, 113 ≤ p → lh_k L p = 6 → lh_R L' p x = lh_R L p x ∧ I' p x = I p x) : x_TL P C L' I' t := by
  obtain ⟨⟨m, a1, a2, a3⟩, a4⟩ := h
  refine ⟨⟨m, a1, h2.trans a2, ?_⟩, ?_⟩
  · rcases a3 with ⟨b1, b2⟩ | ⟨d, b1, b2, b3, b4⟩
    · exact Or.inl ⟨hR.trans b1, b2⟩
    · have z := hk d (x_lt hS (by rw [b3]; decide))
      exact Or.inr ⟨d, hR.trans b1, b2, z.1.trans b3, z.2.trans b4⟩
  · rcases a4 with ⟨⟨b1, b2, b3⟩, b4⟩ | ⟨b1, b2, b3⟩
    · refine Or.inl ⟨⟨(h1 3).trans b1, h2.trans b2, fun i hi => ?_⟩, (h1 4).trans b4⟩
      obtain ⟨p, ⟨d, c1, c2, c3, c4⟩, e1, e2, e3, e4, e5⟩ := b3 i hi
      have hdz := x_lt hS (show lh_k L d ≠ 0 by rw [c2]; decide)
      have hpz := x_lt hS (show lh_k L p ≠ 0 by rw [e2]; decide)
      have hd1 : 113 ≤ d := by
        rcases a3 with ⟨q1, q2⟩ | ⟨d', q1, q2, -⟩
        · rw [b2] at a2
          have : d = fw_RO + 4 := by rw [q1] at c1; exact (Option.some.inj c1).symm
          have : fw_RO = 1000000 := rfl
          omega
        · rw [q1] at c1; obtain rfl := Option.some.inj c1; exact q2
      exact ⟨p, ⟨d, hR.trans c1, (hk d hdz).1.trans c2, by rw [(hk d hdz).2]; exact c3, (hRd d i hd1 hdz c1).trans c4⟩, e1, (hk p hpz).1.trans e2, (hp p 0 e1 e2).1.trans e3, (hp p 1 e1 e2).2.trans e4, (hp p 2 e1 e2).2.trans e5⟩
    · exact Or.inr ⟨(h1 3).trans b1, b2, b3⟩
def x_po (I : MI) : Nat := (if I 2 3 = nI 1 then 0 else 25) + (if I 5 3 = nI 1 then 0 else 25) + (if I 9 3 = nI 1 then 0 else 5) + (if I 12 3 = nI 1 then 0 else 5)
theorem x_po_f {I I' : MI} (h : ∀ j, (j = 2 ∨ j = 5 ∨ j = 9 ∨ j = 12) → I' j 3 = I j 3) : x_po I' = x_po I := by
  unfold x_po
  rw [h 2 (by decide), h 5 (by decide), h 9 (by decide), h 12 (by decide)]
theorem x_po_le (I : MI) : x_po I ≤ 60 := by
  unfold x_po
  repeat' split
  all_goals omega
/-- what reading changes -/
abbrev x_vr (a x : Nat) : Prop := ((a = 2 ∨ a = 5 ∨ a = 9 ∨ a = 12) ∧ x ≠ 1) ∨ a = 4 ∨ a = 7 ∨ a = 11 ∨ a = 14
/-- a step of the component -/
def x_Z (p : Nat → Nat → Prop) (L : LH) (I : MI) (L' : LH) (I' : MI) : Prop := lh_z L ≤ lh_z L' ∧ lh_z L' + x_po I' ≤ lh_z L + x_po I ∧ (∀ a x, a < 113 → ¬ p a x → I' a x = I a x) ∧
  (I 2 3 = nI 1 → I 5 3 = nI 1 → x_ex L L' ∧ (∀ a x, 113 ≤ a → a < lh_z L → I' a x = I a x) ∧ I' 2 3 = nI 1 ∧ I' 5 3 = nI 1 ∧ I' 4 2 = I 4 2 ∧ I' 7 2 = I 7 2) ∧
  (∀ u, u < 2 → I (9 + 3 * u) 3 = nI 1 → I' (9 + 3 * u) 3 = nI 1 ∧ ∀ x, I' (11 + 3 * u) x = I (11 + 3 * u) x)
theorem x_Z.r {p : Nat → Nat → Prop} {L : LH} {I : MI} (hS : x_Sh L) : x_Z p L I L I := ⟨Nat.le_refl _, Nat.le_refl _, fun _ _ _ _ => rfl, fun h1 h2 => ⟨x_ex.r hS, fun _ _ _ _ => rfl, h1, h2, rfl, rfl⟩, fun _ _ h => ⟨h, fun _ => rfl⟩⟩
theorem x_Z.t {p : Nat → Nat → Prop} {L L1 L2 : LH} {I I1 I2 : MI} (h : x_Z p L I L1 I1) (h2 : x_Z p L1 I1 L2 I2) : x_Z p L I L2 I2 := by
  obtain ⟨a1, a2, a3, a4, a5⟩ := h
  obtain ⟨b1, b2, b3, b4, b5⟩ := h2
  refine ⟨Nat.le_trans a1 b1, Nat.le_trans b2 a2, fun a x ha hp => (b3 a x ha hp).trans (a3 a x ha hp), fun q1 q2 => ?_, fun u hu q => ?_⟩
  · obtain ⟨c1, c2, c3, c4, c5, c6⟩ := a4 q1 q2
    obtain ⟨d1, d2, d3, d4, d5, d6⟩ := b4 c3 c4
    exact ⟨c1.t d1, fun a x h1 h2 => (d2 a x h1 (Nat.lt_of_lt_of_le h2 a1)).trans (c2 a x h1 h2), d3, d4, d5.trans c5, d6.trans c6⟩
  · obtain ⟨c1, c2⟩ := a5 u hu q
    obtain ⟨d1, d2⟩ := b5 u hu c1
    exact ⟨d1, fun x => (d2 x).trans (c2 x)⟩
theorem x_Z.m {p q : Nat → Nat → Prop} {L L' : LH} {I I' : MI} (h : x_Z p L I L' I') (hpq : ∀ a x, p a x → q a x) : x_Z q L I L' I' := ⟨h.1, h.2.1, fun a x ha hq => h.2.2.1 a x ha (fun z => hq (hpq a x z)), h.2.2.2⟩
/-- ints alone, none of the texts' -/
theorem x_Z.f {p : Nat → Nat → Prop} {L : LH} {I I' : MI} (hS : x_Sh L) (h : ∀ a x, ¬ p a x → I' a x = I a x) (hp : ∀ a x, p a x → a < 113 ∧ ¬ (a = 2 ∨ a = 5 ∨ a = 9 ∨ a = 12 ∨ a = 11 ∨ a = 14 ∨ a = 4 ∨ a = 7)) : x_Z p L I L I' := by
  have e : ∀ a x, (a = 2 ∨ a = 5 ∨ a = 9 ∨ a = 12 ∨ a = 11 ∨ a = 14 ∨ a = 4 ∨ a = 7) → I' a x = I a x := fun a x ha => h a x (fun q => (hp a x q).2 ha)
  have hpo : x_po I' = x_po I := x_po_f (fun j hj => e j 3 (by omega))
  refine ⟨Nat.le_refl _, by omega, fun a x _ => h a x, fun q1 q2 => ⟨x_ex.r hS, fun a x ha _ => h a x (fun q => by have := (hp a x q).1; omega), (e _ _ (by decide)).trans q1, (e _ _ (by decide)).trans q2, e _ _ (by decide), e _ _ (by decide)⟩, fun u hu q => ⟨(e _ _ (by omega)).trans q, fun x => e _ _ (by omega)⟩⟩
theorem c_tp_good {y : Nat → Nat} {T : Nat} : ∀ m n, (c_tp y T m n).2 = 0 ∨ ∀ i, n ≤ i → i < (c_tp y T m n).2 → c_g y T (4 * i) = 3
  | 0, n => Or.inl rfl
  | m + 1, n => by
    have h := c_tp_good (y := y) (T := T) m (n + 1)
    have hg3 : c_g y T (4 * n) ≤ 3 := by
      unfold c_g
      repeat' split
      all_goals omega
    unfold c_tp
    split
    · exact Or.inl rfl
    · next q =>
      have hg : c_g y T (4 * n) = 3 := by omega
      split
      · refine Or.inr fun i h1 h2 => ?_
        have h2 : i < n + 1 := h2
        obtain rfl : i = n := by omega
        exact hg
      · split
        · rcases h with z | z
          · exact Or.inl z
          · refine Or.inr fun i h1 h2 => ?_
            by_cases qi : i = n
            · subst qi; exact hg
            · exact z i (by omega) h2
        · exact Or.inl rfl
theorem c_te_good {y : Nat → Nat} {T : Nat} : ∀ i, i < (c_te y T).2 → c_g y T (4 * i) = 3 := by
  intro i hi
  unfold c_te at hi
  split at hi
  · exact absurd hi (Nat.not_lt_zero _)
  · rcases c_tp_good (y := y) (T := T) 9 0 with z | z
    · rw [z] at hi; exact absurd hi (Nat.not_lt_zero _)
    · exact z i (Nat.zero_le _) hi
theorem c_g_3 {y : Nat → Nat} {T a : Nat} (h : c_g y T a = 3) : c_so (y a) < 3 ∧ (49 ≤ y (a + 1) ∧ y (a + 1) ≤ 57) ∧ (49 ≤ y (a + 2) ∧ y (a + 2) ≤ 57) := by
  unfold c_g at h
  split at h
  · next q =>
    split at h
    · next q1 =>
      split at h
      · next q2 => exact ⟨q.2, of_decide_eq_true q1.2, of_decide_eq_true q2.2⟩
      · omega
    · omega
  · omega
theorem c_to_p {P : CF} {t i : Nat} (hi : i < 8) : c_to P 1 (8 * t + i) = min (c_so (p_y P t (4 * i))) 2 ∧ c_to P 2 (8 * t + i) = min (p_y P t (4 * i + 1) - 48) 9 ∧ c_to P 3 (8 * t + i) = min (p_y P t (4 * i + 2) - 48) 9 := by
  have e1 : (8 * t + i) / 8 = t := by omega
  have e2 : (8 * t + i) % 8 = i := by omega
  refine ⟨?_, ?_, ?_⟩
  · show min (c_so (p_y P ((8 * t + i) / 8) (4 * ((8 * t + i) % 8)))) 2 = _
    rw [e1, e2]
  · show min (p_y P ((8 * t + i) / 8) (4 * ((8 * t + i) % 8) + 1) - 48) 9 = _
    rw [e1, e2]
  · show min (p_y P ((8 * t + i) / 8) (4 * ((8 * t + i) % 8) + 2) - 48) 9 = _
    rw [e1, e2]
section World
variable {P C : CF} {Q : Nat → Int32} {L : LH} {I : MI}
theorem x_Sh.tm (hS : x_Sh L) {t : Nat} (ht : t < 2) : x_tm L (2 + 3 * t) := by
  have h := hS.1
  have r := hS.2.1
  rcases (show t = 0 ∨ t = 1 by omega) with q | q <;> subst q
  · exact ⟨(h 2 (by decide)).1, ⟨Or.inl (h 2 (by decide)).1, r 2 0 3 rfl, (h 3 (by decide)).1, (h 3 (by decide)).2⟩, r 2 5 4 rfl, (h 4 (by decide)).1⟩
  · exact ⟨(h 5 (by decide)).1, ⟨Or.inl (h 5 (by decide)).1, r 5 0 6 rfl, (h 6 (by decide)).1, (h 6 (by decide)).2⟩, r 5 5 7 rfl, (h 7 (by decide)).1⟩
theorem x_Sh.ck (hS : x_Sh L) {u : Nat} (hu : u < 2) : x_ck3 L (9 + 3 * u) := by
  have h := hS.1
  have r := hS.2.1
  rcases (show u = 0 ∨ u = 1 by omega) with q | q <;> subst q
  · exact ⟨(h 9 (by decide)).1, ⟨Or.inr (h 9 (by decide)).1, r 9 0 10 rfl, (h 10 (by decide)).1, (h 10 (by decide)).2⟩, r 9 5 11 rfl, (h 11 (by decide)).1, (h 11 (by decide)).2⟩
  · exact ⟨(h 12 (by decide)).1, ⟨Or.inr (h 12 (by decide)).1, r 12 0 13 rfl, (h 13 (by decide)).1, (h 13 (by decide)).2⟩, r 12 5 14 rfl, (h 14 (by decide)).1, (h 14 (by decide)).2⟩
theorem x_C.tl (h : x_C P C L I) {t : Nat} (ht : t < 2) : x_TL P C L I t := by
  rcases (show t = 0 ∨ t = 1 by omega) with q | q <;> subst q
  · exact h.2.1.1
  · exact h.2.1.2
theorem x_C.cl (h : x_C P C L I) {u : Nat} (hu : u < 2) : x_CL P C I u := by
  rcases (show u = 0 ∨ u = 1 by omega) with q | q <;> subst q
  · exact h.2.2.1.1
  · exact h.2.2.1.2
theorem x_CL.f {I' : MI} {u : Nat} (h : x_CL P C I u) (h1 : ∀ x, I' (9 + 3 * u) x = I (9 + 3 * u) x) (h2 : ∀ x, I' (11 + 3 * u) x = I (11 + 3 * u) x) : x_CL P C I' u := by
  rcases h with ⟨a1, a2, a3, a4⟩ | ⟨a1, a2⟩
  · exact Or.inl ⟨(h1 3).trans a1, fun b hb => (h2 b).trans (a2 b hb), (h1 6).trans a3, (h1 4).trans a4⟩
  · exact Or.inr ⟨(h1 3).trans a1, a2⟩
/-- a text that has been read is read once more -/
theorem x_rd1 {j : Nat} (hk : lh_k L j = 2 ∨ lh_k L j = 3) (h : I j 3 = nI 1) : f_X1_read j (lh_wI L I) = some (I j 4, lh_wI L I, 0, 0) := by
  unfold f_X1_read f_X1_read_15
  rw [x_tI hk, h, if_neg (by decide), x_tpI hk, fw_u2_id I h, x_tI hk]
theorem x_rd0 {j : Nat} {v : Int32} {L' : LH} {I' : MI} (hk : lh_k L j = 2 ∨ lh_k L j = 3) (hk' : lh_k L' j = 2 ∨ lh_k L' j = 3) (h : I j 3 = nI 0) (hr : x_ev (lh_z L) (f_X1_reads j (lh_wI L I)) v (lh_wI L' I')) : x_ev (lh_z L) (f_X1_read j (lh_wI L I)) v (lh_wI L' (fw_u2 (fw_u2 I' j 4 v) j 3 (nI 1))) := by
  unfold f_X1_read f_X1_read_15
  have htd : fw_td (lh_wI L I) j (f_X1_reads j (lh_wI L I)) (f_X1_reads j (lh_wI L I)) = f_X1_reads j (lh_wI L I) := by
    unfold fw_td
    rcases hk with q | q
    · exact if_pos q
    · rw [if_neg (by show ¬ lh_k L j = 2; omega)]
      exact if_pos q
  rw [x_tI hk, h, if_pos nI_0, htd]
  refine x_ev.cl hr (x_ev.of ?_ rfl)
  rw [x_tpI hk', x_tpI hk', x_tI hk', fw_u2_ne _ _ (by omega), fw_u2_self]
theorem x_rC (hB : p_B P) (hW : x_W P Q L I) (hC : x_C P C L I) (hz : lh_z L + x_po I + 50 < fw_RO) {u : Nat} (hu : u < 2) : ∃ L' I', x_ev (lh_z L) (f_X1_read (9 + 3 * u) (lh_wI L I)) (c_fa P (u + 2)) (lh_wI L' I') ∧ x_W P Q L' I' ∧ x_C P C L' I' ∧ x_Z x_vr L I L' I' ∧ I' (9 + 3 * u) 3 = nI 1 := by
  have hS := hW.1
  have hck := hS.ck hu
  have h113 := hS.2.2.1
  rcases hC.cl hu with ⟨a1, a2, a3, a4⟩ | ⟨a1, a2⟩
  · exact ⟨L, I, x_ev.of (by rw [x_rd1 (Or.inr hck.1) a1, a4]) rfl, hW, hC, x_Z.r hS, a1⟩
  · have hTt := hW.2.1 (u + 2) (by omega)
    have eti : x_ti (u + 2) = 9 + 3 * u := by unfold x_ti; rw [if_neg (by omega)]; omega
    rw [eti] at hTt
    have hT24 := hB.1 (u + 2)
    rw [if_neg (by omega)] at hT24
    obtain ⟨L', I', c, s, e1, e2, e3, e4, e5, e6, e7, e8⟩ := x_rd3 (y := p_y P (u + 2)) hS (by omega) hck hT24 hTt.1 (fun i hi => hTt.2 i hi) (fun i => Nat.lt_succ_of_le (hB.2.1 _))
    have hS' := hS.x e5
    have hck' := hck.x hS e5
    have efa : (if c_cf (p_y P (u + 2)) (P 0 (u + 2)) = P 0 (u + 2) then -nI 1 else nI (c_cf (p_y P (u + 2)) (P 0 (u + 2)))) = c_fa P (u + 2) := by unfold c_fa; rw [if_neg (show ¬ u + 2 < 2 by omega)]
    have ema : (if c_cf (p_y P (u + 2)) (P 0 (u + 2)) = P 0 (u + 2) then P 0 (u + 2) else 0) = c_ma P (u + 2) := by unfold c_ma; rw [if_neg (show ¬ u + 2 < 2 by omega)]
    rw [efa] at e1
    rw [ema] at e7
    have er := x_rd0 (Or.inr hck.1) (Or.inr hck'.1) a1 ⟨c, s, e1, e4, e3⟩
    generalize hJ : fw_u2 (fw_u2 I' (9 + 3 * u) 4 (c_fa P (u + 2))) (9 + 3 * u) 3 (nI 1) = J at er
    have j1 : ∀ a x, a ≠ 9 + 3 * u → J a x = I' a x := fun a x ha => by rw [← hJ, fw_u2_ne _ _ (by omega), fw_u2_ne _ _ (by omega)]
    have j3 : J (9 + 3 * u) 3 = nI 1 := by rw [← hJ, fw_u2_self]
    have j4 : J (9 + 3 * u) 4 = c_fa P (u + 2) := by rw [← hJ, fw_u2_ne _ _ (by omega), fw_u2_self]
    have j6 : J (9 + 3 * u) 6 = nI (c_ma P (u + 2)) := by rw [← hJ, fw_u2_ne _ _ (by omega), fw_u2_ne _ _ (by omega)]; exact e7
    have jI : ∀ a x, a < lh_z L → a ≠ 11 + 3 * u → ¬ (a = 9 + 3 * u ∧ x ≠ 1) → J a x = I a x := fun a x ha h1 h2 => by
      rw [← hJ, fw_u2_ne _ _ (fun q => h2 ⟨q.1, by omega⟩), fw_u2_ne _ _ (fun q => h2 ⟨q.1, by omega⟩)]
      exact e6 a x ha (by omega) h2
    have jb : ∀ b, b < 24 → J (11 + 3 * u) b = nI (C 4 (24 * u + b)) := fun b hb => by
      rw [j1 _ _ (by omega), show 11 + 3 * u = 9 + 3 * u + 2 by omega, e8 b hb, a2 b hb]
      unfold c_cl
      by_cases q : c_cf (p_y P (u + 2)) (P 0 (u + 2)) = P 0 (u + 2) ∧ b < P 0 (u + 2)
      · rw [if_pos q, if_pos q]
        have : c_co (p_y P (u + 2) b) < 3 := by
          rcases Nat.lt_or_ge (c_co (p_y P (u + 2) b)) 3 with z | z
          · exact z
          · exfalso
            have key : ∀ T, b < T → c_cf (p_y P (u + 2)) T ≤ b := by
              intro T
              induction T with
              | zero => intro h; omega
              | succ T ih =>
                intro h
                unfold c_cf
                by_cases qb : b < T
                · have := ih qb
                  rw [if_pos (by omega)]
                  exact this
                · obtain rfl : b = T := by omega
                  split
                  · omega
                  · rw [if_neg (by omega)]
                    exact Nat.le_refl _
            have := key _ q.2
            omega
        rw [Nat.min_eq_left (by omega)]
      · rw [if_neg q, if_neg q]
    have hR : ∀ j x, j < lh_z L → lh_R L' j x = lh_R L j x := fun j x hj => (e5.2.1 j hj).2.2 x
    have hkk : ∀ j, j < lh_z L → lh_k L' j = lh_k L j ∧ lh_n L' j = lh_n L j := fun j hj => ⟨(e5.2.1 j hj).1, (e5.2.1 j hj).2.1⟩
    have hLd : x_Ld L' := fun l l' d h1 h2 h3 h4 h5 => hW.2.2.2.2.2.2.2 l l' d h1 h2 (by rw [← hR l 1 (by omega)]; exact h3) (by rw [← hR l' 1 (by omega)]; exact h4) h5
    have hTL : ∀ t, t < 2 → x_TL P C L' J t := fun t ht => (hC.tl ht).go hS (fun x => jI _ x (by omega) (by omega) (by omega)) (jI _ 2 (by omega) (by omega) (by omega)) hkk (hR _ 1 (by omega)) (fun d x _ hd _ => hR d x hd) (fun p x hp hk6 => by
      have hpz := x_lt hS (show lh_k L p ≠ 0 by rw [hk6]; decide)
      exact ⟨hR p x hpz, jI p x hpz (by omega) (by omega)⟩)
    have hCL : ∀ v, v < 2 → x_CL P C J v := fun v hv => by
      by_cases q : v = u
      · subst q; exact Or.inl ⟨j3, jb, j6, j4⟩
      · exact (hC.cl hv).f (fun x => jI _ x (by omega) (by omega) (by omega)) (fun x => jI _ x (by omega) (by omega) (by omega))
    refine ⟨L', J, er, hW.go hS' hkk (fun j x hj _ => hR j x hj) (fun j x hj hfp => jI j x hj (by omega) (by omega)) hLd, ⟨hC.1, ⟨hTL 0 (by decide), hTL 1 (by decide)⟩, ⟨hCL 0 (by decide), hCL 1 (by decide)⟩, ?_, ?_⟩, ⟨e5.1, ?_, fun a x ha hp => jI a x (by omega) (by omega) (by omega), fun q1 q2 => ⟨e5, fun a x h1 h2 => jI a x h2 (by omega) (by omega), ?_, ?_, ?_, ?_⟩, fun v hv q => ?_⟩, j3⟩
    · intro e he
      rw [jI 0 16 (by omega) (by omega) (by omega)]
      exact hC.2.2.2.1 e he
    · intro k hk
      rw [jI 0 17 (by omega) (by omega) (by omega)]
      exact hC.2.2.2.2 k hk
    · have hpo : x_po J + 5 ≤ x_po I := by
        unfold x_po
        rw [jI 2 3 (by omega) (by omega) (by omega), jI 5 3 (by omega) (by omega) (by omega)]
        rcases (show u = 0 ∨ u = 1 by omega) with q | q <;> subst q
        · rw [j3, jI 12 3 (by omega) (by omega) (by omega), if_pos rfl, show I (9 + 3 * 0) 3 = I 9 3 from rfl] at *
          rw [a1, if_neg (show ¬ nI 0 = nI 1 by decide)]
          omega
        · have e12 : J 12 3 = nI 1 := j3
          have f12 : I 12 3 = nI 0 := a1
          rw [e12, f12, jI 9 3 (by omega) (by omega) (by omega), if_pos rfl, if_neg (show ¬ nI 0 = nI 1 by decide)]
          omega
      omega
    · rw [jI 2 3 (by omega) (by omega) (by omega)]; exact q1
    · rw [jI 5 3 (by omega) (by omega) (by omega)]; exact q2
    · exact jI 4 2 (by omega) (by omega) (by omega)
    · exact jI 7 2 (by omega) (by omega) (by omega)
    · by_cases z : v = u
      · subst z
        rw [q] at a1
        exact absurd a1 (by decide)
      · rw [jI _ _ (by omega) (by omega) (by omega)]
        exact ⟨q, fun x => jI _ x (by omega) (by omega) (by omega)⟩
theorem x_rT (hB : p_B P) (hW : x_W P Q L I) (hC : x_C P C L I) (hz : lh_z L + x_po I + 50 < fw_RO) {t : Nat} (ht : t < 2) : ∃ L' I', x_ev (lh_z L) (f_X1_read (2 + 3 * t) (lh_wI L I)) (c_fa P t) (lh_wI L' I') ∧ x_W P Q L' I' ∧ x_C P C L' I' ∧ x_Z x_vr L I L' I' ∧ x_PU C L' I' t ∧ (∀ t', t' < 2 → I (2 + 3 * t') 3 = nI 1 → I' (2 + 3 * t') 3 = nI 1) := by
  have hS := hW.1
  have htm := hS.tm ht
  have h113 := hS.2.2.1
  have hLd := hW.2.2.2.2.2.2.2
  have htl := hC.tl ht
  rcases htl with ⟨⟨m, a1, a2, a3⟩, ⟨b1, b2⟩ | ⟨b1, b2, b3⟩⟩
  · exact ⟨L, I, x_ev.of (by rw [x_rd1 (Or.inl htm.1) b1.1, b2]) rfl, hW, hC, x_Z.r hS, b1, fun _ _ q => q⟩
  · have hTt := hW.2.1 t (by omega)
    have eti : x_ti t = 2 + 3 * t := if_pos ht
    rw [eti] at hTt
    have hT31 := hB.1 t
    rw [if_pos ht] at hT31
    obtain ⟨L', I', er, ef, ez, es⟩ := x_rdT (y := p_y P t) (by omega) hS htm hT31 hTt.1 (fun i hi => hTt.2 i hi) (fun i => Nat.lt_succ_of_le (hB.2.1 _)) (by rw [show 2 + 3 * t + 2 = 4 + 3 * t by omega]; exact a2) a1 (by rw [show 2 + 3 * t + 2 = 4 + 3 * t by omega]; exact a3) (by omega)
    have efa : (c_te (p_y P t) (P 0 t)).1 = c_fa P t := (if_pos ht).symm
    have ema : (c_te (p_y P t) (P 0 t)).2 = c_ma P t := (if_pos ht).symm
    have hgood : ∀ i, i < c_ma P t → c_g (p_y P t) (P 0 t) (4 * i) = 3 := fun i hi => c_te_good i (by rw [ema]; exact hi)
    have hle8 : c_ma P t ≤ 8 := by rw [← ema]; exact c_te_le hT31
    rw [efa] at er
    rw [ema] at es
    have hS' := ef.Sh (by omega) hS
    have htm' := ef.tm (by omega) hS htm
    have er := x_rd0 (Or.inl htm.1) (Or.inl htm'.1) b1 er
    generalize hJ : fw_u2 (fw_u2 I' (2 + 3 * t) 4 (c_fa P t)) (2 + 3 * t) 3 (nI 1) = J at er
    have j1 : ∀ a x, a ≠ 2 + 3 * t → J a x = I' a x := fun a x ha => by rw [← hJ, fw_u2_ne _ _ (by omega), fw_u2_ne _ _ (by omega)]
    have j3 : J (2 + 3 * t) 3 = nI 1 := by rw [← hJ, fw_u2_self]
    have j4 : J (2 + 3 * t) 4 = c_fa P t := by rw [← hJ, fw_u2_ne _ _ (by omega), fw_u2_self]
    have jI : ∀ a x, a < lh_z L → a ≠ 4 + 3 * t → ¬ (a = 2 + 3 * t ∧ x ≠ 1) → J a x = I a x := fun a x ha h1 h2 => by
      rw [← hJ, fw_u2_ne _ _ (fun q => h2 ⟨q.1, by omega⟩), fw_u2_ne _ _ (fun q => h2 ⟨q.1, by omega⟩)]
      exact ef.2.2.2.2.1 a x ha (by omega) h2
    have hR : ∀ j x, j < lh_z L → ¬ (j = 4 + 3 * t ∧ x = 1) → ¬ (113 ≤ j ∧ lh_R L (4 + 3 * t) 1 = some j) → lh_R L' j x = lh_R L j x := fun j x hj h1 h2 => ef.2.2.2.1 j x hj (by omega) (fun q => h2 ⟨q.1, by rw [← show 2 + 3 * t + 2 = 4 + 3 * t by omega]; exact q.2⟩)
    have hRn : ∀ d, lh_R L' (4 + 3 * t) 1 = some d → d < fw_RO → lh_R L (4 + 3 * t) 1 = some d ∨ lh_z L ≤ d := fun d hd hd2 => by
      have := ef.2.2.2.2.2 d (by rw [show 2 + 3 * t + 2 = 4 + 3 * t by omega]; exact hd) hd2
      rw [show 2 + 3 * t + 2 = 4 + 3 * t by omega] at this
      exact this
    have hls : x_ls (4 + 3 * t) := by omega
    have hRl : ∀ l, x_ls l → l ≠ 4 + 3 * t → lh_R L' l 1 = lh_R L l 1 := fun l hl hne => hR l 1 (by omega) (by omega) (by omega)
    -- a list's array lies below
    have hlow : ∀ l d, x_ls l → l ≠ 4 + 3 * t → lh_R L l 1 = some d → d < fw_RO → d < lh_z L := by
      intro l d hl hne hd hdr
      have hli : ∃ n, x_Li L l n := by
        rcases hl with q | q | q | q
        · obtain ⟨⟨m, _, _, z⟩, _⟩ := hC.2.1.1; subst q; exact ⟨m, z⟩
        · obtain ⟨⟨m, _, _, z⟩, _⟩ := hC.2.1.2; subst q; exact ⟨m, z⟩
        · subst q; exact ⟨_, hW.2.2.2.1.2.1⟩
        · subst q; exact ⟨_, hW.2.2.2.2.1.2.1⟩
      obtain ⟨n, z | ⟨d', z1, z2, z3, z4⟩⟩ := hli
      · rw [z.1] at hd
        have := Option.some.inj hd
        omega
      · rw [z1] at hd
        obtain rfl := Option.some.inj hd
        exact x_lt hS (by rw [z3]; decide)
    have hLd' : x_Ld L' := by
      intro l l' d h1 h2 h3 h4 h5
      by_cases q1 : l = 4 + 3 * t
      · by_cases q2 : l' = 4 + 3 * t
        · rw [q1, q2]
        · rw [hRl l' h2 q2] at h4
          rw [q1] at h3
          rcases hRn d h3 h5 with z | z
          · rw [q1]; exact hLd _ _ d hls h2 z h4 h5
          · have := hlow l' d h2 q2 h4 h5
            omega
      · rw [hRl l h1 q1] at h3
        by_cases q2 : l' = 4 + 3 * t
        · rw [q2] at h4
          rcases hRn d h4 h5 with z | z
          · rw [q2]; exact hLd _ _ d h1 hls h3 z h5
          · have := hlow l d h1 q1 h3 h5
            omega
        · rw [hRl l' h2 q2] at h4
          exact hLd l l' d h1 h2 h3 h4 h5
    have hRk : ∀ j x, j < lh_z L → lh_k L j ≠ 105 → ¬ (j = 4 + 3 * t ∧ x = 1) → lh_R L' j x = lh_R L j x := fun j x hj hk h1 => hR j x hj h1 (fun q => by
      rcases a3 with ⟨z1, z2⟩ | ⟨d, z1, z2, z3, z4⟩
      · rw [z1] at q
        have := Option.some.inj q.2
        omega
      · rw [z1] at q
        have := Option.some.inj q.2
        rw [this] at z3
        exact hk z3)
    have hWr : ∀ j x, j < lh_z L → x_fr L j x → lh_R L' j x = lh_R L j x := fun j x hj hfr => hR j x hj (by omega) (fun q => by
      rcases hfr with z | z | ⟨z1, z2 | z2⟩
      · omega
      · omega
      · have := hLd _ _ j hls (show x_ls 16 by omega) q.2 z2 (by omega)
        omega
      · have := hLd _ _ j hls (show x_ls 95 by omega) q.2 z2 (by omega)
        omega)
    have hPU : x_PU C L' J t := by
      refine ⟨j3, ?_, fun i hi => ?_⟩
      · rw [j1 _ _ (by omega), show 4 + 3 * t = 2 + 3 * t + 2 by omega, es.1, b2]
      · rw [b2] at hi
        obtain ⟨p, p1, p2, p3, p4, p5, p6⟩ := es.2.2 i hi
        obtain ⟨g1, g2, g3⟩ := c_g_3 (hgood i hi)
        obtain ⟨k1, k2, k3⟩ := c_to_p (P := P) (t := t) (i := i) (by omega)
        obtain ⟨c1, c2, c3⟩ := b3 i (by rw [b2]; exact hi)
        rw [show 2 + 3 * t + 2 = 4 + 3 * t by omega] at p1
        refine ⟨p, p1, p2, p3, ?_, ?_, ?_⟩
        · rw [p4, c1, k1, Nat.min_eq_left (by omega)]
        · rw [j1 _ _ (by omega), p5, c2, k2, Nat.min_eq_left (by omega)]
        · rw [j1 _ _ (by omega), p6, c3, k3, Nat.min_eq_left (by omega)]
    have hTL : ∀ t', t' < 2 → x_TL P C L' J t' := fun t' ht' => by
      by_cases q : t' = t
      · subst q
        have e22 : 2 + 3 * t' + 2 = 4 + 3 * t' := by omega
        have hli := es.2.1
        rw [e22] at hli
        refine ⟨⟨c_ma P t', hle8, ?_, hli⟩, Or.inl ⟨hPU, j4⟩⟩
        rw [j1 _ _ (by omega), ← e22]
        exact es.1
      · have hne : 4 + 3 * t' ≠ 4 + 3 * t := by omega
        refine (hC.tl ht').go hS (fun x => jI _ x (by omega) (by omega) (by omega)) (jI _ 2 (by omega) (by omega) (by omega)) ef.2.1 (hRl _ (by omega) hne) (fun d x hd1 hd2 hd3 => hR d x hd2 (by omega) (fun z => by
          have := hLd _ _ d hls (show x_ls (4 + 3 * t') by omega) z.2 hd3 (by omega)
          omega)) (fun p x hp hk6 => ?_)
        have hpz := x_lt hS (show lh_k L p ≠ 0 by rw [hk6]; decide)
        exact ⟨hRk p x hpz (by rw [hk6]; decide) (by omega), jI p x hpz (by omega) (by omega)⟩
    have hCL : ∀ v, v < 2 → x_CL P C J v := fun v hv => (hC.cl hv).f (fun x => jI _ x (by omega) (by omega) (by omega)) (fun x => jI _ x (by omega) (by omega) (by omega))
    refine ⟨L', J, er, hW.go hS' ef.2.1 hWr (fun j x hj hfp => jI j x hj (by omega) (by omega)) hLd', ⟨hC.1, ⟨hTL 0 (by decide), hTL 1 (by decide)⟩, ⟨hCL 0 (by decide), hCL 1 (by decide)⟩, ?_, ?_⟩, ⟨ef.1, ?_, fun a x ha hp => jI a x (by omega) (by omega) (by omega), fun q1 q2 => ?_, fun v hv q => ?_⟩, hPU, fun t' ht' q => ?_⟩
    · intro e he
      rw [jI 0 16 (by omega) (by omega) (by omega)]
      exact hC.2.2.2.1 e he
    · intro k hk
      rw [jI 0 17 (by omega) (by omega) (by omega)]
      exact hC.2.2.2.2 k hk
    · have hpo : x_po J + 25 ≤ x_po I := by
        unfold x_po
        rw [jI 9 3 (by omega) (by omega) (by omega), jI 12 3 (by omega) (by omega) (by omega)]
        rcases (show t = 0 ∨ t = 1 by omega) with q | q
        · subst q
          have e1 : J 2 3 = nI 1 := j3
          have e2 : I 2 3 = nI 0 := b1
          rw [e1, e2, jI 5 3 (by omega) (by omega) (by omega), if_pos rfl, if_neg (show ¬ nI 0 = nI 1 by decide)]
          omega
        · subst q
          have e1 : J 5 3 = nI 1 := j3
          have e2 : I 5 3 = nI 0 := b1
          rw [e1, e2, jI 2 3 (by omega) (by omega) (by omega), if_pos rfl, if_neg (show ¬ nI 0 = nI 1 by decide)]
          omega
      omega
    · exfalso
      rcases (show t = 0 ∨ t = 1 by omega) with q | q
      · subst q
        have e2 : I 2 3 = nI 0 := b1
        rw [e2] at q1
        exact absurd q1 (by decide)
      · subst q
        have e2 : I 5 3 = nI 0 := b1
        rw [e2] at q2
        exact absurd q2 (by decide)
    · rw [jI _ _ (by omega) (by omega) (by omega)]
      exact ⟨q, fun x => jI _ x (by omega) (by omega) (by omega)⟩
    · by_cases z : t' = t
      · subst z; exact j3
      · rw [jI _ _ (by omega) (by omega) (by omega)]; exact q
end World
