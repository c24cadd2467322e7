set_option maxRecDepth 100000
/-! The component's lists: clear, add. What a run costs. -/
/-- a run ends with v over M; each new cell is counted, ten slots a cell at most -/
def x_ev {α : Type} (z : Nat) (o : Rs α) (v : α) (M : LH) : Prop := ∃ c s, o = some (v, M, c, s) ∧ lh_z M = z + c ∧ s ≤ 10 * c
theorem x_ev.of {α : Type} {z : Nat} {o : Rs α} {v : α} {M : LH} (h : o = some (v, M, 0, 0)) (hz : lh_z M = z) : x_ev z o v M := ⟨0, 0, h, hz, Nat.le_refl _⟩
theorem x_ev.cl {α β : Type} {z : Nat} {f : Rs α} {v : α} {M1 M2 : LH} {k : α → LH → Rs β} {b : β} (h1 : x_ev z f v M1) (h2 : x_ev (lh_z M1) (k v M1) b M2) : x_ev z (fw_cl f k) b M2 := by
  obtain ⟨c, s, rfl, a2, a3⟩ := h1
  obtain ⟨c2, s2, b1, b2, b3⟩ := h2
  exact ⟨c + c2, s + s2, x_clx b1, by omega, by omega⟩
theorem x_ev.cxi {α β : Type} {z : Nat} {f : Rs (α ⊕ XO)} {v : α} {M1 M2 : LH} {kx : XO → LH → Rs β} {k : α → LH → Rs β} {b : β} (h1 : x_ev z f (.inl v) M1) (h2 : x_ev (lh_z M1) (k v M1) b M2) : x_ev z (fw_cx f kx k) b M2 := by
  obtain ⟨c, s, rfl, a2, a3⟩ := h1
  obtain ⟨c2, s2, b1, b2, b3⟩ := h2
  exact ⟨c + c2, s + s2, x_cxi b1, by omega, by omega⟩
theorem x_ev.cxr {α β : Type} {z : Nat} {f : Rs (α ⊕ XO)} {x : XO} {M1 M2 : LH} {kx : XO → LH → Rs β} {k : α → LH → Rs β} {b : β} (h1 : x_ev z f (.inr x) M1) (h2 : x_ev (lh_z M1) (kx x M1) b M2) : x_ev z (fw_cx f kx k) b M2 := by
  obtain ⟨c, s, rfl, a2, a3⟩ := h1
  obtain ⟨c2, s2, b1, b2, b3⟩ := h2
  exact ⟨c + c2, s + s2, x_cxr b1, by omega, by omega⟩
theorem x_ev.nw {β : Type} {L : LH} {c n : Nat} {k : Nat → LH → Rs β} {b : β} {M : LH} (hz : lh_z L + 1 < fw_RO) (hn : n ≤ 10) (h : x_ev (lh_z L + 1) (k (lh_z L) (lh_new L c 0)) b M) : x_ev (lh_z L) (fw_nw c n L k) b M := by
  obtain ⟨c2, s2, b1, b2, b3⟩ := h
  exact ⟨1 + c2, n + s2, x_nwx hz b1, by omega, by omega⟩
theorem x_ev.na {β : Type} {L : LH} {c n : Nat} {k : Nat → LH → Rs β} {b : β} {M : LH} (hz : lh_z L + 1 < fw_RO) (hn : n ≤ 10) (h : x_ev (lh_z L + 1) (k (lh_z L) (lh_new L c n)) b M) : x_ev (lh_z L) (fw_na c (nI n) L k) b M := by
  obtain ⟨c2, s2, b1, b2, b3⟩ := h
  refine ⟨1 + c2, n + s2, ?_, by omega, by omega⟩
  unfold fw_na
  rw [nI_clamp (by omega), if_pos ⟨hz, nI_pos (by omega), by omega⟩, b1]
/-- references are written -/
def lh_wR (L : LH) (R : Nat → Nat → Option Nat) : LH := (lh_k L, lh_I L, R, lh_n L, lh_z L)
section Ls
variable {L : LH} {I : MI} {l n : Nat}
theorem x_lI (hk : lh_k L l = 5) {β : Type} {s : Nat} {k : Int32 → Rs β} : fw_gI 5 (lh_wI L I) l s k = k (I l s) := if_pos hk
theorem x_lR (hk : lh_k L l = 5) {β : Type} {k : Option Nat → Rs β} : fw_gR 5 (lh_wI L I) l 1 k = k (lh_R L l 1) := if_pos hk
theorem x_lp (hk : lh_k L l = 5) {β : Type} {s : Nat} {v : Int32} {k : LH → Rs β} : fw_pI 5 (lh_wI L I) l s v k = k (lh_wI L (fw_u2 I l s v)) := if_pos hk
theorem x_lis (hk : lh_k L l = 5) {β : Type} {k : Rs β} : fw_is 5 (lh_wI L I) l k = k := if_pos hk
theorem x_wqa {d i : Nat} {v : Option Nat} (hk : lh_k L d = 105) (hn : i < lh_n L d) (hi : i < 1000) (hv : fw_aov 5 L v = true) {β : Type} {k : LH → Rs β} : fw_wqa 5 (lh_wI L I) d (nI i) v k = k (lh_wI (lh_wR L (fw_u2 (lh_R L) d i v)) I) := by
  unfold fw_wqa
  rw [nI_clamp (by omega), if_pos ⟨⟨hk, fun q => by
    rcases q with q | q
    · exact nI_pos (by omega) q
    · exact absurd hn (by show ¬ i < lh_n L d; exact Nat.not_lt.mpr q)⟩, hv⟩]
  rfl
theorem x_clr27 {d m : Nat} (hk : lh_k L d = 105) (hn : m ≤ lh_n L d) (hm : m ≤ 900) : ∀ (q i f : Nat), i + q = m → q < f → ∀ R : Nat → Nat → Option Nat, f_J2_clear_27 f (some d) (nI m) (nI i) (lh_wI (lh_wR L R) I) = some ((), lh_wI (lh_wR L (fun a x => if a = d ∧ i ≤ x ∧ x < m then none else R a x)) I, 0, 0) := by
  intro q
  induction q with
  | zero =>
    intro i f hi hf R
    obtain ⟨f, rfl⟩ : ∃ q, f = q + 1 := ⟨f - 1, by omega⟩
    have e : (fun a x => if a = d ∧ i ≤ x ∧ x < m then none else R a x) = R := by
      funext a x
      rw [if_neg (by omega)]
    unfold f_J2_clear_27
    rw [if_pos (nI_le (by omega) (by omega)), e]
  | succ q ih =>
    intro i f hi hf R
    obtain ⟨f, rfl⟩ : ∃ q, f = q + 1 := ⟨f - 1, by omega⟩
    have e : (fun a x => if a = d ∧ i + 1 ≤ x ∧ x < m then none else fw_u2 R d i none a x) = fun a x => if a = d ∧ i ≤ x ∧ x < m then none else R a x := by
      funext a x
      rw [fw_u2_at]
      by_cases z : a = d ∧ x = i
      · rw [if_pos z, ite_self, if_pos (by omega)]
      · rw [if_neg z]
        by_cases z2 : a = d ∧ i + 1 ≤ x ∧ x < m
        · rw [if_pos z2, if_pos (by omega)]
        · rw [if_neg z2, if_neg (by omega)]
    unfold f_J2_clear_27
    rw [if_neg (nI_ge (by omega) (by omega)), x_nn, x_wqa (L := lh_wR L R) hk (show i < lh_n L d by omega) (by omega) rfl, nI_add]
    have := ih (i + 1) f (by omega) (by omega) (fw_u2 R d i none)
    rw [e] at this
    exact this
/-- a list is cleared -/
theorem x_clear {m : Nat} (hk : lh_k L l = 5) (hs : I l 2 = nI m) (hm : m ≤ 8) (hl : x_Li L l m) : ∃ R I', f_J2_clear l (lh_wI L I) = some ((), lh_wI (lh_wR L R) I', 0, 0) ∧ (∀ a x, ¬ (113 ≤ a ∧ lh_R L l 1 = some a) → R a x = lh_R L a x) ∧ (∀ a x, a ≠ l → I' a x = I a x) ∧ I' l 2 = nI 0 := by
  unfold f_J2_clear
  rw [x_lI hk, x_lp hk, x_lR hk, x_lI hk, fw_u2_ne _ _ (by omega), hs, x_lp hk]
  rcases hl with ⟨h1, h2⟩ | ⟨d, h1, h2, h3, h4⟩
  · subst h2
    refine ⟨lh_R L, fw_u2 (fw_u2 I l 0 (I l 0 + nI 1)) l 2 (nI 0), ?_, fun _ _ _ => rfl, fun a x ha => ?_, fw_u2_self _ _ _ _⟩
    · rw [h1]
      unfold fw_fuel f_J2_clear_27
      rw [if_pos (nI_le (Nat.le_refl _) (by decide))]
      rfl
    · rw [fw_u2_ne _ _ (fun q => ha q.1), fw_u2_ne _ _ (fun q => ha q.1)]
  · refine ⟨fun a x => if a = d ∧ 0 ≤ x ∧ x < m then none else lh_R L a x, fw_u2 (fw_u2 I l 0 (I l 0 + nI 1)) l 2 (nI 0), ?_, fun a x ha => ?_, fun a x ha => ?_, fw_u2_self _ _ _ _⟩
    · rw [h1]
      exact x_clr27 h3 (by omega) (by omega) m 0 fw_fuel (by omega) (by unfold fw_fuel; omega) (lh_R L)
    · exact if_neg (fun q => ha ⟨by omega, by rw [q.1]; exact h1⟩)
    · rw [fw_u2_ne _ _ (fun q => ha q.1), fw_u2_ne _ _ (fun q => ha q.1)]
/-- p has been added -/
def x_Ad (L : LH) (I : MI) (l n p : Nat) (L' : LH) (I' : MI) : Prop := ∃ d, lh_R L' l 1 = some d ∧ 113 ≤ d ∧ lh_k L' d = 105 ∧ lh_n L' d = 10 ∧ (lh_R L l 1 = some d ∨ (d = lh_z L ∧ n = 0)) ∧ lh_R L' d n = some p ∧ (∀ x, x ≠ n → 0 < n → lh_R L' d x = lh_R L d x) ∧
  (∀ a x, a < lh_z L → a ≠ d → ¬ (a = l ∧ x = 1) → lh_R L' a x = lh_R L a x) ∧ (∀ a, a < lh_z L → lh_k L' a = lh_k L a ∧ lh_n L' a = lh_n L a) ∧ (∀ a, lh_z L' ≤ a → lh_k L' a = 0) ∧ lh_z L ≤ lh_z L' ∧ lh_z L' ≤ lh_z L + (if n = 0 then 1 else 0) ∧
  (∀ a x, a < lh_z L → a ≠ l → I' a x = I a x) ∧ I' l 2 = nI (n + 1)
theorem x_add {p : Nat} (hS : x_Sh L) (hz : lh_z L + 1 < fw_RO) (hk : lh_k L l = 5) (hs : I l 2 = nI n) (hn : n ≤ 8) (hl : x_Li L l n) (hp : lh_k L p = 6 ∨ lh_k L p = 100) : ∃ L' I', x_ev (lh_z L) (f_J2_add l (some p) (lh_wI L I)) (nI 1) (lh_wI L' I') ∧ x_Ad L I l n p L' I' := by
  have hlz : l < lh_z L := x_lt hS (by rw [hk]; decide)
  have hpz : p < lh_z L := x_lt hS (by omega)
  have hop : ∀ M : LH, lh_k M p = lh_k L p → fw_aov 5 M (some p) = true := fun M hM => by
    show fw_aok 5 (lh_k M p) = true
    rw [hM]
    rcases hp with q | q <;> rw [q] <;> rfl
  have e0 : f_J2_add l (some p) (lh_wI L I) = fw_cl (f_J2_add_2 l (some p) (lh_R L l 1) (nI n) (lh_wI L (fw_u2 I l 0 (I l 0 + nI 1)))) fun _ L5 => some (nI 1, L5, 0, 0) := by
    unfold f_J2_add
    rw [x_lI hk, x_lp hk, x_lR hk, x_lI hk, fw_u2_ne _ _ (by omega), hs, x_lis hk]
  rw [e0]
  rcases hl with ⟨h1, h2⟩ | ⟨d, h1, h2, h3, h4⟩
  · subst h2
    rw [h1]
    have hal0 : ∀ {β : Type} (M : LH) (k : Int32 → Rs β), fw_alx M (fw_RO + 4) k = k (nI 0) := fun M k => if_pos rfl
    have hisD : ∀ {β : Type} (M : LH) (A B : Rs β), fw_isD M (some (fw_RO + 4)) A B = A := fun M A B => by
      unfold fw_isD
      exact if_pos rfl
    have hkn : lh_k (lh_new (lh_wI L (fw_u2 I l 0 (I l 0 + nI 1))) 105 10) = fw_u1 (lh_k L) (lh_z L) 105 := rfl
    have hk5 : lh_k (lh_new (lh_wI L (fw_u2 I l 0 (I l 0 + nI 1))) 105 10) l = 5 := by rw [hkn, fw_u1_ne _ _ (by omega)]; exact hk
    refine ⟨lh_sR (lh_sR (lh_new (lh_wI L (fw_u2 I l 0 (I l 0 + nI 1))) 105 10) l 1 (some (lh_z L))) (lh_z L) 0 (some p), fw_u2 (fw_u1 (fw_u2 I l 0 (I l 0 + nI 1)) (lh_z L) (fun _ => 0)) l 2 (nI (0 + 1)), ?_, lh_z L, ?_, hS.2.2.1, ?_, ?_, Or.inr ⟨rfl, rfl⟩, ?_, fun x hx hx2 => absurd hx2 (by omega), fun a x ha ha2 ha3 => ?_, fun a ha => ⟨?_, ?_⟩, fun a ha => ?_, Nat.le_succ _, Nat.le_refl _, fun a x ha ha2 => ?_, fw_u2_self _ _ _ _⟩
    · have eg : x_ev (lh_z L) (f_J2_grow l (lh_wI L (fw_u2 I l 0 (I l 0 + nI 1)))) (some (lh_z L)) (lh_sR (lh_new (lh_wI L (fw_u2 I l 0 (I l 0 + nI 1))) 105 10) l 1 (some (lh_z L))) := by
        unfold f_J2_grow f_J2_grow_2
        rw [x_lI hk, x_lis hk, fw_u2_ne _ _ (by omega), hs, nI_add, x_lR hk, h1, x_nn]
        rw [hal0, if_neg (show ¬ (0 : Int32) < nI 0 by decide), x_lR hk, h1, hisD, x_max (by decide) (by decide)]
        refine x_ev.cl (x_ev.na (L := lh_wI L (fw_u2 I l 0 (I l 0 + nI 1))) (M := lh_sR (lh_new (lh_wI L (fw_u2 I l 0 (I l 0 + nI 1))) 105 10) l 1 (some (lh_z L))) (b := some (lh_z L)) hz (by decide) ?_) (x_ev.of rfl rfl)
        refine x_ev.of ?_ rfl
        exact if_pos hk5
      refine x_ev.cl (v := ()) (M1 := lh_wI (lh_sR (lh_sR (lh_new (lh_wI L (fw_u2 I l 0 (I l 0 + nI 1))) 105 10) l 1 (some (lh_z L))) (lh_z L) 0 (some p)) (fw_u2 (fw_u1 (fw_u2 I l 0 (I l 0 + nI 1)) (lh_z L) (fun _ => 0)) l 2 (nI (0 + 1)))) ?_ (x_ev.of rfl rfl)
      unfold f_J2_add_2
      rw [x_nn, hal0, if_pos rfl, x_lis hk]
      refine x_ev.cl eg (x_ev.of ?_ rfl)
      unfold f_J2_add_2_11
      rw [x_nn]
      have ew := x_wqa (L := lh_sR (lh_new (lh_wI L (fw_u2 I l 0 (I l 0 + nI 1))) 105 10) l 1 (some (lh_z L))) (I := fw_u1 (fw_u2 I l 0 (I l 0 + nI 1)) (lh_z L) (fun _ => 0)) (d := lh_z L) (i := 0) (v := some p) (by rw [lh_k_sR, hkn]; exact fw_u1_self _ _ _) (by show 0 < fw_u1 (lh_n L) (lh_z L) 10 (lh_z L); rw [fw_u1_self]; decide) (by decide) (hop _ (by rw [lh_k_sR, hkn, fw_u1_ne _ _ (by omega)])) (k := fun L2 => fw_pI 5 L2 l 2 (nI 0 + nI 1) fun L3 => some ((), L3, 0, 0))
      refine Eq.trans ew ?_
      rw [nI_add]
      exact if_pos hk5
    · show fw_u2 (fw_u2 (fw_u1 (lh_R L) (lh_z L) (fun _ => none)) l 1 (some (lh_z L))) (lh_z L) 0 (some p) l 1 = _
      rw [fw_u2_ne _ _ (by omega), fw_u2_self]
    · exact fw_u1_self _ _ _
    · exact fw_u1_self _ _ _
    · exact fw_u2_self _ _ _ _
    · show fw_u2 (fw_u2 (fw_u1 (lh_R L) (lh_z L) (fun _ => none)) l 1 (some (lh_z L))) (lh_z L) 0 (some p) a x = _
      rw [fw_u2_ne _ _ (by omega), fw_u2_ne _ _ (by omega), fw_u1_ne _ _ (by omega)]
    · exact fw_u1_ne _ _ (show a ≠ lh_z L by omega)
    · exact fw_u1_ne _ _ (show a ≠ lh_z L by omega)
    · have ha : lh_z L + 1 ≤ a := ha
      show fw_u1 (lh_k L) (lh_z L) 105 a = 0
      rw [fw_u1_ne _ _ (by omega)]
      exact hS.2.2.2 a (by omega)
    · rw [fw_u2_ne _ _ (by omega), fw_u1_ne _ _ (by omega), fw_u2_ne _ _ (by omega)]
  · rw [h1]
    have hdz : d < lh_z L := x_lt hS (by rw [h3]; decide)
    have hdl : d ≠ l := fun q => by rw [q, hk] at h3; cases h3
    refine ⟨lh_wR L (fw_u2 (lh_R L) d n (some p)), fw_u2 (fw_u2 I l 0 (I l 0 + nI 1)) l 2 (nI (n + 1)), ?_, d, ?_, h2, h3, h4, Or.inl h1, fw_u2_self _ _ _ _, fun x hx _ => fw_u2_ne _ _ (fun q => hx q.2), fun a x _ ha2 _ => fw_u2_ne _ _ (fun q => ha2 q.1), fun a ha => ⟨rfl, rfl⟩, hS.2.2.2, Nat.le_refl _, by show lh_z L ≤ _; omega, fun a x ha ha2 => ?_, fw_u2_self _ _ _ _⟩
    · refine x_ev.of ?_ rfl
      have e2 : f_J2_add_2 l (some p) (some d) (nI n) (lh_wI L (fw_u2 I l 0 (I l 0 + nI 1))) = some ((), lh_wI (lh_wR L (fw_u2 (lh_R L) d n (some p))) (fw_u2 (fw_u2 I l 0 (I l 0 + nI 1)) l 2 (nI (n + 1))), 0, 0) := by
        unfold f_J2_add_2
        rw [x_nn]
        have hal : ∀ {β : Type} (k : Int32 → Rs β), fw_alx (lh_wI L (fw_u2 I l 0 (I l 0 + nI 1))) d k = k (nI 10) := fun k => by
          unfold fw_alx
          have q1 : lh_k (lh_wI L (fw_u2 I l 0 (I l 0 + nI 1))) d = 105 := h3
          have q2 : lh_n (lh_wI L (fw_u2 I l 0 (I l 0 + nI 1))) d = 10 := h4
          rw [if_neg (by omega), q1, q2, if_pos ⟨rfl, by decide⟩]
        rw [hal, i_eq (by omega) (by decide), if_neg (by omega)]
        unfold f_J2_add_2_11
        rw [x_nn, x_wqa h3 (by omega) (by omega) (hop _ rfl), nI_add]
        exact if_pos hk
      rw [e2, x_cl]
    · show fw_u2 (lh_R L) d n (some p) l 1 = _
      rw [fw_u2_ne _ _ (fun q => hdl q.1.symm)]
      exact h1
    · rw [fw_u2_ne _ _ (by omega), fw_u2_ne _ _ (by omega)]
end Ls
