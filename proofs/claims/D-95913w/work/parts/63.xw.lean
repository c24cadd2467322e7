set_option maxRecDepth 100000
/-! The component's world: what is kept from call to call (P, Q); the texts, read or not yet. -/
def x_TX (P : CF) (I : MI) : Prop := ∀ t, t < 4 → I (x_ti t) 1 = nI (P 0 t) ∧ ∀ i, i < P 0 t → I (x_ti t + 1) i &&& nI 255 = nI (P 1 (31 * t + i))
/-- a list's array -/
def x_Li (L : LH) (l n : Nat) : Prop := (lh_R L l 1 = some (fw_RO + 4) ∧ n = 0) ∨ ∃ d, lh_R L l 1 = some d ∧ 113 ≤ d ∧ lh_k L d = 105 ∧ lh_n L d = 10
abbrev x_ls (l : Nat) : Prop := l = 4 ∨ l = 7 ∨ l = 16 ∨ l = 95
def x_Ld (L : LH) : Prop := ∀ l l' d, x_ls l → x_ls l' → lh_R L l 1 = some d → lh_R L l' 1 = some d → d < fw_RO → l = l'
abbrev x_fk (f : Nat) : Nat := if f = 0 then 101 else if f = 1 then 102 else 100
def x_Ev (P : CF) (L : LH) (I : MI) (e a : Nat) : Prop := x_at L 16 e a ∧ 113 ≤ a ∧ lh_k L a = 100 ∧ lh_n L a = 3 ∧ I a 0 = nI (P 4 e) ∧ I a 1 = nI (P 5 e) ∧ I a 2 = nI (P 6 e)
def x_Se (P : CF) (L : LH) (I : MI) (e a : Nat) : Prop := x_at L 95 e a ∧ 113 ≤ a ∧ lh_k L a = 100 ∧ lh_n L a = 2 ∧ I a 0 = nI (P 8 e) ∧ I a 1 = nI (P 9 e)
def x_Ro (P : CF) (Q : Nat → Int32) (L : LH) (I : MI) (s a : Nat) : Prop := lh_R L (109 + s) 0 = some a ∧ 113 ≤ a ∧ lh_k L a = x_fk (P 11 s) ∧ lh_n L a = P 12 s ∧ ∀ i, i < P 12 s → I a i = Q (60 * s + i)
def x_W (P : CF) (Q : Nat → Int32) (L : LH) (I : MI) : Prop :=
  x_Sh L ∧ x_TX P I ∧ (I 0 0 = nI (P 13 0) ∧ I 0 4 = nI (P 2 0)) ∧
  (I 16 2 = nI (P 3 0) ∧ x_Li L 16 (P 3 0) ∧ ∀ e, e < P 3 0 → ∃ a, x_Ev P L I e a) ∧
  (I 95 2 = nI (P 7 0) ∧ x_Li L 95 (P 7 0) ∧ ∀ e, e < P 7 0 → ∃ a, x_Se P L I e a) ∧
  (∀ s, s < 4 → (P 10 s = 0 ∧ lh_R L (109 + s) 0 = none) ∨ (P 10 s = 1 ∧ ∃ a, x_Ro P Q L I s a)) ∧
  ((∀ s s' a, s < 4 → s' < 4 → lh_R L (109 + s) 0 = some a → lh_R L (109 + s') 0 = some a → s = s') ∧ ∀ s e a, s < 4 → lh_R L (109 + s) 0 = some a → ¬ (e < P 3 0 ∧ x_at L 16 e a) ∧ ¬ (e < P 7 0 ∧ x_at L 95 e a)) ∧
  x_Ld L
theorem x_lt {L : LH} (h : x_Sh L) {j : Nat} (hk : lh_k L j ≠ 0) : j < lh_z L := by
  rcases Nat.lt_or_ge j (lh_z L) with q | q
  · exact q
  · exact absurd (h.2.2.2 j q) hk
/-- what of the ints is kept -/
abbrev x_fp (L : LH) (j x : Nat) : Prop := (j = 0 ∧ (x = 0 ∨ x = 4)) ∨ ((j = 16 ∨ j = 95) ∧ x = 2) ∨ ((j = 2 ∨ j = 5 ∨ j = 9 ∨ j = 12) ∧ x = 1) ∨ (j = 3 ∨ j = 6 ∨ j = 10 ∨ j = 13) ∨ (113 ≤ j ∧ 100 ≤ lh_k L j ∧ lh_k L j ≤ 102)
abbrev x_fr (L : LH) (j x : Nat) : Prop := ((j = 16 ∨ j = 95) ∧ x = 1) ∨ (109 ≤ j ∧ j ≤ 112) ∨ (113 ≤ j ∧ (lh_R L 16 1 = some j ∨ lh_R L 95 1 = some j))
theorem x_ti_c : ∀ t, t < 4 → x_ti t = 2 ∨ x_ti t = 5 ∨ x_ti t = 9 ∨ x_ti t = 12 := by decide
theorem x_at_lt {L : LH} (h : x_Sh L) {l i a d : Nat} (hd : lh_R L l 1 = some d) (ha : x_at L l i a) : d < lh_z L ∧ lh_k L d = 105 := by
  obtain ⟨d', h1, h2, -, -⟩ := ha
  rw [h1] at hd
  obtain rfl := Option.some.inj hd
  exact ⟨x_lt h (by rw [h2]; decide), h2⟩
theorem x_W.go {P : CF} {Q : Nat → Int32} {L L' : LH} {I I' : MI} (h : x_W P Q L I) (hS' : x_Sh L') (hk : ∀ j, j < lh_z L → lh_k L' j = lh_k L j ∧ lh_n L' j = lh_n L j) (hR : ∀ j x, j < lh_z L → x_fr L j x → lh_R L' j x = lh_R L j x) (hI : ∀ j x, j < lh_z L → x_fp L j x → I' j x = I j x) (hd : x_Ld L') : x_W P Q L' I' := by
  obtain ⟨hS, h1, h2, h3, h4, h5, h6, -⟩ := h
  have hz := hS.2.2.1
  have tx : ∀ l d, (l = 16 ∨ l = 95) → lh_R L l 1 = some d → 113 ≤ d → ∀ x, d < lh_z L → lh_R L' d x = lh_R L d x := fun l d hl hd hd1 x hdz => hR d x hdz (Or.inr (Or.inr ⟨hd1, by rcases hl with q | q <;> subst q; exact Or.inl hd; exact Or.inr hd⟩))
  have r1 : ∀ l, (l = 16 ∨ l = 95) → lh_R L' l 1 = lh_R L l 1 := fun l hl => hR l 1 (by rcases hl with q | q <;> omega) (Or.inl ⟨hl, rfl⟩)
  have li : ∀ l n, (l = 16 ∨ l = 95) → x_Li L l n → x_Li L' l n := by
    intro l n hl hh
    rcases hh with ⟨a, b⟩ | ⟨d, a, b, c, e⟩
    · exact Or.inl ⟨(r1 l hl).trans a, b⟩
    · have hdz := x_lt hS (show lh_k L d ≠ 0 by rw [c]; decide)
      exact Or.inr ⟨d, (r1 l hl).trans a, b, (hk d hdz).1.trans c, (hk d hdz).2.trans e⟩
  have at1 : ∀ l n i a, (l = 16 ∨ l = 95) → x_Li L l n → i < n → x_at L l i a → x_at L' l i a := by
    intro l n i a hl hh hi ⟨d, a1, a2, a3, a4⟩
    have hdz := x_lt hS (show lh_k L d ≠ 0 by rw [a2]; decide)
    have hd1 : 113 ≤ d := by
      rcases hh with ⟨q, q2⟩ | ⟨d', q, q2, -⟩
      · omega
      · rw [q] at a1; obtain rfl := Option.some.inj a1; exact q2
    exact ⟨d, (r1 l hl).trans a1, (hk d hdz).1.trans a2, by rw [(hk d hdz).2]; exact a3, (tx l d hl a1 hd1 i hdz).trans a4⟩
  have at2 : ∀ l n i a, (l = 16 ∨ l = 95) → x_Li L l n → i < n → x_at L' l i a → x_at L l i a := by
    intro l n i a hl hh hi ⟨d, a1, a2, a3, a4⟩
    rw [r1 l hl] at a1
    rcases hh with ⟨q, q2⟩ | ⟨d', q, q2, q3, q4⟩
    · omega
    · rw [q] at a1; obtain rfl := Option.some.inj a1
      have hdz := x_lt hS (show lh_k L d' ≠ 0 by rw [q3]; decide)
      exact ⟨d', q, q3, by rw [(hk d' hdz).2] at a3; exact a3, by rw [tx l d' hl q q2 i hdz] at a4; exact a4⟩
  have ia : ∀ a x, 113 ≤ a → (lh_k L a = 100 ∨ lh_k L a = 101 ∨ lh_k L a = 102) → I' a x = I a x ∧ lh_k L' a = lh_k L a ∧ lh_n L' a = lh_n L a := by
    intro a x ha hka
    have haz := x_lt hS (show lh_k L a ≠ 0 by omega)
    exact ⟨hI a x haz (Or.inr (Or.inr (Or.inr (Or.inr ⟨ha, by omega, by omega⟩)))), hk a haz⟩
  refine ⟨hS', fun t ht => ?_, ⟨?_, ?_⟩, ⟨?_, li 16 _ (Or.inl rfl) h3.2.1, fun e he => ?_⟩, ⟨?_, li 95 _ (Or.inr rfl) h4.2.1, fun e he => ?_⟩, fun s hs => ?_, ⟨fun s s' a hs hs' q q' => ?_, fun s e a hs q => ?_⟩, hd⟩
  · have c := x_ti_c t ht
    refine ⟨(hI _ 1 (by omega) (Or.inr (Or.inr (Or.inl ⟨c, rfl⟩)))).trans (h1 t ht).1, fun i hi => ?_⟩
    rw [hI _ i (by omega) (Or.inr (Or.inr (Or.inr (Or.inl (by omega)))))]
    exact (h1 t ht).2 i hi
  · exact (hI 0 0 (by omega) (Or.inl ⟨rfl, Or.inl rfl⟩)).trans h2.1
  · exact (hI 0 4 (by omega) (Or.inl ⟨rfl, Or.inr rfl⟩)).trans h2.2
  · exact (hI 16 2 (by omega) (Or.inr (Or.inl ⟨Or.inl rfl, rfl⟩))).trans h3.1
  · obtain ⟨a, a1, a2, a3, a4, a5, a6, a7⟩ := h3.2.2 e he
    have k := fun x => ia a x a2 (Or.inl a3)
    exact ⟨a, at1 16 _ e a (Or.inl rfl) h3.2.1 he a1, a2, (k 0).2.1.trans a3, (k 0).2.2.trans a4, (k 0).1.trans a5, (k 1).1.trans a6, (k 2).1.trans a7⟩
  · exact (hI 95 2 (by omega) (Or.inr (Or.inl ⟨Or.inr rfl, rfl⟩))).trans h4.1
  · obtain ⟨a, a1, a2, a3, a4, a5, a6⟩ := h4.2.2 e he
    have k := fun x => ia a x a2 (Or.inl a3)
    exact ⟨a, at1 95 _ e a (Or.inr rfl) h4.2.1 he a1, a2, (k 0).2.1.trans a3, (k 0).2.2.trans a4, (k 0).1.trans a5, (k 1).1.trans a6⟩
  · have hr := hR (109 + s) 0 (by omega) (Or.inr (Or.inl (by omega)))
    rcases h5 s hs with ⟨a, b⟩ | ⟨a, r, b1, b2, b3, b4, b5⟩
    · exact Or.inl ⟨a, hr.trans b⟩
    · have k := fun x => ia r x b2 (by rw [b3]; unfold x_fk; split; exact Or.inr (Or.inl rfl); split; exact Or.inr (Or.inr rfl); exact Or.inl rfl)
      exact Or.inr ⟨a, r, hr.trans b1, b2, (k 0).2.1.trans b3, (k 0).2.2.trans b4, fun i hi => (k i).1.trans (b5 i hi)⟩
  · have hr := fun s (hs : s < 4) => hR (109 + s) 0 (by omega) (Or.inr (Or.inl (by omega)))
    rw [hr s hs] at q
    rw [hr s' hs'] at q'
    exact h6.1 s s' a hs hs' q q'
  · rw [hR (109 + s) 0 (by omega) (Or.inr (Or.inl (by omega)))] at q
    have := h6.2 s e a hs q
    exact ⟨fun z => this.1 ⟨z.1, at2 16 _ e a (Or.inl rfl) h3.2.1 z.1 z.2⟩, fun z => this.2 ⟨z.1, at2 95 _ e a (Or.inr rfl) h4.2.1 z.1 z.2⟩⟩
/-- the ints alone have changed -/
theorem x_W.f {P : CF} {Q : Nat → Int32} {L : LH} {I I' : MI} (h : x_W P Q L I) (hI : ∀ j x, x_fp L j x → I' j x = I j x) : x_W P Q L I' :=
  h.go h.1 (fun _ _ => ⟨rfl, rfl⟩) (fun _ _ _ _ => rfl) (fun j x _ => hI j x) h.2.2.2.2.2.2.2
/-- the configuration belongs to what is kept -/
def x_Cf (P C : CF) : Prop := C 5 0 = P 2 0 ∧ C 6 0 = P 3 0 ∧ ∀ e, C 7 e = P 4 e ∧ C 8 e = P 5 e ∧ C 9 e = P 6 e
def x_G (C : CF) (I : MI) : Prop := ∀ e, e < C 6 0 → (bt (I 0 16) e = true ↔ C 10 e ≠ 0)
def x_O (C : CF) (I : MI) : Prop := ∀ k, k < 16 → (nI k = I 0 17 ↔ C 12 0 = k)
/-- a team's text: it has been read, or the configuration is what it reads -/
def x_TL (P C : CF) (L : LH) (I : MI) (t : Nat) : Prop := (∃ m, m ≤ 8 ∧ I (4 + 3 * t) 2 = nI m ∧ x_Li L (4 + 3 * t) m) ∧ ((x_PU C L I t ∧ I (2 + 3 * t) 4 = c_fa P t) ∨ (I (2 + 3 * t) 3 = nI 0 ∧ C 0 t = c_ma P t ∧ ∀ i, i < C 0 t → C 1 (8 * t + i) = c_to P 1 (8 * t + i) ∧ C 2 (8 * t + i) = c_to P 2 (8 * t + i) ∧ C 3 (8 * t + i) = c_to P 3 (8 * t + i)))
def x_CL (P C : CF) (I : MI) (u : Nat) : Prop := (I (9 + 3 * u) 3 = nI 1 ∧ (∀ b, b < 24 → I (11 + 3 * u) b = nI (C 4 (24 * u + b))) ∧ I (9 + 3 * u) 6 = nI (c_ma P (u + 2)) ∧ I (9 + 3 * u) 4 = c_fa P (u + 2)) ∨ (I (9 + 3 * u) 3 = nI 0 ∧ ∀ b, b < 24 → C 4 (24 * u + b) = c_cl P u b)
def x_C (P C : CF) (L : LH) (I : MI) : Prop := x_Cf P C ∧ (x_TL P C L I 0 ∧ x_TL P C L I 1) ∧ (x_CL P C I 0 ∧ x_CL P C I 1) ∧ x_G C I ∧ x_O C I
theorem x_EV.of {P C : CF} {Q : Nat → Int32} {L : LH} {I : MI} (hW : x_W P Q L I) (h1 : x_Cf P C) (h2 : x_G C I) : x_EV C L I := by
  obtain ⟨-, c6, ce⟩ := h1
  refine ⟨by rw [c6]; exact hW.2.2.2.1.1, fun e he => ⟨h2 e he, ?_⟩⟩
  obtain ⟨a, a1, a2, a3, a4, a5, a6, a7⟩ := hW.2.2.2.1.2.2 e (by rw [← c6]; exact he)
  exact ⟨a, a1, a2, a3, a4, by rw [(ce e).1]; exact a5, by rw [(ce e).2.1]; exact a6, by rw [(ce e).2.2]; exact a7⟩
