set_option maxRecDepth 100000
/-! The component's texts: a captain's is read. -/
/-- nothing that was there has changed but ints -/
def x_ex (L L' : LH) : Prop := lh_z L ≤ lh_z L' ∧ (∀ j, j < lh_z L → lh_k L' j = lh_k L j ∧ lh_n L' j = lh_n L j ∧ ∀ x, lh_R L' j x = lh_R L j x) ∧ ∀ j, lh_z L' ≤ j → lh_k L' j = 0
theorem x_ex.r {L : LH} (h : x_Sh L) : x_ex L L := ⟨Nat.le_refl _, fun _ _ => ⟨rfl, rfl, fun _ => rfl⟩, h.2.2.2⟩
theorem x_ex.t {L L1 L2 : LH} (h : x_ex L L1) (h2 : x_ex L1 L2) : x_ex L L2 :=
  ⟨Nat.le_trans h.1 h2.1, fun j hj => ⟨(h2.2.1 j (Nat.lt_of_lt_of_le hj h.1)).1.trans (h.2.1 j hj).1, (h2.2.1 j (Nat.lt_of_lt_of_le hj h.1)).2.1.trans (h.2.1 j hj).2.1, fun x => ((h2.2.1 j (Nat.lt_of_lt_of_le hj h.1)).2.2 x).trans ((h.2.1 j hj).2.2 x)⟩, h2.2.2⟩
theorem x_rf_lt {j x r : Nat} (h : x_rf j x = some r) : j < 113 := by
  unfold x_rf at h
  rcases Nat.lt_or_ge j 113 with q | q
  · exact q
  · repeat (rw [if_neg (by omega)] at h)
    cases h
theorem x_Sh.x {L L' : LH} (h : x_Sh L) (e : x_ex L L') : x_Sh L' := by
  have hz := h.2.2.1
  refine ⟨fun j hj => ⟨(e.2.1 j (by omega)).1.trans (h.1 j hj).1, (e.2.1 j (by omega)).2.1.trans (h.1 j hj).2⟩, fun j x r hr => ?_, Nat.le_trans hz e.1, e.2.2⟩
  have := x_rf_lt hr
  exact ((e.2.1 j (by omega)).2.2 x).trans (h.2.1 j x r hr)
theorem x_clx {α β : Type} {v : α} {L : LH} {c s c2 s2 : Nat} {k : α → LH → Rs β} {b : β} {L2 : LH} (h : k v L = some (b, L2, c2, s2)) : fw_cl (some (v, L, c, s)) k = some (b, L2, c + c2, s + s2) := by
  show (match k v L with
    | none => none
    | some (b, L2, c2, s2) => some (b, L2, c + c2, s + s2)) = _
  rw [h]
theorem x_cxI {α β : Type} (v : α) (L : LH) (kx : XO → LH → Rs β) (k : α → LH → Rs β) : fw_cx (some (.inl v, L, 0, 0)) kx k = k v L := by
  show (match k v L with
    | none => none
    | some (b, L2, c2, s2) => some (b, L2, 0 + c2, 0 + s2)) = k v L
  cases k v L with
  | none => rfl
  | some q => simp only [Nat.zero_add]
theorem x_cxi {α β : Type} {v : α} {L : LH} {c s c2 s2 : Nat} {kx : XO → LH → Rs β} {k : α → LH → Rs β} {b : β} {L2 : LH} (h : k v L = some (b, L2, c2, s2)) : fw_cx (some (.inl v, L, c, s)) kx k = some (b, L2, c + c2, s + s2) := by
  show (match k v L with
    | none => none
    | some (b, L2, c2, s2) => some (b, L2, c + c2, s + s2)) = _
  rw [h]
theorem x_cxr {α β : Type} {x : XO} {L : LH} {c s c2 s2 : Nat} {kx : XO → LH → Rs β} {k : α → LH → Rs β} {b : β} {L2 : LH} (h : kx x L = some (b, L2, c2, s2)) : fw_cx (some (.inr x, L, c, s)) kx k = some (b, L2, c + c2, s + s2) := by
  show (match kx x L with
    | none => none
    | some (b, L2, c2, s2) => some (b, L2, c + c2, s + s2)) = _
  rw [h]
theorem x_nwx {β : Type} {L : LH} {c n c2 s2 : Nat} {k : Nat → LH → Rs β} {b : β} {L2 : LH} (hz : lh_z L + 1 < fw_RO) (h : k (lh_z L) (lh_new L c 0) = some (b, L2, c2, s2)) : fw_nw c n L k = some (b, L2, 1 + c2, n + s2) := by
  unfold fw_nw
  rw [if_pos hz, h]
/-- a Torn is made and thrown -/
def x_Tn (L : LH) (I : MI) (a : Nat) (L' : LH) (I' : MI) : Prop := x_ex L L' ∧ lh_z L' = lh_z L + 1 ∧ (∀ i x, i ≠ lh_z L → I' i x = I i x) ∧ lh_k L' (lh_z L) = 7 ∧ I' (lh_z L) 6 = nI a
theorem x_torn {α : Type} {L : LH} {I : MI} (hS : x_Sh L) (hz : lh_z L + 1 < fw_RO) {j a : Nat} (hk : lh_k L j = 2 ∨ lh_k L j = 3) (ha : I j 2 = nI a) : ∃ L' I', x_Tn L I a L' I' ∧
    (fw_nw 7 7 (lh_wI L I) fun j3 L4 => fw_tI L4 j 2 fun v5 => fw_cl (f_X6_torn j3 v5 L4) fun _ L6 => fw_is 7 L6 j3 <| (some (.inr (.inl j3), L6, 0, 0) : Rs (α ⊕ XO))) = some (.inr (.inl (lh_z L)), lh_wI L' I', 1, 7) := by
  have hjz : j ≠ lh_z L := fun q => by
    have := hS.2.2.2 (lh_z L) (Nat.le_refl _)
    rw [q, this] at hk
    omega
  have hk7 : lh_k (lh_new (lh_wI L I) 7 0) (lh_z L) = 7 := fw_u1_self _ _ _
  have hkj : lh_k (lh_new (lh_wI L I) 7 0) j = lh_k L j := fw_u1_ne _ _ hjz
  have hIj : lh_I (lh_new (lh_wI L I) 7 0) j = I j := fw_u1_ne _ _ hjz
  have p : ∀ {β : Type} (M : LH) (s : Nat) (v : Option Nat) (k : LH → Rs β), lh_k M (lh_z L) = 7 → fw_pR 7 M (lh_z L) s v k = k (lh_sR M (lh_z L) s v) := fun M s v k h => if_pos h
  have q : ∀ {β : Type} (M : LH) (s : Nat) (v : Int32) (k : LH → Rs β), lh_k M (lh_z L) = 7 → fw_pI 7 M (lh_z L) s v k = k (lh_sI M (lh_z L) s v) := fun M s v k h => if_pos h
  have e : ∃ M, lh_k M = lh_k (lh_new (lh_wI L I) 7 0) ∧ lh_n M = lh_n (lh_new (lh_wI L I) 7 0) ∧ lh_z M = lh_z L + 1 ∧ (∀ i x, i ≠ lh_z L → lh_I M i x = I i x ∧ lh_R M i x = lh_R L i x) ∧ lh_I M (lh_z L) 6 = nI a ∧ f_X6_torn (lh_z L) (nI a) (lh_new (lh_wI L I) 7 0) = some ((), M, 0, 0) := by
    refine ⟨lh_sI (lh_sR (lh_sR (lh_sR (lh_sR (lh_sR (lh_sR (lh_sR (lh_new (lh_wI L I) 7 0) (lh_z L) 0 (some (lh_z L))) (lh_z L) 1 (fw_un false 13)) (lh_z L) 2 (fw_un false 14)) (lh_z L) 1 none) (lh_z L) 3 none) (lh_z L) 0 none) (lh_z L) 2 none) (lh_z L) 6 (nI a), rfl, rfl, rfl, fun i x hi => ⟨?_, ?_⟩, fw_u2_self _ _ _ _, ?_⟩
    · show fw_u2 (fw_u1 I (lh_z L) (fun _ => 0)) (lh_z L) 6 (nI a) i x = _
      rw [fw_u2_ne _ _ (fun q => hi q.1), fw_u1_ne _ _ hi]
    · show fw_u2 (fw_u2 (fw_u2 (fw_u2 (fw_u2 (fw_u2 (fw_u2 (fw_u1 (lh_R L) (lh_z L) (fun _ => none)) (lh_z L) 0 _) (lh_z L) 1 _) (lh_z L) 2 _) (lh_z L) 1 _) (lh_z L) 3 _) (lh_z L) 0 _) (lh_z L) 2 _ i x = _
      rw [fw_u2_ne _ _ (fun q => hi q.1), fw_u2_ne _ _ (fun q => hi q.1), fw_u2_ne _ _ (fun q => hi q.1), fw_u2_ne _ _ (fun q => hi q.1), fw_u2_ne _ _ (fun q => hi q.1), fw_u2_ne _ _ (fun q => hi q.1), fw_u2_ne _ _ (fun q => hi q.1), fw_u1_ne _ _ hi]
    · unfold f_X6_torn f_X6_init f_J5_init f_J4_init_2 f_J4_init_2_41
      rw [p _ _ _ _ hk7, p _ _ _ _ (by exact hk7), p _ _ _ _ (by exact hk7), if_pos nI_0, p _ _ _ _ (by exact hk7), p _ _ _ _ (by exact hk7), p _ _ _ _ (by exact hk7), if_pos nI_0, p _ _ _ _ (by exact hk7), x_cl, x_cl, q _ _ _ _ (by exact hk7)]
  obtain ⟨M, m1, m2, m3, m4, m5, m6⟩ := e
  refine ⟨M, lh_I M, ⟨⟨by omega, fun i hi => ⟨?_, ?_, fun x => ?_⟩, fun i hi => ?_⟩, m3, fun i x hi => (m4 i x hi).1, ?_, m5⟩, ?_⟩
  · rw [m1]; exact fw_u1_ne _ _ (show i ≠ lh_z L by omega)
  · rw [m2]; exact fw_u1_ne _ _ (show i ≠ lh_z L by omega)
  · exact (m4 i x (by omega)).2
  · rw [m1]
    show fw_u1 (lh_k L) (lh_z L) 7 i = 0
    rw [fw_u1_ne _ _ (by omega)]
    exact hS.2.2.2 i (by omega)
  · rw [m1]; exact hk7
  · have e2 : (fw_tI (lh_new (lh_wI L I) 7 0) j 2 fun v5 => fw_cl (f_X6_torn (lh_z L) v5 (lh_new (lh_wI L I) 7 0)) fun _ L6 => fw_is 7 L6 (lh_z L) <| (some (.inr (.inl (lh_z L)), L6, 0, 0) : Rs (α ⊕ XO))) = some (.inr (.inl (lh_z L)), M, 0, 0) := by
      unfold fw_tI
      rw [if_pos (by rw [hkj]; exact hk), hIj, ha]
      show fw_cl (f_X6_torn (lh_z L) (nI a) (lh_new (lh_wI L I) 7 0)) _ = _
      rw [m6, x_cl]
      exact if_pos (by rw [m1]; exact hk7)
    refine x_nwx (c := 7) (n := 7) (c2 := 0) (s2 := 0) (L := lh_wI L I) hz ?_
    exact e2
/-- a text's object and its bytes -/
def x_tk (L : LH) (j n : Nat) : Prop := (lh_k L j = 2 ∨ lh_k L j = 3) ∧ lh_R L j 0 = some (j + 1) ∧ lh_k L (j + 1) = 101 ∧ lh_n L (j + 1) = n
section Xt
variable {L : LH} {I : MI} {j : Nat}
theorem x_rdA {c a n i : Nat} {β : Type} {k : Int32 → Rs β} (hk : lh_k L a = c) (hn : lh_n L a = n) (hi : i < n) (hb : n ≤ 1000) : fw_rd c (lh_wI L I) a (nI i) k = k (I a i) := by
  unfold fw_rd
  have e : lh_n (lh_wI L I) a = n := hn
  rw [if_pos ⟨hk, by rw [e]; exact nI_in hi (by omega)⟩, nI_clamp (by omega)]
  rfl
theorem x_wrA {c a n i : Nat} {β : Type} {v : Int32} {k : LH → Rs β} (hk : lh_k L a = c) (hn : lh_n L a = n) (hi : i < n) (hb : n ≤ 1000) : fw_wr c (lh_wI L I) a (nI i) v k = k (lh_wI L (fw_u2 I a i v)) := by
  unfold fw_wr
  have e : lh_n (lh_wI L I) a = n := hn
  rw [if_pos ⟨hk, by rw [e]; exact nI_in hi (by omega)⟩, nI_clamp (by omega)]
  rfl
theorem x_al {a n : Nat} {β : Type} {k : Int32 → Rs β} (hk : 100 ≤ lh_k L a ∧ lh_k L a ≤ 110) (hn : lh_n L a = n) (hb : n ≤ 1000) : fw_al (lh_wI L I) a k = k (nI n) := by
  unfold fw_al
  have e : lh_n (lh_wI L I) a = n := hn
  have e2 : lh_k (lh_wI L I) a = lh_k L a := rfl
  rw [if_pos ⟨by omega, by omega, by omega⟩, e]
theorem x_iss {s : Nat} (hs : 5 ≤ s ∧ s < 9) {β : Type} {k : Rs β} : fw_iss (fw_RO + s) k = k := if_pos ⟨by omega, by omega⟩
theorem x_tI (h : lh_k L j = 2 ∨ lh_k L j = 3) {β : Type} {s : Nat} {k : Int32 → Rs β} : fw_tI (lh_wI L I) j s k = k (I j s) := if_pos h
theorem x_tpI (h : lh_k L j = 2 ∨ lh_k L j = 3) {β : Type} {s : Nat} {v : Int32} {k : LH → Rs β} : fw_tpI (lh_wI L I) j s v k = k (lh_wI L (fw_u2 I j s v)) := if_pos h
theorem x_tR {n : Nat} (h : x_tk L j n) {β : Type} {k : Option Nat → Rs β} : fw_tR (lh_wI L I) j 0 k = k (some (j + 1)) := by
  unfold fw_tR
  rw [if_pos (show lh_k (lh_wI L I) j = 2 ∨ lh_k (lh_wI L I) j = 3 from h.1)]
  exact congrArg k h.2.1
theorem x_pass {n a T s y : Nat} {v : Int32} (h : x_tk L j n) (hn : n ≤ 100) (ha : I j 2 = nI a) (hT : I j 1 = nI T) (haT : a ≤ T) (hTn : T ≤ n) (hs : 5 ≤ s ∧ s < 9) (hy : a < T → I (j + 1) a &&& nI 255 = nI y) (hv : a < T → ∀ M, f_J6_indexOf (fw_RO + s) (nI y) M = some (v, M, 0, 0)) (hvT : ¬ a < T → v = -nI 1) :
    f_X1_passes j (some (fw_RO + s)) (lh_wI L I) = f_X1_passes_32 j v (lh_wI L I) := by
  unfold f_X1_passes
  rw [x_tI h.1, x_tI h.1, ha, hT, i_eq (by omega) (by omega)]
  by_cases q : a = T
  · rw [if_pos q, hvT (by omega)]
  · have q2 : a < T := by omega
    rw [if_neg q, x_tR h, x_tI h.1, ha, x_nn]
    rw [x_rdA h.2.2.1 h.2.2.2 (by omega) (by omega), x_nn, x_iss hs, hy q2, hv q2, x_cl]
theorem x_p32 {a q : Nat} (hk : lh_k L j = 2 ∨ lh_k L j = 3) (ha : I j 2 = nI a) (hq : q < 2 ^ 31) : f_X1_passes_32 j (nI q) (lh_wI L I) = some (.inl (nI q), lh_wI L (fw_u2 I j 2 (nI (a + 1))), 0, 0) := by
  unfold f_X1_passes_32
  rw [if_neg (nI_m1 hq), x_tI hk, x_tpI hk, ha, nI_add]
theorem x_p32n {a : Nat} (hS : x_Sh L) (hz : lh_z L + 1 < fw_RO) (hk : lh_k L j = 2 ∨ lh_k L j = 3) (ha : I j 2 = nI a) : ∃ L' I', x_Tn L I a L' I' ∧ f_X1_passes_32 j (-nI 1) (lh_wI L I) = some (.inr (.inl (lh_z L)), lh_wI L' I', 1, 7) := by
  obtain ⟨L', I', h1, h2⟩ := x_torn (α := Int32) hS hz hk ha
  refine ⟨L', I', h1, ?_⟩
  unfold f_X1_passes_32
  rw [if_pos rfl]
  exact h2
end Xt
/-- an int array is filled -/
theorem x_fill5 {L : LH} {a n : Nat} {v : Int32} (hk : lh_k L a = 100) (hn : lh_n L a = n) (hb : n ≤ 900) : ∀ (m i f : Nat), i + m = n → m < f → ∀ I : MI, f_J3_fill_5 f (some a) v (nI i) (nI n) (lh_wI L I) = some ((), lh_wI L (fun j x => if j = a ∧ i ≤ x ∧ x < n then v else I j x), 0, 0) := by
  intro m
  induction m with
  | zero =>
    intro i f hi hf I
    obtain ⟨f, rfl⟩ : ∃ q, f = q + 1 := ⟨f - 1, by omega⟩
    unfold f_J3_fill_5
    rw [if_pos (nI_le (by omega) (by omega))]
    have e : (fun j x => if j = a ∧ i ≤ x ∧ x < n then v else I j x) = I := by
      funext j x
      rw [if_neg (by omega)]
    rw [e]
  | succ m ih =>
    intro i f hi hf I
    obtain ⟨f, rfl⟩ : ∃ q, f = q + 1 := ⟨f - 1, by omega⟩
    unfold f_J3_fill_5
    have e : (fun j x => if j = a ∧ i + 1 ≤ x ∧ x < n then v else fw_u2 I a i v j x) = fun j x => if j = a ∧ i ≤ x ∧ x < n then v else I j x := by
      funext j x
      rw [fw_u2_at]
      by_cases q : j = a ∧ x = i
      · rw [if_pos q, ite_self, if_pos (by omega)]
      · rw [if_neg q]
        by_cases q2 : j = a ∧ i + 1 ≤ x ∧ x < n
        · rw [if_pos q2, if_pos (by omega)]
        · rw [if_neg q2, if_neg (by omega)]
    have ew : ∀ {β : Type} (k : LH → Rs β), fw_wr 100 (lh_wI L I) a (nI i) v k = k (lh_wI L (fw_u2 I a i v)) := by
      intro β k
      unfold fw_wr
      rw [if_pos ⟨hk, by show ¬ (_ ∨ lh_n L a ≤ _); rw [hn]; exact nI_in (by omega) (by omega)⟩, nI_clamp (by omega)]
      rfl
    rw [if_neg (nI_ge (by omega) (by omega)), x_nn, ew, nI_add, ih (i + 1) f (by omega) (by omega), e]
theorem x_fill {L : LH} {I : MI} {a n : Nat} {v : Int32} (hk : lh_k L a = 100) (hn : lh_n L a = n) (hb : n ≤ 900) : f_J3_fill (some a) v (lh_wI L I) = some ((), lh_wI L (fun j x => if j = a ∧ x < n then v else I j x), 0, 0) := by
  unfold f_J3_fill
  rw [x_nn, x_al (by omega) hn (by omega), x_fill5 hk hn hb n 0 fw_fuel (by omega) (by unfold fw_fuel; omega)]
  have e : (fun j x => if j = a ∧ 0 ≤ x ∧ x < n then v else I j x) = fun j x => if j = a ∧ x < n then v else I j x := by
    funext j x
    by_cases q : j = a ∧ x < n
    · rw [if_pos q, if_pos (by omega)]
    · rw [if_neg q, if_neg (by omega)]
  rw [e]
theorem c_cf_le (y : Nat → Nat) : ∀ T, c_cf y T ≤ T
  | 0 => Nat.le_refl 0
  | T + 1 => by
    have := c_cf_le y T
    unfold c_cf
    split
    · omega
    · split <;> omega
theorem c_cf_all {y : Nat → Nat} : ∀ {T : Nat}, (∀ b, b < T → c_co (y b) < 3) → c_cf y T = T
  | 0, _ => rfl
  | T + 1, h => by
    unfold c_cf
    rw [c_cf_all (T := T) (fun b hb => h b (by omega)), if_neg (by omega), if_pos (h T (by omega))]
theorem c_cf_at {y : Nat → Nat} {i : Nat} (h1 : ∀ b, b < i → c_co (y b) < 3) (h2 : ¬ c_co (y i) < 3) : ∀ {T : Nat}, i < T → c_cf y T = i
  | T + 1, h => by
    unfold c_cf
    by_cases q : i < T
    · rw [c_cf_at h1 h2 q, if_pos q]
    · obtain rfl : i = T := by omega
      rw [c_cf_all h1, if_neg (by omega), if_neg h2]
theorem c_co_le (y : Nat) : c_co y ≤ 3 := by
  unfold c_co
  split
  · decide
  · split
    · decide
    · split <;> decide
