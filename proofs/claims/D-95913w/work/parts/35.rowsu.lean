set_option maxRecDepth 100000
/-! multianewarray of ints, two dimensions -/
theorem fw_outer (c : ClassId) (N h0 : Nat) : ∀ i, ∃ sl : Array Value, Jvm.Free.Multi.outerC c N h0 i = { cls := c, slots := sl, vm := .none }
  | 0 => ⟨_, rfl⟩
  | i + 1 => by
    obtain ⟨sl, e⟩ := fw_outer c N h0 i
    refine ⟨sl.setIfInBounds i (.ref (h0 + 1 + i)), ?_⟩
    show (Jvm.Free.Multi.outerC c N h0 i).setSlot i (.ref (h0 + 1 + i)) = _
    rw [e]
    rfl
theorem fw_outerA (c : ClassId) (N h0 : Nat) : Jvm.Free.Multi.outerC c N h0 N = arrV c N (fun j => if j < N then .ref (h0 + 1 + j) else .null) := by
  obtain ⟨sl, e⟩ := fw_outer c N h0 N
  have hsz := (Jvm.Free.Multi.outerC_facts c N h0 N).2.2
  have hsl : ∀ j, j < N → sl[j]? = some (if j < N then .ref (h0 + 1 + j) else .null) := fun j hj => by
    have := Jvm.Free.Multi.outerC_slot c N h0 N j hj
    rw [e] at this
    exact this
  rw [e] at hsz ⊢
  have hsz : sl.size = N := hsz
  unfold arrV
  congr 1
  apply Array.ext_getElem?
  intro i
  by_cases hi : i < N
  · rw [hsl i hi]
    simp [hi]
  · rw [Array.getElem?_eq_none (by omega), Array.getElem?_eq_none (by simp; omega)]
def lh_mu (L : LH) (n m : Nat) : LH :=
  (fun j => if j = lh_z L then 110 else if lh_z L < j ∧ j ≤ lh_z L + n then 100 else lh_k L j,
   fun j => if lh_z L ≤ j ∧ j ≤ lh_z L + n then (fun _ => 0) else lh_I L j,
   fun j => if j = lh_z L then (fun x => if x < n then some (lh_z L + 1 + x) else none) else if lh_z L < j ∧ j ≤ lh_z L + n then (fun _ => none) else lh_R L j,
   fun j => if j = lh_z L then n else if lh_z L < j ∧ j ≤ lh_z L + n then m else lh_n L j,
   lh_z L + 1 + n)
def fw_mu {β : Type} (x y : Int32) (L : LH) (k : Nat → LH → Rs β) : Rs β := if lh_z L + 1 + x.toNatClampNeg < fw_RO ∧ ¬ x < 0 ∧ ¬ y < 0 ∧ x.toNatClampNeg ≤ 1000 ∧ y.toNatClampNeg ≤ 1000 then (match k (lh_z L) (lh_mu L x.toNatClampNeg y.toNatClampNeg) with
  | none => none
  | some (b, L2, c2, s2) => some (b, L2, (1 + x.toNatClampNeg) + c2, (x.toNatClampNeg + x.toNatClampNeg * y.toNatClampNeg) + s2)) else none
def fw_adm (ad : Nat → Nat) (z n q : Nat) (j : Nat) : Nat := if z ≤ j ∧ j ≤ z + n then q + (j - z) else ad j
theorem fw_adm_ne {ad : Nat → Nat} {z n q j : Nat} (h : ¬ (z ≤ j ∧ j ≤ z + n)) : fw_adm ad z n q j = ad j := if_neg h
theorem fw_adm_in {ad : Nat → Nat} {z n q j : Nat} (h : z ≤ j ∧ j ≤ z + n) : fw_adm ad z n q j = q + (j - z) := if_pos h
theorem fw_mu_wf {L : LH} (hw : fw_wf L) {n m : Nat} (hz : lh_z L + 1 + n < fw_RO) : fw_wf (lh_mu L n m) := by
  refine ⟨fun j hj => ?_, hz, fun j x i h => ?_⟩
  · have hj : lh_z L + 1 + n ≤ j := hj
    show (if j = lh_z L then 110 else if lh_z L < j ∧ j ≤ lh_z L + n then 100 else lh_k L j) = 0
    rw [if_neg (by omega), if_neg (by omega)]
    exact hw.1 j (by omega)
  · show i < lh_z L + 1 + n ∨ fw_RO ≤ i
    have h : (if j = lh_z L then (fun x => if x < n then some (lh_z L + 1 + x) else none) else if lh_z L < j ∧ j ≤ lh_z L + n then (fun _ => none) else lh_R L j) x = some i := h
    by_cases h1 : j = lh_z L
    · rw [if_pos h1] at h
      by_cases h2 : x < n
      · have h : (if x < n then some (lh_z L + 1 + x) else none) = some i := h
        rw [if_pos h2] at h; cases h; omega
      · have h : (if x < n then some (lh_z L + 1 + x) else none) = some i := h
        rw [if_neg h2] at h; cases h
    · rw [if_neg h1] at h
      by_cases h2 : lh_z L < j ∧ j ≤ lh_z L + n
      · rw [if_pos h2] at h; cases h
      · rw [if_neg h2] at h
        have := hw.2.2 j x i h
        omega
theorem fw_mu_old {G : Gx} {L : LH} (hw : fw_wf L) {ad : Nat → Nat} {n m q i : Nat} (hz : lh_z L + 1 + n < fw_RO) (hi : i < lh_z L) : fw_adm ad (lh_z L) n q i = ad i ∧ fw_ent G (lh_mu L n m) (fw_adm ad (lh_z L) n q) i = fw_ent G L ad i := by
  refine ⟨fw_adm_ne (by omega), fw_ent_congr ?_ ?_ ?_ ?_⟩
  · show (if i = lh_z L then 110 else if lh_z L < i ∧ i ≤ lh_z L + n then 100 else lh_k L i) = _
    rw [if_neg (by omega), if_neg (by omega)]
  · show (if lh_z L ≤ i ∧ i ≤ lh_z L + n then (fun _ => 0) else lh_I L i) = _
    rw [if_neg (by omega)]
  · funext x
    unfold fw_rfs
    have e : lh_R (lh_mu L n m) i x = lh_R L i x := by
      show (if i = lh_z L then (fun x => if x < n then some (lh_z L + 1 + x) else none) else if lh_z L < i ∧ i ≤ lh_z L + n then (fun _ => none) else lh_R L i) x = _
      rw [if_neg (by omega), if_neg (by omega)]
    rw [e]
    cases e2 : lh_R L i x with
    | none => rfl
    | some w =>
      have := hw.2.2 _ _ _ e2
      show some _ = some _
      rw [fw_adm_ne (by omega)]
  · show (if i = lh_z L then n else if lh_z L < i ∧ i ≤ lh_z L + n then m else lh_n L i) = _
    rw [if_neg (by omega), if_neg (by omega)]
section RowsU
variable {K : Kx} {cc : ByteArray} {nL F Lo : Nat} {own : String} {L : LH} {mc ms pc : Nat} {lv : List (Nat × AV)} {st : List AV}
theorem aw_multi {β : Type} (hK : Ok K cc nL own F Lo) (hZ : fw_isZ K) {index : Nat} (hq : Cond.classLink own index "[[I" ∈ lw_all) {x y : Int32} {k : Nat → LH → Rs β} {b : β} {L9 : LH} (hdg : decode cc pc = .ok (.multianewarray index 2, 4)) (h : fw_mu x y L k = some (b, L9, mc, ms)) (kk : ∀ j L1 c2 s2, k j L1 = some (b, L9, c2, s2) → AW K L1 c2 s2 (pc + 4) lv (aR (some j) :: st)) : AW K L mc ms pc lv (aI y :: aI x :: st) := by
  obtain ⟨⟨hz, hx, hy, hx1, hy1⟩, h⟩ := fw_if_h h
  obtain ⟨c2, s2, h', rfl, rfl⟩ := fw_aux_h h
  intro ad H locs cells slots ls hW hl hs hcs hms hv T hT X
  have hw := hW.2.2.2.2.2
  have hao : (Cond.arrayOver (.array .int)).before (kx_a K) (kx_s K) = true := (fw_zx hK hZ).2.2.2.2.2.2.2.2.2.1 (.array .int) (by decide)
  obtain ⟨vm1, cA, comp, hWm, hfA, hfC, -, -, X1, st9⟩ := X.multianewarray2F hK.x (own := own) (index := index) (ty := .int) hK.ow (hK.ts _ hq) hao (hK.ts _ (by decide +kernel)) (g := F0 (kx_m K) pc ls ((aI y :: aI x :: st).map (cv ad))) rfl (by rw [hK.b]; exact hdg) (n := x) (k := y) (rest := st.map (cv ad)) rfl hx hy (by omega) (by show y.toNatClampNeg * 4 ≤ _; omega) (by omega) rfl rfl (by omega) (by omega)
  have eA : cA = (kx_G K).2.1 10 := by
    have h2 := fw_RAn (hK.hK.2 10 _ (fw_tysAt (by omega))).2
    exact Option.some.inj (hfA.symm.trans h2)
  have eC : comp = (kx_G K).2.1 0 := by
    have h2 := fw_RAn (hK.hK.2 0 _ (fw_tysAt (by omega))).2
    exact Option.some.inj (hfC.symm.trans h2)
  subst eA
  subst eC
  generalize hN : x.toNatClampNeg = N at *
  generalize hM : y.toNatClampNeg = M at *
  have hs0 : (T.setVm vm1).heap = H := hT
  have hsz : (T.setVm vm1).heap.size = H.size := by rw [hs0]
  obtain ⟨f1, f2, -, -⟩ := Jvm.Free.Multi.fill_facts (T.setVm vm1) ((kx_G K).2.1 10) ((kx_G K).2.1 0) N M (defaultValue .int) N
  have f3 := fun (a : Nat) (ha : a < (T.setVm vm1).heap.size) => Jvm.Free.Multi.fill_old (T.setVm vm1) ((kx_G K).2.1 10) ((kx_G K).2.1 0) N M (defaultValue .int) ha N
  have f4 := fun (j : Nat) (hj : j < N) => Jvm.Free.Multi.fill_inner (T.setVm vm1) ((kx_G K).2.1 10) ((kx_G K).2.1 0) N M (defaultValue .int) N j hj
  generalize hH1 : (Jvm.Free.Multi.fill (T.setVm vm1) ((kx_G K).2.1 10) ((kx_G K).2.1 0) N M (defaultValue .int) N) = U at *
  rw [hsz] at f1 f2 f3 f4
  rw [hs0] at f3
  rw [fw_outerA] at f2
  have hold : ∀ i, i < lh_z L → ad i < H.size := fun i hi => (hW.1 i _ (fw_get hi)).lt
  have hP : va_P (kx_G K).1 fw_cls (fw_wl (kx_G K) (lh_mu L N M) (fw_adm ad (lh_z L) N H.size)) U.heap := by
    intro i q hi
    obtain ⟨hi1, rfl⟩ := fw_in hi
    have hi1 : i < lh_z L + 1 + N := hi1
    by_cases h1 : i < lh_z L
    · obtain ⟨e1, e2⟩ := fw_mu_old (G := kx_G K) hw (ad := ad) (m := M) (q := H.size) hz h1
      rw [e1, e2]
      exact (hW.1 i _ (fw_get h1)).kept (f3 _ (hold i h1))
    · rw [fw_adm_in (by omega)]
      by_cases h2 : i = lh_z L
      · subst h2
        have e : fw_ent (kx_G K) (lh_mu L N M) (fw_adm ad (lh_z L) N H.size) (lh_z L) = .inl ((kx_G K).2.1 10, N, .inr (.inr (.inr (.inr (fw_rfs (lh_mu L N M) (fw_adm ad (lh_z L) N H.size) (lh_z L)))))) := by
          unfold fw_ent
          have hk : lh_k (lh_mu L N M) (lh_z L) = 110 := if_pos rfl
          have hn : lh_n (lh_mu L N M) (lh_z L) = N := if_pos rfl
          rw [hk, hn]
          rfl
        rw [e]
        have hh : U.heap[H.size + (lh_z L - lh_z L)]? = some (arrV ((kx_G K).2.1 10) N (fun j => va_rf (fw_rfs (lh_mu L N M) (fw_adm ad (lh_z L) N H.size) (lh_z L) j))) := by
          rw [Nat.sub_self, Nat.add_zero, f2]
          congr 2
          funext j
          have hr : lh_R (lh_mu L N M) (lh_z L) j = if j < N then some (lh_z L + 1 + j) else none := by
            show (if lh_z L = lh_z L then (fun x => if x < N then some (lh_z L + 1 + x) else none) else _) j = _
            rw [if_pos rfl]
          unfold fw_rfs
          rw [hr]
          by_cases hj : j < N
          · rw [if_pos hj, if_pos hj]
            show _ = Value.ref (fw_adm ad (lh_z L) N H.size (lh_z L + 1 + j))
            rw [fw_adm_in (by omega)]
            exact congrArg Value.ref (show (H.size + 1 + j : Nat) = H.size + (lh_z L + 1 + j - lh_z L) by omega)
          · rw [if_neg hj, if_neg hj]; rfl
        exact hh
      · have e : fw_ent (kx_G K) (lh_mu L N M) (fw_adm ad (lh_z L) N H.size) i = .inl ((kx_G K).2.1 0, M, .inl (fun _ => 0)) := by
          unfold fw_ent
          have hk : lh_k (lh_mu L N M) i = 100 := by
            show (if i = lh_z L then 110 else if lh_z L < i ∧ i ≤ lh_z L + N then 100 else lh_k L i) = 100
            rw [if_neg h2, if_pos (by omega)]
          have hn : lh_n (lh_mu L N M) i = M := by
            show (if i = lh_z L then N else if lh_z L < i ∧ i ≤ lh_z L + N then M else lh_n L i) = M
            rw [if_neg h2, if_pos (by omega)]
          have hi0 : lh_I (lh_mu L N M) i = fun _ => 0 := by
            show (if lh_z L ≤ i ∧ i ≤ lh_z L + N then (fun _ => 0) else lh_I L i) = _
            rw [if_pos (by omega)]
          rw [hk, hn, hi0]
          rfl
        rw [e]
        have hh : U.heap[H.size + (i - lh_z L)]? = some (arrV ((kx_G K).2.1 0) M (fun _ => .int 0)) := by
          have := f4 (i - lh_z L - 1) (by omega)
          rw [show H.size + (i - lh_z L) = H.size + 1 + (i - lh_z L - 1) by omega, this]
          congr 1
          exact arrV_new _ _ _
        exact hh
  have hD : va_D (kx_A K) (fw_wl (kx_G K) (lh_mu L N M) (fw_adm ad (lh_z L) N H.size)) := by
    refine ⟨fun i j p q hi hj hpq => ?_, fun i q hi => ?_⟩
    · obtain ⟨hi1, rfl⟩ := fw_in hi
      obtain ⟨hj1, rfl⟩ := fw_in hj
      have hi1 : i < lh_z L + 1 + N := hi1
      have hj1 : j < lh_z L + 1 + N := hj1
      have hpq : fw_adm ad (lh_z L) N H.size i = fw_adm ad (lh_z L) N H.size j := hpq
      by_cases h1 : i < lh_z L <;> by_cases h2 : j < lh_z L
      · rw [fw_adm_ne (by omega), fw_adm_ne (by omega)] at hpq
        exact hW.2.1.1 i j _ _ (fw_get h1) (fw_get h2) hpq
      · rw [fw_adm_ne (by omega), fw_adm_in (by omega)] at hpq
        have := hold i h1
        omega
      · rw [fw_adm_in (by omega), fw_adm_ne (by omega)] at hpq
        have := hold j h2
        omega
      · rw [fw_adm_in (by omega), fw_adm_in (by omega)] at hpq
        omega
    · obtain ⟨hi1, rfl⟩ := fw_in hi
      by_cases h1 : i < lh_z L
      · show kx_A K (fw_adm ad (lh_z L) N H.size i)
        rw [fw_adm_ne (by omega)]
        exact hW.2.1.2 i _ (fw_get h1)
      · have hi1 : i < lh_z L + 1 + N := hi1
        show kx_A K (fw_adm ad (lh_z L) N H.size i)
        rw [fw_adm_in (by omega)]
        exact hK.hA _ (Nat.le_trans hW.2.2.1.1 (Nat.le_add_right _ _))
  have hag : ∀ j, j < lh_z L ∨ fw_RO ≤ j → fw_adm ad (lh_z L) N H.size j = ad j := fun j hj => fw_adm_ne (by omega)
  have hW' : fw_wst K (lh_mu L N M) (fw_adm ad (lh_z L) N H.size) U.heap locs :=
    ⟨hP, hD, ⟨Nat.le_trans hW.2.2.1.1 (by omega), fun q h1 h2 => (f3 q (Nat.lt_of_lt_of_le h1 hW.2.2.1.1)).trans (hW.2.2.1.2.1 q h1 h2), hW.2.2.1.2.2⟩, fun j hj => (hag j (hj.imp (fun h => Nat.lt_of_lt_of_le h hW.2.2.2.2.1) (fun h => h))).trans (hW.2.2.2.1 j hj), Nat.le_trans hW.2.2.2.2.1 (by show lh_z L ≤ lh_z L + 1 + N; omega), fw_mu_wf hw hz⟩
  have hmono : lh_z L ≤ lh_z (lh_mu L N M) := by show lh_z L ≤ lh_z L + 1 + N; omega
  have e := kk (lh_z L) (lh_mu L N M) c2 s2 h' (fw_adm ad (lh_z L) N H.size) U.heap locs (cells + 1 + N) (slots + N + N * M) ls hW' (fun q hq => okv_mono hmono (hl q hq)) (okA (Or.inl (by show lh_z L < lh_z L + 1 + N; omega)) (fun v hv => okv_mono hmono (ok1 (ok1 hs) v hv))) (by omega) (by omega) (by rw [fw_lv_agree hag hl]; exact hv)
  obtain ⟨t, a1, b1⟩ := e U rfl X1
  refine ⟨t, st9 t ?_, b1⟩
  have e2 : (aR (some (lh_z L)) :: st).map (cv (fw_adm ad (lh_z L) N H.size)) = .ref T.heap.size :: st.map (cv ad) := by
    rw [List.map_cons, fw_st_agree hag (ok1 (ok1 hs))]
    show Value.ref (fw_adm ad (lh_z L) N H.size (lh_z L)) :: _ = _
    rw [fw_adm_in (by omega), Nat.sub_self, hT]
    rfl
  rw [e2] at a1
  exact a1
end RowsU
