set_option maxRecDepth 100000
/-! The law's frame: two logical heaps (the component's, the model's), the script beside them. -/
def lw_st (K : Kx) (Lx Lm : LH) (adx adm : Nat → Nat) (H : Heap) : Prop := fw_wst K Lx adx H [] ∧ fw_wst K Lm adm H [] ∧ ∀ i j, i < lh_z Lx → j < lh_z Lm → adx i ≠ adm j
def LW (K : Kx) (Lx Lm : LH) (c0 s0 pc : Nat) (lv : Value → Value → List (Nat × Value)) (st : Value → Value → List Value) : Prop :=
  ∀ (adx adm : Nat → Nat) (H : Heap) (ls : Array Slot), lw_st K Lx Lm adx adm H → lv_has ls 4 (lv (.ref (adx 0)) (.ref (adm 0))) →
    W (kx_p K) (kx_l K) (kx_e K) (kx_R K) (kx_s K) (kx_m K) (kx_a K) (kx_b K) (kx_me K) (kx_c K) H [] c0 s0 (kx_Q K) (F0 (kx_m K) pc ls (st (.ref (adx 0)) (.ref (adm 0))))
def lw_B (K : Kx) (b N : Nat) (xs : Nat → Int32) : Prop := va_X b N xs (kx_s K) (kx_s K).heap ∧ b < (kx_s K).heap.size ∧ N ≤ 384 ∧ (∀ q, kx_A K q → (kx_s K).heap.size ≤ q) ∧ kx_z K = 0 ∧ (kx_R K).cells = 603072 ∧ (kx_R K).slots = 7262314
def lh_0 : LH := (fun _ => 0, fun _ _ => 0, fun _ _ => none, fun _ => 0, 0)
theorem lh_0_wf : fw_wf lh_0 := ⟨fun _ _ => rfl, by decide, fun _ _ _ h => by cases h⟩
section LawRows
variable {K : Kx} {cc : ByteArray} {F Lo : Nat} {own : String} {Lx Lm : LH} {c0 s0 pc b N : Nat} {xs : Nat → Int32} {lv : Value → Value → List (Nat × Value)} {st : Value → Value → List Value}
theorem fw_wst.z0 {L : LH} {ad : Nat → Nat} {H : Heap} {locs : List Loc} (h : fw_wst K L ad H locs) : fw_wst K L ad H [] := ⟨h.1, h.2.1, ⟨h.2.2.1.1, h.2.2.1.2.1, fun q hq => by cases hq⟩, h.2.2.2⟩
/-- a call in one world leaves the other as it was -/
theorem lw_core (hK : Ok K cc 4 own F Lo) (hB : lw_B K b N xs) {La Lp L1 : LH} {ada adp : Nat → Nat} {H : Heap} {ls : Array Slot} {st1 st2 : List AV} {r : Option AV} {c1 s1 : Nat} (hq : fw_RQ K 4 La pc (st1 ++ aR (some 0) :: st2) st2 r L1 c1 s1) (h0 : 0 < lh_z La) (hi : ∀ v ∈ st1 ++ st2, okv (lh_z La) v)
    (hWa : fw_wst K La ada H []) (hWp : fw_wst K Lp adp H []) (hap : ∀ i j, i < lh_z La → j < lh_z Lp → ada i ≠ adp j) (hls : ls.size = 4) (hroom : c0 + c1 ≤ 603072 ∧ s0 + s1 ≤ 7262314) {T : State} (hT : T.heap = H) (X : Stand (kx_p K) (kx_l K) (kx_e K) (kx_R K) (kx_s K) (kx_m K) (kx_a K) (kx_b K) (kx_me K) (kx_c K) T [] c0 s0) :
    ∃ (ad' : Nat → Nat) (T' : State), fw_wst K L1 ad' T'.heap [] ∧ fw_wst K Lp adp T'.heap [] ∧ (∀ i j, i < lh_z L1 → j < lh_z Lp → ad' i ≠ adp j) ∧ ad' 0 = ada 0 ∧ Stand (kx_p K) (kx_l K) (kx_e K) (kx_R K) (kx_s K) (kx_m K) (kx_a K) (kx_b K) (kx_me K) (kx_c K) T' [] (c0 + c1) (s0 + s1) ∧
      Goes (kx_p K) (kx_e K) (kx_b K) T (F0 (kx_m K) pc ls ((st1 ++ aR (some 0) :: st2).map (cv ada))) T' (F0 (kx_m K) (pc + 3) ls ((r.toList ++ st2).map (cv ad'))) := by
  have hs : ∀ v ∈ st1 ++ aR (some 0) :: st2, okv (lh_z La) v := fun v hv => by
    rcases List.mem_append.mp hv with h | h
    · exact hi v (List.mem_append_left _ h)
    · rcases List.mem_cons.mp h with e | e
      · rw [e]; exact Or.inl h0
      · exact hi v (List.mem_append_right _ e)
  obtain ⟨v, st₀, t, T', Lc, hh0, X', hLc, e1, e2, ⟨⟨ad', hv0, hP, hD, hag, hz, hwf, hok⟩, hF⟩, go⟩ := hq ada H [] c0 s0 ls hWa hs ⟨by rw [hB.2.2.2.2.2.1]; exact hroom.1, by rw [hB.2.2.2.2.2.2]; exact hroom.2⟩ hls T hT X
  have hv1 : v = r.map (cv ad') := by injection hv0
  have hWa' := hWa.call hK hh0 e1 hLc hP hD hag hz hwf hF
  have hAA := fw_wst.AA hK hWa
  have hfree : ∀ q ∈ ([] ++ Lc : List Loc), (kx_s K).heap.size ≤ q.base := fun q hq => hB.2.2.2.1 _ (hAA _ (hLc q hq))
  obtain ⟨hz1, hk1⟩ := hF
  rw [hh0] at hz1 hk1
  have hkeep : ∀ (k : Nat) (q : Nat × va_E), (fw_wl (kx_G K) Lp adp)[k]? = some q → T'.heap[q.1]? = H[q.1]? := fun k q hk => by
    rw [e1]
    refine hk1 q.1 (vx_lt hWp.1 hk) (fun hz9 => ?_)
    obtain ⟨hk2, rfl⟩ := fw_in hk
    rcases hz9 with ⟨k9, e9, h9⟩ | h9
    · obtain ⟨hk3, h4⟩ := fw_in h9
      exact hap k9 k hk3 hk2 (congrArg Prod.fst h4).symm
    · exact absurd (vx_lt hWp.1 hk) (Nat.not_lt.mpr h9)
  refine ⟨ad', T', hWa'.z0, ⟨hWp.1.kept hkeep, hWp.2.1, ⟨hWa'.2.2.1.1, hWa'.2.2.1.2.1, fun q hq => by cases hq⟩, hWp.2.2.2⟩, fun i j hi9 hj => ?_, hag 0 (Or.inl h0), X'.forget (locs := []) hfree, ?_⟩
  · intro e
    have h5 := hD.2 i _ (fw_get hi9)
    have h6 := vx_lt hWp.1 (fw_get (G := kx_G K) (ad := adp) hj)
    rcases h5 with ⟨k9, e9, h9⟩ | h9
    · obtain ⟨hk3, h4⟩ := fw_in h9
      exact hap k9 j hk3 hj ((congrArg Prod.fst h4).symm.trans e)
    · have h9 : H.size ≤ ad' i := h9
      have h6 : adp j < H.size := h6
      omega
  · have e : v.toList ++ st2.map (cv ada) = (r.toList ++ st2).map (cv ad') := by
      rw [hv1, List.map_append, fw_st_agree hag (fun v hv => hi v (List.mem_append_right _ hv))]
      cases r <;> rfl
    rw [← e]
    exact go
theorem lw_callx (hK : Ok K cc 4 own F Lo) (hB : lw_B K b N xs) {L1 : LH} {st1 st2 : List AV} {r : Option AV} {c1 s1 : Nat} {v1 v2 v3 : List Value} (hq : fw_RQ K 4 Lx pc (st1 ++ aR (some 0) :: st2) st2 r L1 c1 s1) (h0 : 0 < lh_z Lx) (hi : ∀ v ∈ st1 ++ st2, ∀ z, okv z v) (e1 : ∀ ad, st1.map (cv ad) = v1) (e2 : ∀ ad, st2.map (cv ad) = v2) (e3 : ∀ ad, r.toList.map (cv ad) = v3) (hroom : c0 + c1 ≤ 603072 ∧ s0 + s1 ≤ 7262314) (kk : LW K L1 Lm (c0 + c1) (s0 + s1) (pc + 3) lv (fun _ _ => v3 ++ v2)) : LW K Lx Lm c0 s0 pc lv (fun x _ => v1 ++ x :: v2) := by
  intro adx adm H ls h hv T hT X
  obtain ⟨ad', T', w1, w2, w3, w4, X', go⟩ := lw_core hK hB hq h0 (fun v hv => hi v hv _) h.1 h.2.1 h.2.2 hv.1 hroom hT X
  obtain ⟨t, a1, b1⟩ := kk ad' adm T'.heap ls ⟨w1, w2, w3⟩ (by rw [w4]; exact hv) T' rfl X'
  have g := go t (by rw [List.map_append, e3, e2]; exact a1)
  rw [List.map_append, List.map_cons, e1, e2] at g
  exact ⟨t, g, b1⟩
theorem lw_callm (hK : Ok K cc 4 own F Lo) (hB : lw_B K b N xs) {L1 : LH} {st1 st2 : List AV} {r : Option AV} {c1 s1 : Nat} {v1 v2 v3 : List Value} (hq : fw_RQ K 4 Lm pc (st1 ++ aR (some 0) :: st2) st2 r L1 c1 s1) (h0 : 0 < lh_z Lm) (hi : ∀ v ∈ st1 ++ st2, ∀ z, okv z v) (e1 : ∀ ad, st1.map (cv ad) = v1) (e2 : ∀ ad, st2.map (cv ad) = v2) (e3 : ∀ ad, r.toList.map (cv ad) = v3) (hroom : c0 + c1 ≤ 603072 ∧ s0 + s1 ≤ 7262314) (kk : LW K Lx L1 (c0 + c1) (s0 + s1) (pc + 3) lv (fun _ _ => v3 ++ v2)) : LW K Lx Lm c0 s0 pc lv (fun _ m => v1 ++ m :: v2) := by
  intro adx adm H ls h hv T hT X
  obtain ⟨ad', T', w1, w2, w3, w4, X', go⟩ := lw_core hK hB hq h0 (fun v hv => hi v hv _) h.2.1 h.1 (fun i j hi hj e => h.2.2 j i hj hi e.symm) hv.1 hroom hT X
  obtain ⟨t, a1, b1⟩ := kk adx ad' T'.heap ls ⟨w2, w1, fun i j hi hj e => w3 j i hj hi e.symm⟩ (by rw [w4]; exact hv) T' rfl X'
  have g := go t (by rw [List.map_append, e3, e2]; exact a1)
  rw [List.map_append, List.map_cons, e1, e2] at g
  exact ⟨t, g, b1⟩
theorem lw_initx (hK : Ok K cc 4 own F Lo) (hB : lw_B K b N xs) {L1 : LH} {c1 s1 : Nat} (hq : fw_RQ K 4 Lx pc ([] ++ aR (some 0) :: [aR (some 0)]) [aR (some 0)] none L1 c1 s1) (h0 : 0 < lh_z Lx) (hroom : c0 + c1 ≤ 603072 ∧ s0 + s1 ≤ 7262314) (kk : LW K L1 Lm (c0 + c1) (s0 + s1) (pc + 3) lv (fun x _ => [x])) : LW K Lx Lm c0 s0 pc lv (fun x _ => [x, x]) := by
  intro adx adm H ls h hv T hT X
  obtain ⟨ad', T', w1, w2, w3, w4, X', go⟩ := lw_core hK hB hq h0 (fun v hv => by rw [List.mem_singleton.mp hv]; exact Or.inl h0) h.1 h.2.1 h.2.2 hv.1 hroom hT X
  obtain ⟨t, a1, b1⟩ := kk ad' adm T'.heap ls ⟨w1, w2, w3⟩ (by rw [w4]; exact hv) T' rfl X'
  exact ⟨t, go t a1, b1⟩
theorem lw_initm (hK : Ok K cc 4 own F Lo) (hB : lw_B K b N xs) {L1 : LH} {c1 s1 : Nat} (hq : fw_RQ K 4 Lm pc ([] ++ aR (some 0) :: [aR (some 0)]) [aR (some 0)] none L1 c1 s1) (h0 : 0 < lh_z Lm) (hroom : c0 + c1 ≤ 603072 ∧ s0 + s1 ≤ 7262314) (kk : LW K Lx L1 (c0 + c1) (s0 + s1) (pc + 3) lv (fun _ m => [m])) : LW K Lx Lm c0 s0 pc lv (fun _ m => [m, m]) := by
  intro adx adm H ls h hv T hT X
  obtain ⟨ad', T', w1, w2, w3, w4, X', go⟩ := lw_core hK hB hq h0 (fun v hv => by rw [List.mem_singleton.mp hv]; exact Or.inl h0) h.2.1 h.1 (fun i j hi hj e => h.2.2 j i hj hi e.symm) hv.1 hroom hT X
  obtain ⟨t, a1, b1⟩ := kk adx ad' T'.heap ls ⟨w2, w1, fun i j hi hj e => w3 j i hj hi e.symm⟩ (by rw [w4]; exact hv) T' rfl X'
  exact ⟨t, go t a1, b1⟩
/-- an int of the script, at i + k -/
theorem lw_cell (hK : Ok K cc 4 own F Lo) (hB : lw_B K b N xs) {i v w : Int32} {n : Int} (q : Nat) (h2 : ∀ x m, (lv x m)[0]? = some (0, .ref b)) (h3 : ∀ x m, (lv x m)[q]? = some (3, .int i)) (hv : Int32.ofInt n = v) (hin : ¬ (i + v < 0 ∨ N ≤ (i + v).toNatClampNeg)) (hw : xs (i + v).toNatClampNeg = w)
    (d0 : decode cc pc = .ok (.aload_n 0, 1)) (d1 : decode cc (pc + 1) = .ok (.iload_n 3, 1)) (d2 : decode cc (pc + 2) = .ok (.iconst n, 1)) (d3 : decode cc (pc + 3) = .ok (.iadd, 1)) (d4 : decode cc (pc + 4) = .ok (.iaload, 1)) (kk : LW K Lx Lm c0 s0 (pc + 5) lv (fun x m => .int w :: st x m)) : LW K Lx Lm c0 s0 pc lv st := by
  intro adx adm H ls h hl
  refine lv_aload_n hK.x hK.b d0 rfl (lv_at hl 0 (h2 _ _)) ?_
  refine lv_iload_n hK.x hK.b d1 rfl (lv_at hl q (h3 _ _)) ?_
  refine lv_iconst hK.x hK.b d2 hv ?_
  refine lv_iadd hK.x hK.b d3 ?_
  refine va_sld hK.x hK.b hB.1 hB.2.1 (fun hz => absurd (hB.2.2.2.1 _ hz) (Nat.not_le.mpr hB.2.1)) h.1.2.2.1 hin d4 ?_
  rw [hw]
  exact kk adx adm H ls h hl
theorem lw_cell0 (hK : Ok K cc 4 own F Lo) (hB : lw_B K b N xs) {i w : Int32} (q : Nat) (h2 : ∀ x m, (lv x m)[0]? = some (0, .ref b)) (h3 : ∀ x m, (lv x m)[q]? = some (3, .int i)) (hin : ¬ (i < 0 ∨ N ≤ i.toNatClampNeg)) (hw : xs i.toNatClampNeg = w)
    (d0 : decode cc pc = .ok (.aload_n 0, 1)) (d1 : decode cc (pc + 1) = .ok (.iload_n 3, 1)) (d4 : decode cc (pc + 2) = .ok (.iaload, 1)) (kk : LW K Lx Lm c0 s0 (pc + 3) lv (fun x m => .int w :: st x m)) : LW K Lx Lm c0 s0 pc lv st := by
  intro adx adm H ls h hl
  refine lv_aload_n hK.x hK.b d0 rfl (lv_at hl 0 (h2 _ _)) ?_
  refine lv_iload_n hK.x hK.b d1 rfl (lv_at hl q (h3 _ _)) ?_
  refine va_sld hK.x hK.b hB.1 hB.2.1 (fun hz => absurd (hB.2.2.2.1 _ hz) (Nat.not_le.mpr hB.2.1)) h.1.2.2.1 hin d4 ?_
  rw [hw]
  exact kk adx adm H ls h hl
theorem lw_ax (hK : Ok K cc 4 own F Lo) (q : Nat) (h2 : ∀ x m, (lv x m)[q]? = some (1, x)) (d0 : decode cc pc = .ok (.aload_n 1, 1)) (kk : LW K Lx Lm c0 s0 (pc + 1) lv (fun x m => x :: st x m)) : LW K Lx Lm c0 s0 pc lv st := fun adx adm H ls h hl => lv_aload_n hK.x hK.b d0 rfl (lv_at hl q (h2 _ _)) (kk adx adm H ls h hl)
theorem lw_am (hK : Ok K cc 4 own F Lo) (q : Nat) (h2 : ∀ x m, (lv x m)[q]? = some (2, m)) (d0 : decode cc pc = .ok (.aload_n 2, 1)) (kk : LW K Lx Lm c0 s0 (pc + 1) lv (fun x m => m :: st x m)) : LW K Lx Lm c0 s0 pc lv st := fun adx adm H ls h hl => lv_aload_n hK.x hK.b d0 rfl (lv_at hl q (h2 _ _)) (kk adx adm H ls h hl)
theorem lw_same (hK : Ok K cc 4 own F Lo) {v : Int32} {off : Int} {tgt : Nat} (hdg : decode cc pc = .ok (.if_icmp .eq off, 3)) (ht : (pc : Int) + off = (tgt : Int)) (kk : LW K Lx Lm c0 s0 tgt lv (fun _ _ => [])) : LW K Lx Lm c0 s0 pc lv (fun _ _ => [.int v, .int v]) := fun adx adm H ls h hl => lv_icmp_eq hK.x hK.b hdg ht (fun _ => kk adx adm H ls h hl) (fun hne => (hne rfl).elim)
end LawRows
