set_option maxRecDepth 100000
/-! The component's heap: what stands from the constructor on; rows to read and write it. -/
def lh_wI (L : LH) (I : MI) : LH := (lh_k L, I, lh_R L, lh_n L, lh_z L)
theorem lh_wI_id (L : LH) : lh_wI L (lh_I L) = L := rfl
def x_kd (j : Nat) : Nat := if j < 20 then [1, 106, 2, 101, 5, 2, 101, 5, 107, 3, 101, 100, 3, 101, 100, 108, 5, 100, 100, 110].getD j 0 else if j = 44 ∨ j = 69 ∨ j = 96 then 110 else if j = 95 then 5 else if j < 108 then 100 else if j = 108 then 109 else 4
def x_ln (j : Nat) : Nat := if j < 20 then [0, 2, 0, 31, 0, 0, 31, 0, 2, 0, 24, 24, 0, 24, 24, 4, 0, 16, 16, 24].getD j 0 else if j < 44 then 4 else if j = 44 then 24 else if j < 69 then 16 else if j = 69 then 24 else if j < 94 then 16 else if j = 94 then 2 else if j = 95 then 0 else if j = 96 then 10 else if j < 108 then 24 else if j = 108 then 4 else 0
def x_rf (j x : Nat) : Option Nat :=
  if j = 0 then [none, some 1, some 8, some 15, none, some 16, none, none, none, none, some 17, some 18, some 19, some 44, some 69, some 94, none, none, none, none, some 95, some 96, none, some 107, some 108].getD x none
  else if j = 1 then (if x < 2 then some (2 + 3 * x) else none)
  else if j = 2 ∨ j = 5 ∨ j = 9 ∨ j = 12 then (if x = 0 then some (j + 1) else if x = 5 then some (j + 2) else none)
  else if j = 8 then (if x < 2 then some (9 + 3 * x) else none)
  else if j = 15 then (if x < 2 then some (2 + 3 * x) else if x < 4 then some (3 + 3 * x) else none)
  else if j = 19 then (if x < 24 then some (20 + x) else none)
  else if j = 44 then (if x < 24 then some (45 + x) else none)
  else if j = 69 then (if x < 24 then some (70 + x) else none)
  else if j = 96 then (if x < 10 then some (97 + x) else none)
  else if j = 108 then (if x < 4 then some (109 + x) else none)
  else none
def x_Sh (L : LH) : Prop := (∀ j, j < 113 → lh_k L j = x_kd j ∧ lh_n L j = x_ln j) ∧ (∀ j x r, x_rf j x = some r → lh_R L j x = some r) ∧ 113 ≤ lh_z L ∧ (∀ j, lh_z L ≤ j → lh_k L j = 0)
theorem x_cl {α β : Type} (v : α) (L : LH) (k : α → LH → Rs β) : fw_cl (some (v, L, 0, 0)) k = k v L := by
  show (match k v L with
    | none => none
    | some (b, L2, c2, s2) => some (b, L2, 0 + c2, 0 + s2)) = k v L
  cases k v L with
  | none => rfl
  | some q => simp only [Nat.zero_add]
theorem x_nn {β : Type} (j : Nat) (k : Nat → Rs β) : fw_nn (some j) k = k j := rfl
theorem x_bo {β : Type} {v : Int32} (k : Rs β) (h : v = 0 ∨ v = 1) : fw_bo v k = k := if_pos h
section Xs
variable {β : Type} {L : LH} {I : MI}
theorem x_kk (h : x_Sh L) {j c : Nat} (hj : j < 113) (hc : x_kd j = c) : lh_k (lh_wI L I) j = c := (h.1 j hj).1.trans hc
theorem x_is (h : x_Sh L) {j c : Nat} {k : Rs β} (hj : j < 113) (hc : x_kd j = c) : fw_is c (lh_wI L I) j k = k := if_pos (x_kk h hj hc)
theorem x_is1 (h : x_Sh L) {k : Rs β} : fw_is 1 (lh_wI L I) 0 k = k := x_is h (by decide) rfl
theorem x_gI (h : x_Sh L) {s : Nat} {k : Int32 → Rs β} : fw_gI 1 (lh_wI L I) 0 s k = k (I 0 s) := if_pos (x_kk h (by decide) rfl)
theorem x_pI (h : x_Sh L) {s : Nat} {v : Int32} {k : LH → Rs β} : fw_pI 1 (lh_wI L I) 0 s v k = k (lh_wI L (fw_u2 I 0 s v)) := if_pos (x_kk h (by decide) rfl)
theorem x_gRg (h : x_Sh L) {c j s r : Nat} {k : Option Nat → Rs β} (hj : j < 113) (hc : x_kd j = c) (hr : x_rf j s = some r) : fw_gR c (lh_wI L I) j s k = k (some r) := by
  unfold fw_gR
  rw [if_pos (x_kk h hj hc)]
  exact congrArg k (h.2.1 j s r hr)
theorem x_rdg (h : x_Sh L) {c j n i : Nat} {k : Int32 → Rs β} (hj : j < 113) (hc : x_kd j = c) (hn : x_ln j = n) (hi : i < n) (hb : n ≤ 1000) : fw_rd c (lh_wI L I) j (nI i) k = k (I j i) := by
  unfold fw_rd
  have e : lh_n (lh_wI L I) j = n := (h.1 j hj).2.trans hn
  rw [if_pos ⟨x_kk h hj hc, by rw [e]; exact nI_in hi (by omega)⟩, nI_clamp (by omega)]
  rfl
theorem x_wrg (h : x_Sh L) {c j n i : Nat} {v : Int32} {k : LH → Rs β} (hj : j < 113) (hc : x_kd j = c) (hn : x_ln j = n) (hi : i < n) (hb : n ≤ 1000) : fw_wr c (lh_wI L I) j (nI i) v k = k (lh_wI L (fw_u2 I j i v)) := by
  unfold fw_wr
  have e : lh_n (lh_wI L I) j = n := (h.1 j hj).2.trans hn
  rw [if_pos ⟨x_kk h hj hc, by rw [e]; exact nI_in hi (by omega)⟩, nI_clamp (by omega)]
  rfl
theorem x_rqg (h : x_Sh L) {c j n i r : Nat} {k : Option Nat → Rs β} (hj : j < 113) (hc : x_kd j = c) (hn : x_ln j = n) (hi : i < n) (hb : n ≤ 1000) (hr : x_rf j i = some r) : fw_rq c (lh_wI L I) j (nI i) k = k (some r) := by
  unfold fw_rq
  have e : lh_n (lh_wI L I) j = n := (h.1 j hj).2.trans hn
  rw [if_pos ⟨x_kk h hj hc, by rw [e]; exact nI_in hi (by omega)⟩, nI_clamp (by omega)]
  exact congrArg k (h.2.1 j i r hr)
theorem x_g1 (h : x_Sh L) {k : Option Nat → Rs β} : fw_gR 1 (lh_wI L I) 0 1 k = k (some 1) := x_gRg h (by decide) rfl rfl
theorem x_g2 (h : x_Sh L) {k : Option Nat → Rs β} : fw_gR 1 (lh_wI L I) 0 2 k = k (some 8) := x_gRg h (by decide) rfl rfl
theorem x_g3 (h : x_Sh L) {k : Option Nat → Rs β} : fw_gR 1 (lh_wI L I) 0 3 k = k (some 15) := x_gRg h (by decide) rfl rfl
theorem x_g5 (h : x_Sh L) {k : Option Nat → Rs β} : fw_gR 1 (lh_wI L I) 0 5 k = k (some 16) := x_gRg h (by decide) rfl rfl
theorem x_g10 (h : x_Sh L) {k : Option Nat → Rs β} : fw_gR 1 (lh_wI L I) 0 10 k = k (some 17) := x_gRg h (by decide) rfl rfl
theorem x_g11 (h : x_Sh L) {k : Option Nat → Rs β} : fw_gR 1 (lh_wI L I) 0 11 k = k (some 18) := x_gRg h (by decide) rfl rfl
theorem x_g12 (h : x_Sh L) {k : Option Nat → Rs β} : fw_gR 1 (lh_wI L I) 0 12 k = k (some 19) := x_gRg h (by decide) rfl rfl
theorem x_g13 (h : x_Sh L) {k : Option Nat → Rs β} : fw_gR 1 (lh_wI L I) 0 13 k = k (some 44) := x_gRg h (by decide) rfl rfl
theorem x_g14 (h : x_Sh L) {k : Option Nat → Rs β} : fw_gR 1 (lh_wI L I) 0 14 k = k (some 69) := x_gRg h (by decide) rfl rfl
theorem x_g15 (h : x_Sh L) {k : Option Nat → Rs β} : fw_gR 1 (lh_wI L I) 0 15 k = k (some 94) := x_gRg h (by decide) rfl rfl
theorem x_g20 (h : x_Sh L) {k : Option Nat → Rs β} : fw_gR 1 (lh_wI L I) 0 20 k = k (some 95) := x_gRg h (by decide) rfl rfl
theorem x_g21 (h : x_Sh L) {k : Option Nat → Rs β} : fw_gR 1 (lh_wI L I) 0 21 k = k (some 96) := x_gRg h (by decide) rfl rfl
theorem x_g23 (h : x_Sh L) {k : Option Nat → Rs β} : fw_gR 1 (lh_wI L I) 0 23 k = k (some 107) := x_gRg h (by decide) rfl rfl
theorem x_g24 (h : x_Sh L) {k : Option Nat → Rs β} : fw_gR 1 (lh_wI L I) 0 24 k = k (some 108) := x_gRg h (by decide) rfl rfl
theorem x_gt2 (h : x_Sh L) {k : Option Nat → Rs β} : fw_gR 2 (lh_wI L I) 2 5 k = k (some 4) := x_gRg h (by decide) rfl rfl
theorem x_gt5 (h : x_Sh L) {k : Option Nat → Rs β} : fw_gR 2 (lh_wI L I) 5 5 k = k (some 7) := x_gRg h (by decide) rfl rfl
theorem x_gt9 (h : x_Sh L) {k : Option Nat → Rs β} : fw_gR 3 (lh_wI L I) 9 5 k = k (some 11) := x_gRg h (by decide) rfl rfl
theorem x_gt12 (h : x_Sh L) {k : Option Nat → Rs β} : fw_gR 3 (lh_wI L I) 12 5 k = k (some 14) := x_gRg h (by decide) rfl rfl
theorem x_rd17 (h : x_Sh L) {i : Nat} {k : Int32 → Rs β} (hi : i < 16) : fw_rd 100 (lh_wI L I) 17 (nI i) k = k (I 17 i) := x_rdg h (by decide) rfl rfl hi (by decide)
theorem x_wr17 (h : x_Sh L) {i : Nat} {v : Int32} {k : LH → Rs β} (hi : i < 16) : fw_wr 100 (lh_wI L I) 17 (nI i) v k = k (lh_wI L (fw_u2 I 17 i v)) := x_wrg h (by decide) rfl rfl hi (by decide)
theorem x_rd18 (h : x_Sh L) {i : Nat} {k : Int32 → Rs β} (hi : i < 16) : fw_rd 100 (lh_wI L I) 18 (nI i) k = k (I 18 i) := x_rdg h (by decide) rfl rfl hi (by decide)
theorem x_wr18 (h : x_Sh L) {i : Nat} {v : Int32} {k : LH → Rs β} (hi : i < 16) : fw_wr 100 (lh_wI L I) 18 (nI i) v k = k (lh_wI L (fw_u2 I 18 i v)) := x_wrg h (by decide) rfl rfl hi (by decide)
theorem x_rd94 (h : x_Sh L) {i : Nat} {k : Int32 → Rs β} (hi : i < 2) : fw_rd 100 (lh_wI L I) 94 (nI i) k = k (I 94 i) := x_rdg h (by decide) rfl rfl hi (by decide)
theorem x_wr94 (h : x_Sh L) {i : Nat} {v : Int32} {k : LH → Rs β} (hi : i < 2) : fw_wr 100 (lh_wI L I) 94 (nI i) v k = k (lh_wI L (fw_u2 I 94 i v)) := x_wrg h (by decide) rfl rfl hi (by decide)
theorem x_rd107 (h : x_Sh L) {i : Nat} {k : Int32 → Rs β} (hi : i < 24) : fw_rd 100 (lh_wI L I) 107 (nI i) k = k (I 107 i) := x_rdg h (by decide) rfl rfl hi (by decide)
theorem x_wr107 (h : x_Sh L) {i : Nat} {v : Int32} {k : LH → Rs β} (hi : i < 24) : fw_wr 100 (lh_wI L I) 107 (nI i) v k = k (lh_wI L (fw_u2 I 107 i v)) := x_wrg h (by decide) rfl rfl hi (by decide)
theorem x_rd11 (h : x_Sh L) {i : Nat} {k : Int32 → Rs β} (hi : i < 24) : fw_rd 100 (lh_wI L I) 11 (nI i) k = k (I 11 i) := x_rdg h (by decide) rfl rfl hi (by decide)
theorem x_wr11 (h : x_Sh L) {i : Nat} {v : Int32} {k : LH → Rs β} (hi : i < 24) : fw_wr 100 (lh_wI L I) 11 (nI i) v k = k (lh_wI L (fw_u2 I 11 i v)) := x_wrg h (by decide) rfl rfl hi (by decide)
theorem x_rd14 (h : x_Sh L) {i : Nat} {k : Int32 → Rs β} (hi : i < 24) : fw_rd 100 (lh_wI L I) 14 (nI i) k = k (I 14 i) := x_rdg h (by decide) rfl rfl hi (by decide)
theorem x_wr14 (h : x_Sh L) {i : Nat} {v : Int32} {k : LH → Rs β} (hi : i < 24) : fw_wr 100 (lh_wI L I) 14 (nI i) v k = k (lh_wI L (fw_u2 I 14 i v)) := x_wrg h (by decide) rfl rfl hi (by decide)
theorem x_kdR {b : Nat} (hb : b < 24) : x_kd (20 + b) = 100 ∧ x_ln (20 + b) = 4 := (by decide : ∀ b, b < 24 → x_kd (20 + b) = 100 ∧ x_ln (20 + b) = 4) b hb
theorem x_rdR (h : x_Sh L) {b i : Nat} {k : Int32 → Rs β} (hb : b < 24) (hi : i < 4) : fw_rd 100 (lh_wI L I) (20 + b) (nI i) k = k (I (20 + b) i) := x_rdg h (by omega) (x_kdR hb).1 (x_kdR hb).2 hi (by decide)
theorem x_wrR (h : x_Sh L) {b i : Nat} {v : Int32} {k : LH → Rs β} (hb : b < 24) (hi : i < 4) : fw_wr 100 (lh_wI L I) (20 + b) (nI i) v k = k (lh_wI L (fw_u2 I (20 + b) i v)) := x_wrg h (by omega) (x_kdR hb).1 (x_kdR hb).2 hi (by decide)
theorem x_rqR (h : x_Sh L) {b : Nat} {k : Option Nat → Rs β} (hb : b < 24) : fw_rq 110 (lh_wI L I) 19 (nI b) k = k (some (20 + b)) := x_rqg h (by decide) rfl rfl hb (by decide) (if_pos hb)
theorem x_kdF {b : Nat} (hb : b < 24) : x_kd (45 + b) = 100 ∧ x_ln (45 + b) = 16 := (by decide : ∀ b, b < 24 → x_kd (45 + b) = 100 ∧ x_ln (45 + b) = 16) b hb
theorem x_rdF (h : x_Sh L) {b i : Nat} {k : Int32 → Rs β} (hb : b < 24) (hi : i < 16) : fw_rd 100 (lh_wI L I) (45 + b) (nI i) k = k (I (45 + b) i) := x_rdg h (by omega) (x_kdF hb).1 (x_kdF hb).2 hi (by decide)
theorem x_wrF (h : x_Sh L) {b i : Nat} {v : Int32} {k : LH → Rs β} (hb : b < 24) (hi : i < 16) : fw_wr 100 (lh_wI L I) (45 + b) (nI i) v k = k (lh_wI L (fw_u2 I (45 + b) i v)) := x_wrg h (by omega) (x_kdF hb).1 (x_kdF hb).2 hi (by decide)
theorem x_rqF (h : x_Sh L) {b : Nat} {k : Option Nat → Rs β} (hb : b < 24) : fw_rq 110 (lh_wI L I) 44 (nI b) k = k (some (45 + b)) := x_rqg h (by decide) rfl rfl hb (by decide) (if_pos hb)
theorem x_kdB {b : Nat} (hb : b < 24) : x_kd (70 + b) = 100 ∧ x_ln (70 + b) = 16 := (by decide : ∀ b, b < 24 → x_kd (70 + b) = 100 ∧ x_ln (70 + b) = 16) b hb
theorem x_rdB (h : x_Sh L) {b i : Nat} {k : Int32 → Rs β} (hb : b < 24) (hi : i < 16) : fw_rd 100 (lh_wI L I) (70 + b) (nI i) k = k (I (70 + b) i) := x_rdg h (by omega) (x_kdB hb).1 (x_kdB hb).2 hi (by decide)
theorem x_wrB (h : x_Sh L) {b i : Nat} {v : Int32} {k : LH → Rs β} (hb : b < 24) (hi : i < 16) : fw_wr 100 (lh_wI L I) (70 + b) (nI i) v k = k (lh_wI L (fw_u2 I (70 + b) i v)) := x_wrg h (by omega) (x_kdB hb).1 (x_kdB hb).2 hi (by decide)
theorem x_rqB (h : x_Sh L) {b : Nat} {k : Option Nat → Rs β} (hb : b < 24) : fw_rq 110 (lh_wI L I) 69 (nI b) k = k (some (70 + b)) := x_rqg h (by decide) rfl rfl hb (by decide) (if_pos hb)
theorem x_kdW {b : Nat} (hb : b < 10) : x_kd (97 + b) = 100 ∧ x_ln (97 + b) = 24 := (by decide : ∀ b, b < 10 → x_kd (97 + b) = 100 ∧ x_ln (97 + b) = 24) b hb
theorem x_rdW (h : x_Sh L) {b i : Nat} {k : Int32 → Rs β} (hb : b < 10) (hi : i < 24) : fw_rd 100 (lh_wI L I) (97 + b) (nI i) k = k (I (97 + b) i) := x_rdg h (by omega) (x_kdW hb).1 (x_kdW hb).2 hi (by decide)
theorem x_wrW (h : x_Sh L) {b i : Nat} {v : Int32} {k : LH → Rs β} (hb : b < 10) (hi : i < 24) : fw_wr 100 (lh_wI L I) (97 + b) (nI i) v k = k (lh_wI L (fw_u2 I (97 + b) i v)) := x_wrg h (by omega) (x_kdW hb).1 (x_kdW hb).2 hi (by decide)
theorem x_rqW (h : x_Sh L) {b : Nat} {k : Option Nat → Rs β} (hb : b < 10) : fw_rq 110 (lh_wI L I) 96 (nI b) k = k (some (97 + b)) := x_rqg h (by decide) rfl rfl hb (by decide) (if_pos hb)
theorem x_rqT (h : x_Sh L) {t : Nat} {k : Option Nat → Rs β} (ht : t < 2) : fw_rq 106 (lh_wI L I) 1 (nI t) k = k (some (2 + 3 * t)) := x_rqg h (by decide) rfl rfl ht (by decide) (if_pos ht)
theorem x_rqC (h : x_Sh L) {t : Nat} {k : Option Nat → Rs β} (ht : t < 2) : fw_rq 107 (lh_wI L I) 8 (nI t) k = k (some (9 + 3 * t)) := x_rqg h (by decide) rfl rfl ht (by decide) (if_pos ht)
theorem x_rqS (h : x_Sh L) {t : Nat} {k : Option Nat → Rs β} (ht : t < 4) : fw_rq 109 (lh_wI L I) 108 (nI t) k = k (some (109 + t)) := x_rqg h (by decide) rfl rfl ht (by decide) (if_pos ht)
def x_ti (t : Nat) : Nat := if t < 2 then 2 + 3 * t else 3 + 3 * t
theorem x_rqX (h : x_Sh L) {t : Nat} {k : Option Nat → Rs β} (ht : t < 4) : fw_rq 108 (lh_wI L I) 15 (nI t) k = k (some (x_ti t)) := x_rqg h (by decide) rfl rfl ht (by decide) ((by decide : ∀ t, t < 4 → x_rf 15 t = some (x_ti t)) t ht)
/-- a list's size; what it holds at i -/
theorem x_sz {j : Nat} (hk : lh_k L j = 5) : f_J2_size j (lh_wI L I) = some (I j 2, lh_wI L I, 0, 0) := if_pos hk
def x_at (L : LH) (l i a : Nat) : Prop := ∃ d, lh_R L l 1 = some d ∧ lh_k L d = 105 ∧ i < lh_n L d ∧ lh_R L d i = some a
theorem x_get {l i a n : Nat} (hk : lh_k L l = 5) (hs : I l 2 = nI n) (hi : i < n) (hn : n ≤ 1000) (ha : x_at L l i a) : f_J2_get l (nI i) (lh_wI L I) = some (some a, lh_wI L I, 0, 0) := by
  obtain ⟨d, h1, h2, h3, h4⟩ := ha
  unfold f_J2_get
  rw [show ∀ k : Int32 → Rs (Option Nat), fw_gI 5 (lh_wI L I) l 2 k = k (I l 2) from fun k => if_pos hk, hs]
  have e1 : f_J13_checkIndex (nI i) (nI n) (lh_wI L I) = some (nI i, lh_wI L I, 0, 0) := by
    unfold f_J13_checkIndex f_J10_checkIndex
    rw [if_neg (nI_pos (by omega)), if_pos (nI_lt hi (by omega)), x_cl]
  rw [e1, x_cl, show ∀ k : Rs (Option Nat), fw_is 5 (lh_wI L I) l k = k from fun k => if_pos hk]
  have e2 : f_J2_elementData l (nI i) (lh_wI L I) = some (some a, lh_wI L I, 0, 0) := by
    unfold f_J2_elementData
    rw [show ∀ k : Option Nat → Rs (Option Nat), fw_gR 5 (lh_wI L I) l 1 k = k (lh_R L l 1) from fun k => if_pos hk, h1, x_nn]
    unfold fw_rq
    have e3 : lh_n (lh_wI L I) d = lh_n L d := rfl
    have e4 : lh_k (lh_wI L I) d = lh_k L d := rfl
    by_cases hb : lh_n L d < 2 ^ 31
    · rw [if_pos ⟨e4.trans h2, by rw [e3]; exact nI_in h3 hb⟩, nI_clamp (by omega)]
      show some (lh_R L d i, _, 0, 0) = _
      rw [h4]
    · rw [if_pos ⟨e4.trans h2, by
        rw [e3, nI_clamp (by omega)]
        intro q
        rcases q with q | q
        · exact nI_pos (by omega) q
        · omega⟩, nI_clamp (by omega)]
      show some (lh_R L d i, _, 0, 0) = _
      rw [h4]
  rw [e2, x_cl]
end Xs
