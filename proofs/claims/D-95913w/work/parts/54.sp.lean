set_option maxRecDepth 100000
/-! Numbers and bits; the plain law's middle: a configuration C, what its 24 beats give. -/
/-! rows of BITS.to-paste -/
def bt (x : Int32) (i : Nat) : Bool := x.toBitVec.getLsbD i
theorem b_ext {x y : Int32} (h : ∀ i, i < 32 → bt x i = bt y i) : x = y := Int32.toBitVec_inj.mp (BitVec.eq_of_getLsbD_eq (fun i hi => h i hi))
theorem b_or (x y : Int32) (i : Nat) : bt (x ||| y) i = (bt x i || bt y i) := by unfold bt; rw [Int32.toBitVec_or, BitVec.getLsbD_or]
theorem b_and (x y : Int32) (i : Nat) : bt (x &&& y) i = (bt x i && bt y i) := by unfold bt; rw [Int32.toBitVec_and, BitVec.getLsbD_and]
theorem b_0 (i : Nat) : bt 0 i = false := BitVec.getLsbD_zero
theorem s_l : ∀ n, n < 32 → ((nI n &&& 31).toBitVec.smod 32).toNat = n := by decide +kernel
theorem b_shl (n : Nat) (hn : n < 32) (x : Int32) {i : Nat} (hi : i < 32) : bt (x <<< (nI n &&& 31)) i = (decide (n ≤ i) && bt x (i - n)) := by
  unfold bt
  rw [Int32.toBitVec_shiftLeft]
  show (x.toBitVec <<< ((nI n &&& 31).toBitVec.smod 32).toNat).getLsbD i = _
  rw [s_l n hn, BitVec.getLsbD_shiftLeft]
  rcases Nat.lt_or_ge i n with h | h
  · simp [h, Nat.not_le.mpr h]
  · simp [hi, h, Nat.not_lt.mpr h]
theorem b_sshr (n : Nat) (hn : n < 32) (x : Int32) {i : Nat} (hi : i < 32) : bt (x >>> (nI n &&& 31)) i = if n + i < 32 then bt x (n + i) else bt x 31 := by
  unfold bt
  rw [Int32.toBitVec_shiftRight]
  show (x.toBitVec.sshiftRight ((nI n &&& 31).toBitVec.smod 32).toNat).getLsbD i = _
  rw [s_l n hn, BitVec.getLsbD_sshiftRight, BitVec.msb_eq_getLsbD_last]
  simp [hi]
/-! rows of our own -/
theorem bt1 : ∀ i, i < 32 → bt (nI 1) i = decide (i = 0) := by decide +kernel
theorem bt_one {n i : Nat} (hn : n < 32) (hi : i < 32) : bt (nI 1 <<< (nI n &&& 31)) i = decide (i = n) := by
  rw [b_shl n hn _ hi, bt1 _ (by omega)]
  by_cases h : i = n
  · subst h; simp
  · by_cases h2 : n ≤ i
    · simp [h, h2]; omega
    · simp [h, h2]
theorem bt_in (x : Int32) {k : Nat} (hk : k < 32) : ((x >>> (nI k &&& 31)) &&& nI 1 = nI 1) ↔ bt x k = true := by
  have e0 : bt (x >>> (nI k &&& 31)) 0 = bt x k := by rw [b_sshr k hk x (by decide), if_pos (by omega)]; rfl
  constructor
  · intro h
    have := congrArg (fun z => bt z 0) h
    simp only [b_and, e0, bt1 0 (by decide)] at this
    simpa using this
  · intro h
    refine b_ext fun i hi => ?_
    rw [b_and, bt1 i hi]
    by_cases hi0 : i = 0
    · subst hi0; rw [e0, h]; rfl
    · simp [hi0]
theorem nI_z {n : Nat} (h : n < 2 ^ 31) : (nI n = 0) ↔ n = 0 := by rw [show (0 : Int32) = nI 0 from nI_0.symm, nI_eq h (by decide)]
theorem nI_le0 {n : Nat} (h : n < 2 ^ 31) : (nI n ≤ 0) ↔ n = 0 := by rw [show (0 : Int32) = nI 0 from nI_0.symm, nI_leI h (by decide)]; omega
theorem nI_lt0 {n : Nat} (h : n < 2 ^ 31) : (0 < nI n) ↔ 0 < n := by rw [show (0 : Int32) = nI 0 from nI_0.symm, nI_ltI (by decide) h]
theorem nI_m1 {n : Nat} (h : n < 2 ^ 31) : ¬ nI n = -nI 1 := fun e => by
  have := congrArg Int32.toInt e
  rw [nI_toInt h] at this
  have h2 : (-nI 1 : Int32).toInt = -1 := by decide
  omega
theorem nI_m1' {n : Nat} (h : n < 2 ^ 31) : ¬ -nI 1 = nI n := fun e => nI_m1 h e.symm
theorem nI_subs {a b : Nat} (h : a ≤ b) : nI a - nI b = -nI (b - a) := by rw [← pk_sub h, Int32.neg_sub]
theorem nI_addn {a b : Nat} (h : b ≤ a) : nI a + -nI b = nI (a - b) := by rw [← Int32.sub_eq_add_neg, pk_sub h]
theorem i_lt {α : Type} {a b : Nat} (ha : a < 2 ^ 31) (hb : b < 2 ^ 31) {h : Decidable (nI a < nI b)} {A B : α} : @ite α (nI a < nI b) h A B = if a < b then A else B := by
  by_cases q : a < b
  · rw [if_pos q, if_pos ((nI_ltI ha hb).mpr q)]
  · rw [if_neg q, if_neg (fun z => q ((nI_ltI ha hb).mp z))]
theorem i_le {α : Type} {a b : Nat} (ha : a < 2 ^ 31) (hb : b < 2 ^ 31) {h : Decidable (nI a ≤ nI b)} {A B : α} : @ite α (nI a ≤ nI b) h A B = if a ≤ b then A else B := by
  by_cases q : a ≤ b
  · rw [if_pos q, if_pos ((nI_leI ha hb).mpr q)]
  · rw [if_neg q, if_neg (fun z => q ((nI_leI ha hb).mp z))]
theorem i_eq {α : Type} {a b : Nat} (ha : a < 2 ^ 31) (hb : b < 2 ^ 31) {h : Decidable (nI a = nI b)} {A B : α} : @ite α (nI a = nI b) h A B = if a = b then A else B := by
  by_cases q : a = b
  · rw [if_pos q, if_pos ((nI_eq ha hb).mpr q)]
  · rw [if_neg q, if_neg (fun z => q ((nI_eq ha hb).mp z))]
theorem i_z {α : Type} {a : Nat} (ha : a < 2 ^ 31) {h : Decidable (nI a = 0)} {A B : α} : @ite α (nI a = 0) h A B = if a = 0 then A else B := by
  by_cases q : a = 0
  · rw [if_pos q, if_pos ((nI_z ha).mpr q)]
  · rw [if_neg q, if_neg (fun z => q ((nI_z ha).mp z))]
theorem i_le0 {α : Type} {a : Nat} (ha : a < 2 ^ 31) {h : Decidable (nI a ≤ 0)} {A B : α} : @ite α (nI a ≤ 0) h A B = if a = 0 then A else B := by
  by_cases q : a = 0
  · rw [if_pos q, if_pos ((nI_le0 ha).mpr q)]
  · rw [if_neg q, if_neg (fun z => q ((nI_le0 ha).mp z))]
theorem i_lt0 {α : Type} {a : Nat} (ha : a < 2 ^ 31) {h : Decidable (0 < nI a)} {A B : α} : @ite α (0 < nI a) h A B = if 0 < a then A else B := by
  by_cases q : 0 < a
  · rw [if_pos q, if_pos ((nI_lt0 ha).mpr q)]
  · rw [if_neg q, if_neg (fun z => q ((nI_lt0 ha).mp z))]
theorem fw_u2_at {α : Type} (f : Nat → Nat → α) (j x : Nat) (v : α) (a b : Nat) : fw_u2 f j x v a b = if a = j ∧ b = x then v else f a b := rfl
theorem fw_u2_id {α : Type} (f : Nat → Nat → α) {j x : Nat} {v : α} (h : f j x = v) : fw_u2 f j x v = f := by
  funext a b
  unfold fw_u2
  split
  · next q => rw [q.1, q.2, h]
  · rfl
abbrev MI : Type := Nat → Nat → Int32
def m_f (p : Nat → Nat → Prop) (I I' : MI) : Prop := ∀ j x, ¬ p j x → I' j x = I j x
theorem m_f.r {p : Nat → Nat → Prop} (I : MI) : m_f p I I := fun _ _ _ => rfl
theorem m_f.t {p : Nat → Nat → Prop} {I I1 I2 : MI} (h : m_f p I I1) (h2 : m_f p I1 I2) : m_f p I I2 := fun j x q => (h2 j x q).trans (h j x q)
theorem m_f.m {p q : Nat → Nat → Prop} {I I' : MI} (h : m_f p I I') (hpq : ∀ j x, p j x → q j x) : m_f q I I' := fun j x z => h j x (fun w => z (hpq j x w))
theorem m_f.w {p : Nat → Nat → Prop} {I I' : MI} (h : m_f p I I') {j x : Nat} {v : Int32} (hp : p j x) : m_f p I (fw_u2 I' j x v) := fun a b hab => by
  rw [fw_u2_ne _ _ (fun q => hab (by rw [q.1, q.2]; exact hp))]
  exact h a b hab
abbrev CF : Type := Nat → Nat → Nat
/-- a configuration: 0 t how many of a team; 1 2 3 k sort, weight, wind; 4 (24 t + b) call; 5 0 mud; 6 0 how many events; 7 8 9 e kind, beat, number; 10 e whether it is not; 11 t the last of a team; 12 0 who is out -/
abbrev c_th (C : CF) (k : Nat) : Prop := k < 16 ∧ k % 8 < C 0 (k / 8)
abbrev c_he (C : CF) (k : Nat) : Prop := (k < 16 ∧ k % 8 < C 0 (k / 8)) ∧ C 12 0 ≠ k
def c_ev (C : CF) (kd b e : Nat) : Bool := C 7 e == kd && C 8 e == b && C 10 e == 0
def c_any (p : Nat → Bool) : Nat → Bool
  | 0 => false
  | n + 1 => c_any p n || p n
def c_sl (C : CF) (b k : Nat) : Bool := c_any (fun e => c_ev C 0 b e && C 9 e == k) (C 6 0)
def c_dg (C : CF) (b : Nat) : Bool := c_any (fun e => c_ev C 2 b e) (C 6 0)
def c_rn (C : CF) (b w : Nat) : Nat → Nat
  | 0 => w
  | e + 1 => if c_ev C 1 b e = true then min (c_rn C b w e + 1) 9 else c_rn C b w e
abbrev c_an (C : CF) (k : Nat) : Prop := C 1 k = 2 ∧ C 11 (k / 8) = k
abbrev c_ht (C : CF) (k : Nat) : Nat := if C 1 k = 0 then 1 else 2
def c_pw (C : CF) (k call br : Nat) : Nat × Nat :=
  if call = 0 then (if c_an C k then (C 2 k, br) else (0, min (br + (if C 1 k = 1 then 2 else 1)) (C 3 k)))
  else if call = 2 ∧ c_ht C k ≤ br then (2 * C 2 k + (if c_an C k then 2 else 0), br - c_ht C k)
  else if br = 0 then (0, 0) else (C 2 k + (if c_an C k then 2 else 0), br - 1)
def c_fo (C : CF) (b k call wet br : Nat) : Nat × Nat :=
  if c_he C k ∧ c_sl C b k = false then ((c_pw C k call br).1 - (if C 1 k = 2 then 0 else wet), (c_pw C k call br).2) else (0, br)
def c_ps (f : Nat → Nat) (t : Nat) : Nat → Nat
  | 0 => 0
  | k + 1 => c_ps f t k + (if k / 8 = t then f k else 0)
def c_ca (C : CF) (b t : Nat) : Nat := if c_dg C b = true then 0 else C 4 (24 * t + b)
def c_we (C : CF) (b : Nat) (S : CF) : Nat := c_rn C b (S 0 1) (C 6 0)
abbrev c_won (r : Nat) : Prop := 22 ≤ r ∨ r ≤ 2
/-- what k pulls on beat b, its breath -/
def c_f (C : CF) (b : Nat) (S : CF) (k : Nat) : Nat × Nat := if c_won (S 0 0) then (0, S 1 k) else c_fo C b k (c_ca C b (k / 8)) (c_we C b S) (S 1 k)
def c_s (C : CF) (b : Nat) (S : CF) (t : Nat) : Nat := c_ps (fun k => (c_f C b S k).1) t 16
def c_go (r s0 s1 : Nat) : Nat := if s1 < s0 then r + min ((s0 - s1) / 3) 3 else r - min ((s1 - s0) / 3) 3
def c_r (C : CF) (b : Nat) (S : CF) : Nat := if c_won (S 0 0) then S 0 0 else c_go (S 0 0) (c_s C b S 0) (c_s C b S 1)
/-- a state: 0 0 the rope, 0 1 mud, 0 2 the beat of the win and 1 (0: none), 0 3 levels; 1 k breath; 2 k what is done; of the last beat 3 k what each pulls, 4 t a team's sum -/
def c_bs (C : CF) (b : Nat) (S : CF) : CF := fun j x =>
  if j = 0 then (if x = 0 then c_r C b S else if x = 1 then c_we C b S else if x = 2 then (if c_won (S 0 0) then S 0 2 else if c_won (c_r C b S) then b + 1 else 0) else if c_won (S 0 0) then S 0 3 else S 0 3 + (if c_s C b S 0 = c_s C b S 1 then 1 else 0))
  else if j = 1 then (c_f C b S x).2 else if j = 2 then S 2 x + (c_f C b S x).1 else if j = 3 then (c_f C b S x).1 else c_s C b S x
def c_rs (C : CF) : Nat → CF
  | 0 => fun j x => if j = 0 then (if x = 0 then 12 else if x = 1 then C 5 0 else 0) else if j = 1 then (if c_th C x then C 3 x else 0) else 0
  | b + 1 => c_bs C b (c_rs C b)
/-- bounds -/
def c_B (C : CF) : Prop := (∀ t, C 0 t ≤ 8) ∧ (∀ k, C 1 k ≤ 2 ∧ C 2 k ≤ 9 ∧ C 3 k ≤ 9) ∧ (∀ x, C 4 x ≤ 2) ∧ C 5 0 ≤ 9 ∧ C 6 0 ≤ 8 ∧ (∀ e, C 7 e ≤ 2 ∧ C 8 e ≤ 23 ∧ C 9 e ≤ 15)
def c_SB (C : CF) (b : Nat) (S : CF) : Prop := S 0 0 ≤ 24 ∧ S 0 1 ≤ 9 ∧ (∀ k, S 1 k ≤ C 3 k) ∧ S 0 3 ≤ b ∧ (∀ k, S 2 k ≤ 20 * b) ∧ (¬ c_won (S 0 0) → S 0 2 = 0) ∧ S 0 2 ≤ b ∧ (∀ k, ¬ c_he C k → S 2 k = 0)
theorem c_rn_le {C : CF} {b w : Nat} (hw : w ≤ 9) : ∀ e, c_rn C b w e ≤ 9
  | 0 => hw
  | e + 1 => by
    have := c_rn_le (C := C) (b := b) hw e
    unfold c_rn
    split <;> omega
theorem c_pw_le {C : CF} (hC : c_B C) {k call br : Nat} (hb : br ≤ C 3 k) : (c_pw C k call br).1 ≤ 20 ∧ (c_pw C k call br).2 ≤ C 3 k := by
  have h1 := hC.2.1 k
  unfold c_pw
  split
  · split
    · exact ⟨by show C 2 k ≤ 20; omega, hb⟩
    · exact ⟨Nat.zero_le _, Nat.min_le_right _ _⟩
  · split
    · refine ⟨?_, Nat.le_trans (Nat.sub_le _ _) hb⟩
      show 2 * C 2 k + _ ≤ 20
      split <;> omega
    · split
      · exact ⟨Nat.zero_le _, Nat.zero_le _⟩
      · refine ⟨?_, Nat.le_trans (Nat.sub_le _ _) hb⟩
        show C 2 k + _ ≤ 20
        split <;> omega
theorem c_fo_le {C : CF} (hC : c_B C) {b k call wet br : Nat} (hb : br ≤ C 3 k) : (c_fo C b k call wet br).1 ≤ 20 ∧ (c_fo C b k call wet br).2 ≤ C 3 k := by
  have h := c_pw_le hC (call := call) hb
  unfold c_fo
  split
  · exact ⟨Nat.le_trans (Nat.sub_le _ _) h.1, h.2⟩
  · exact ⟨Nat.zero_le _, hb⟩
theorem c_ps_le {f : Nat → Nat} {t m : Nat} (h : ∀ k, f k ≤ m) : ∀ k, c_ps f t k ≤ m * k
  | 0 => Nat.zero_le _
  | k + 1 => by
    have := c_ps_le (t := t) h k
    have := h k
    unfold c_ps
    rw [Nat.mul_succ]
    split <;> omega
theorem c_ps_out {f : Nat → Nat} {t : Nat} {a : Nat} : ∀ {n : Nat}, (∀ k, a ≤ k → k < a + n → k / 8 = t → f k = 0) → c_ps f t (a + n) = c_ps f t a
  | 0, _ => rfl
  | n + 1, h => by
    show c_ps f t (a + n) + (if (a + n) / 8 = t then f (a + n) else 0) = _
    rw [c_ps_out (n := n) (fun k h1 h2 => h k h1 (by omega))]
    split
    · next q => rw [h (a + n) (by omega) (by omega) q, Nat.add_zero]
    · rw [Nat.add_zero]
theorem c_go_le {r s0 s1 : Nat} (h : ¬ c_won r) : c_go r s0 s1 ≤ 24 := by
  unfold c_go
  split <;> omega
theorem c_rs_SB {C : CF} (hC : c_B C) : ∀ b, c_SB C b (c_rs C b)
  | 0 => by
    refine ⟨show 12 ≤ 24 by decide, hC.2.2.2.1, fun k => ?_, Nat.le_refl 0, fun k => Nat.zero_le _, fun _ => rfl, Nat.le_refl 0, fun _ _ => rfl⟩
    show (if c_th C k then C 3 k else 0) ≤ C 3 k
    split <;> omega
  | b + 1 => by
    obtain ⟨h1, h2, h3, h4, h5, h6, h7, h8⟩ := c_rs_SB hC b
    have hw : c_we C b (c_rs C b) ≤ 9 := c_rn_le h2 _
    have hf : ∀ k, (c_f C b (c_rs C b) k).1 ≤ 20 ∧ (c_f C b (c_rs C b) k).2 ≤ C 3 k := fun k => by
      unfold c_f
      split
      · exact ⟨Nat.zero_le _, h3 k⟩
      · exact c_fo_le hC (h3 k)
    have hr : c_r C b (c_rs C b) ≤ 24 := by
      unfold c_r
      split
      · exact h1
      · next q => exact c_go_le q
    refine ⟨hr, hw, fun k => (hf k).2, ?_, fun k => ?_, fun z => ?_, ?_, fun k hk => ?_⟩
    · show (if c_won (c_rs C b 0 0) then c_rs C b 0 3 else c_rs C b 0 3 + (if _ then 1 else 0)) ≤ b + 1
      split
      · omega
      · split <;> omega
    · show c_rs C b 2 k + (c_f C b (c_rs C b) k).1 ≤ 20 * (b + 1)
      have := (hf k).1
      have := h5 k
      omega
    · show (if c_won (c_rs C b 0 0) then c_rs C b 0 2 else if c_won (c_r C b (c_rs C b)) then b + 1 else 0) = 0
      have z : ¬ c_won (c_r C b (c_rs C b)) := z
      split
      · next q => exact absurd (by unfold c_r; rw [if_pos q]; exact q) z
      · rfl
    · show (if c_won (c_rs C b 0 0) then c_rs C b 0 2 else if c_won (c_r C b (c_rs C b)) then b + 1 else 0) ≤ b + 1
      split
      · omega
      · split <;> omega
    · show c_rs C b 2 k + (c_f C b (c_rs C b) k).1 = 0
      rw [h8 k hk]
      unfold c_f
      split
      · rfl
      · unfold c_fo
        rw [if_neg (fun z => hk z.1)]
        rfl
theorem c_f_le {C : CF} (hC : c_B C) (b k : Nat) : (c_f C b (c_rs C b) k).1 ≤ 20 ∧ (c_f C b (c_rs C b) k).2 ≤ C 3 k := by
  have h3 := (c_rs_SB hC b).2.2.1 k
  unfold c_f
  split
  · exact ⟨Nat.zero_le _, h3⟩
  · exact c_fo_le hC h3
theorem c_s_le {C : CF} (hC : c_B C) (b t : Nat) : c_s C b (c_rs C b) t ≤ 320 := c_ps_le (m := 20) (fun k => (c_f_le hC b k).1) 16
def v_wi (r : Nat) : Int32 := if 22 ≤ r then nI 0 else if r ≤ 2 then nI 1 else -nI 1
def v_wb (n : Nat) : Int32 := if n = 0 then -nI 1 else nI (n - 1)
