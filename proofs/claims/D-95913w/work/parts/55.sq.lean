set_option maxRecDepth 100000
/-! What is kept from call to call (P, Q), the configuration as it is told, what the calls answer. -/
/-- P: 0 t typed; 1 (31 t + i) bytes; 2 0 mud; 3 0 how many events; 4 5 6 e kind, beat, number; 7 0 how many seen; 8 9 j beat, place; 10 s is there; 11 s form; 12 s size; 13 0 finding. Q (60 s + i) items -/
def p_y (P : CF) (t i : Nat) : Nat := P 1 (31 * t + i)
def c_so (y : Nat) : Nat := if y = 104 then 0 else if y = 108 then 1 else if y = 97 then 2 else 3
def c_fi (y : Nat) : Bool := decide (49 ≤ y ∧ y ≤ 57)
/-- how far a puller is good that begins at a -/
def c_g (y : Nat → Nat) (T a : Nat) : Nat :=
  if a < T ∧ c_so (y a) < 3 then (if a + 1 < T ∧ c_fi (y (a + 1)) = true then (if a + 2 < T ∧ c_fi (y (a + 2)) = true then 3 else 2) else 1) else 0
/-- a team's text from puller n on: the fault, how many -/
def c_tp (y : Nat → Nat) (T : Nat) : Nat → Nat → Int32 × Nat
  | 0, _ => (-nI 1, 0)
  | m + 1, n => if c_g y T (4 * n) < 3 then (nI (4 * n + c_g y T (4 * n)), 0) else if 4 * n + 3 = T then (-nI 1, n + 1) else if 4 * n + 3 < T ∧ y (4 * n + 3) = 59 then c_tp y T m (n + 1) else (nI (4 * n + 3), 0)
def c_te (y : Nat → Nat) (T : Nat) : Int32 × Nat := if T = 0 then (-nI 1, 0) else c_tp y T 9 0
def c_co (y : Nat) : Nat := if y = 114 then 0 else if y = 112 then 1 else if y = 104 then 2 else 3
/-- the first call that is none, T if there is none -/
def c_cf (y : Nat → Nat) : Nat → Nat
  | 0 => 0
  | T + 1 => if c_cf y T < T then c_cf y T else if c_co (y T) < 3 then T + 1 else T
def c_fa (P : CF) (t : Nat) : Int32 := if t < 2 then (c_te (p_y P t) (P 0 t)).1 else if c_cf (p_y P t) (P 0 t) = P 0 t then -nI 1 else nI (c_cf (p_y P t) (P 0 t))
def c_ma (P : CF) (t : Nat) : Nat := if t < 2 then (c_te (p_y P t) (P 0 t)).2 else if c_cf (p_y P t) (P 0 t) = P 0 t then P 0 t else 0
def c_cl (P : CF) (t b : Nat) : Nat := if c_cf (p_y P (t + 2)) (P 0 (t + 2)) = P 0 (t + 2) ∧ b < P 0 (t + 2) then min (c_co (p_y P (t + 2) b)) 2 else 1
/-- as it is told -/
def c_to (P : CF) : CF := fun j x => match j with
  | 0 => if x < 2 then c_ma P x else 0
  | 1 => min (c_so (p_y P (x / 8) (4 * (x % 8)))) 2
  | 2 => min (p_y P (x / 8) (4 * (x % 8) + 1) - 48) 9
  | 3 => min (p_y P (x / 8) (4 * (x % 8) + 2) - 48) 9
  | 4 => c_cl P (x / 24) (x % 24)
  | 5 => P 2 0
  | 6 => P 3 0
  | 7 => P 4 x
  | 8 => P 5 x
  | 9 => P 6 x
  | 10 => 0
  | 11 => if c_ma P x = 0 then 16 else 8 * x + c_ma P x - 1
  | _ => 16
def p_B (P : CF) : Prop := (∀ t, P 0 t ≤ if t < 2 then 31 else 24) ∧ (∀ x, P 1 x ≤ 255) ∧ P 2 0 ≤ 9 ∧ P 3 0 ≤ 8 ∧ (∀ e, P 4 e ≤ 2 ∧ P 5 e ≤ 23 ∧ P 6 e ≤ 15) ∧ P 7 0 ≤ 8 ∧ (∀ j, P 8 j ≤ 23 ∧ P 9 j ≤ 24) ∧ (∀ s, P 10 s ≤ 1 ∧ P 11 s ≤ 2 ∧ P 12 s ≤ 60) ∧ P 13 0 ≤ 5
theorem c_tp_le {y : Nat → Nat} {T : Nat} (hT : T ≤ 31) : ∀ m n, (c_tp y T m n).2 ≤ 8
  | 0, _ => Nat.zero_le _
  | m + 1, n => by
    have := c_tp_le (y := y) hT m (n + 1)
    unfold c_tp
    split
    · exact Nat.zero_le _
    · split
      · show n + 1 ≤ 8; omega
      · split
        · exact this
        · exact Nat.zero_le _
theorem c_te_le {y : Nat → Nat} {T : Nat} (hT : T ≤ 31) : (c_te y T).2 ≤ 8 := by
  unfold c_te
  split
  · exact Nat.zero_le _
  · exact c_tp_le hT _ _
theorem c_to_B {P : CF} (hP : p_B P) : c_B (c_to P) := by
  refine ⟨fun t => ?_, fun k => ⟨Nat.min_le_right _ _, Nat.min_le_right _ _, Nat.min_le_right _ _⟩, fun x => ?_, hP.2.2.1, hP.2.2.2.1, hP.2.2.2.2.1⟩
  · show (if t < 2 then c_ma P t else 0) ≤ 8
    split
    · next h =>
      unfold c_ma
      rw [if_pos h]
      refine c_te_le ?_
      have := hP.1 t
      rwa [if_pos h] at this
    · exact Nat.zero_le _
  · show c_cl P _ _ ≤ 2
    unfold c_cl
    split
    · exact Nat.min_le_right _ _
    · decide
/-! what the beats' calls answer -/
def c_ro (C : CF) : Nat := c_rs C 24 0 0
def v_rope (C : CF) (b w : Nat) : Nat := if w = 0 then c_rs C (b + 1) 0 0 else if w = 3 then c_rs C (b + 1) 0 1 else c_rs C (b + 1) 4 (w - 1)
def v_at (C : CF) (b k w : Nat) : Nat := if w = 0 then c_rs C (b + 1) 3 k else c_rs C (b + 1) 1 k
def v_fu (C : CF) (w : Nat) : Nat → Nat
  | 0 => 12
  | b + 1 => if w = 0 then max (c_rs C (b + 1) 0 0) (v_fu C w b) else min (c_rs C (b + 1) 0 0) (v_fu C w b)
/-- bits: 1 at each place with p -/
def v_bi (p : Nat → Bool) : Nat → Int32
  | 0 => nI 0
  | n + 1 => v_bi p n ||| (if p n = true then nI 1 <<< (nI n &&& 31) else nI 0)
def v_sp (C : CF) : Int32 := v_bi (fun k => decide (c_th C k ∧ c_rs C 24 1 k = 0)) 16
/-- who has done the most: 0 none, else 1 more than who; how much -/
def v_be (C : CF) : Nat → Nat × Nat
  | 0 => (0, 0)
  | k + 1 => if (v_be C k).2 < c_rs C 24 2 k then (k + 1, c_rs C 24 2 k) else v_be C k
/-- the best plan of those before n: 0 none, else 1 more than which; the rope -/
def v_pl (t : Nat) (ok : Nat → Bool) (r : Nat → Nat) : Nat → Nat × Nat
  | 0 => (0, 0)
  | n + 1 => if ok n = true ∧ ((v_pl t ok r n).1 = 0 ∨ (if t = 0 then (v_pl t ok r n).2 < r n else r n < (v_pl t ok r n).2)) then (n + 1, r n) else v_pl t ok r n
def c_wc (C : CF) (t b v : Nat) : CF := fw_u2 C 4 (24 * t + b) v
def v_bt (C : CF) (t b w : Nat) : Int32 := if w = 0 then nI ((v_pl t (fun _ => true) (fun v => c_ro (c_wc C t b v)) 3).1 - 1) else nI (v_pl t (fun _ => true) (fun v => c_ro (c_wc C t b v)) 3).2
/-- two have changed places: the last of the team -/
def c_ws (C : CF) (t a b : Nat) : CF := fw_u2 C 11 t (if C 11 t = 8 * t + a then 8 * t + b else if C 11 t = 8 * t + b then 8 * t + a else C 11 t)
def v_sw (C : CF) (t w : Nat) : Int32 :=
  let n := C 0 t
  let p := v_pl t (fun c => decide (c / n < c % n)) (fun c => c_ro (c_ws C t (c / n) (c % n))) (n * n)
  if p.1 = 0 then -nI 1 else if w = 0 then nI (8 * t + (p.1 - 1) / n) else if w = 1 then nI (8 * t + (p.1 - 1) % n) else nI p.2
/-- one is out -/
def c_wo (C : CF) (t i : Nat) : CF := fw_u2 (fw_u2 C 12 0 (8 * t + i)) 11 t (if i + 1 = C 0 t then (if i = 0 then 16 else 8 * t + i - 1) else C 11 t)
def v_ou (C : CF) (t w : Nat) : Int32 :=
  let p := v_pl t (fun _ => true) (fun i => c_ro (c_wo C t i)) (C 0 t)
  if p.1 = 0 then -nI 1 else if w = 0 then nI (8 * t + p.1 - 1) else nI p.2
/-- events that are not, as bits -/
def c_wg (C : CF) (g : Int32) : CF := fun j x => if j = 10 then (if bt g x = true then 1 else 0) else C j x
def v_is (C : CF) (g : Int32) : Bool := decide (¬ (c_ro (c_wg C g) ≤ 2))
def v_b1 (a : Nat) : Int32 := nI 1 <<< (nI a &&& 31)
/-- the first of a to n with p, n if there is none -/
def v_fs (p : Nat → Bool) : Nat → Nat → Nat
  | a, 0 => a
  | a, m + 1 => if p a = true then a else v_fs p (a + 1) m
def v_se (P C : CF) : Bool := (List.range (P 7 0)).all (fun j => c_rs C (P 8 j + 1) 0 0 == P 9 j)
def v_ne (P C : CF) : Int32 := v_bi (fun e => v_se P (c_wg C (v_b1 e))) (P 3 0)
def v_wt (P C : CF) (k : Nat) : Int32 := v_bi (fun v => decide (1 ≤ v) && v_se P (fw_u2 C 2 k v)) 10
def v_so (P C : CF) (k : Nat) : Int32 := v_bi (fun v => v_se P (fw_u2 C 1 k v)) 3
/-- how many of 1 to n are as a is, on a beat -/
def v_cn (g : Int32) (r : Nat → Nat → Nat) (b a : Nat) : Nat → Nat
  | 0 => 0
  | n + 1 => v_cn g r b a n + (if bt g a = true ∧ bt g (n + 1) = true ∧ r a b = r (n + 1) b then 1 else 0)
def v_mx (g : Int32) (r : Nat → Nat → Nat) (b : Nat) : Nat → Nat
  | 0 => 0
  | a + 1 => max (v_cn g r b (a + 1) 9) (v_mx g r b a)
def v_as (g : Int32) (r : Nat → Nat → Nat) : Nat → Nat
  | 0 => 0
  | b + 1 => if v_mx g r b 9 < v_mx g r (v_as g r b) 9 then b else v_as g r b
def v_ak (P C : CF) (k : Nat) : Int32 := nI (v_as (v_wt P C k) (fun v b => c_rs (fw_u2 C 2 k v) (b + 1) 0 0) 24)
def v_cw (c g : Nat) : Nat → Nat
  | 0 => 1
  | i + 1 => v_cw c g i * (if bt (nI g) i = true then 16 - c else c)
def v_cs (C : CF) (c t n : Nat) : Nat → Nat
  | 0 => 0
  | g + 1 => v_cs C c t n g + (if v_wi (c_ro (c_wg C (nI g))) = nI t then v_cw c g n else 0)
def v_ch (P C : CF) (c t w : Nat) : Int64 :=
  let s := v_cs C c t (P 3 0) (2 ^ P 3 0)
  lN ((if w = 0 then s else 16 ^ P 3 0) / Nat.gcd s (16 ^ P 3 0))
def v_yd (s : Int32) : Nat → Int32
  | 0 => s
  | b + 1 => 1103515245 * v_yd s b + nI 12345
def c_wy (C : CF) (s : Int32) (n : Nat) : CF := fun j x => if j = 4 ∧ 24 ≤ x ∧ x < 48 then (if x - 24 < n then (v_yd s (x - 24 + 1)).toBitVec.toNat / 65536 % 3 else 1) else C j x
def v_ye (C : CF) (s : Int32) (n w : Nat) : Int32 := if w = 0 then nI (c_ro (c_wy C s n)) else v_wi (c_ro (c_wy C s n))
/-- spare: how many, which -/
def v_s2 (C : CF) (n : Nat) : Nat → Option (Nat × Nat)
  | 0 => none
  | m + 1 => let a := n - (m + 1)
    let b := v_fs (fun b => v_is C (v_b1 a ||| v_b1 b)) (a + 1) (n - (a + 1))
    if b < n then some (a, b) else v_s2 C n m
def v_sr (C : CF) (n : Nat) (i : Int32) : Int32 :=
  if v_is C 0 = true then (if i = -nI 1 then nI 0 else -nI 1)
  else if v_fs (fun a => v_is C (v_b1 a)) 0 n < n then (if i = -nI 1 then nI 1 else if i = nI 0 then nI (v_fs (fun a => v_is C (v_b1 a)) 0 n) else -nI 1)
  else match v_s2 C n n with
    | none => -nI 1
    | some (a, b) => if i = -nI 1 then nI 2 else if i = nI 0 then nI a else nI b
/-! the digest -/
def v_h (h : Int64) (v : Int32) : Int64 := 31 * h + v.toInt64
def v_fd (f : Nat → Int32) (h : Int64) : Nat → Int64
  | 0 => h
  | n + 1 => v_h (v_fd f h n) (f n)
def v_co (P C : CF) (w : Nat) : Int32 :=
  if w < 4 then nI (c_ma P w) else if w = 4 then nI (P 0 0 + P 0 1 + P 0 2 + P 0 3) else if w = 5 then nI (P 3 0) else if w = 6 then nI (c_ro C) else if w = 7 then nI (P 7 0) else if w = 8 then nI (P 13 0) else -nI 2
def v_d3 (C : CF) (h : Int64) : Nat → Int64
  | 0 => h
  | b + 1 => v_fd (fun w => nI (v_rope C b w)) (v_fd (fun t => nI (C 4 (24 * t + b))) (v_d3 C h b) 2) 4
def v_dp (P C : CF) (k : Nat) (h : Int64) : Int64 :=
  let a := v_fd (fun w => nI (C (w + 1) k)) h 3
  let at' := fun (b : Nat) (h : Int64) => v_fd (fun w => nI (v_at C b k w)) h 2
  let d := v_h (at' 23 (at' 12 (at' 5 (at' 0 a)))) (nI (c_rs C 24 2 k))
  v_h (v_h (v_h d (v_wt P C k)) (v_so P C k)) (v_ak P C k)
def v_d4 (P C : CF) (h : Int64) : Nat → Int64
  | 0 => h
  | k + 1 => if c_th C k then v_dp P C k (v_d4 P C h k) else v_d4 P C h k
def v_dt (P C : CF) (t : Nat) (h : Int64) : Int64 :=
  let a := v_fd (fun w => v_ou C t w) (v_fd (fun w => v_sw C t w) (v_fd (fun w => v_bt C t 4 w) h 2) 3) 2
  31 * (31 * a + v_ch P C 5 t 0) + v_ch P C 5 t 1
def v_di (P : CF) : Int64 :=
  let C := c_to P
  let h1 := v_fd (fun t => c_fa P t) (v_fd (fun w => v_co P C w) 17 8) 4
  let h2 := v_dt P C 1 (v_dt P C 0 (v_d4 P C (v_d3 C h1 24) 16))
  let h3 := v_h (v_h h2 (v_wi (c_ro C))) (v_wb (c_rs C 24 0 2))
  let h4 := v_fd (fun w => nI (v_fu C w 24)) h3 2
  let h5 := v_h (v_h (v_h h4 (v_sp C)) (if (v_be C 16).1 = 0 then -nI 1 else nI ((v_be C 16).1 - 1))) (nI (c_rs C 24 0 3))
  let h6 := v_h (v_h (v_h h5 (v_sr C (P 3 0) (-nI 1))) (v_sr C (P 3 0) (nI 0))) (v_ne P C)
  v_fd (fun w => v_ye C (nI 7) 18 w) h6 2
