set_option maxRecDepth 100000
/-! What the changing operations answer and keep. -/
abbrev OS : Type := Int32 × CF × (Nat → Int32)
def o_meets (P : CF) (Q : Nat → Int32) (k : Nat) : OS := (-nI 10 - nI k, fw_u2 P 13 0 k, Q)
def o_type (P : CF) (Q : Nat → Int32) (x b : Int32) : OS := if bd x 3 then (-nI 2, P, Q) else if bd b 255 then (-nI 2, P, Q) else if P 0 (oN x) = (if 2 ≤ oN x then 24 else 31) then (-nI 4, P, Q) else (nI (P 0 (oN x) + 1), fw_u2 (fw_u2 P 1 (31 * oN x + P 0 (oN x)) (oN b)) 0 (oN x) (P 0 (oN x) + 1), Q)
def o_wipe (P : CF) (Q : Nat → Int32) (x : Int32) : OS := if bd x 3 then (-nI 2, P, Q) else (nI (P 0 (oN x)), fw_u2 P 0 (oN x) 0, Q)
def o_undo (P : CF) (Q : Nat → Int32) (x : Int32) : OS := if bd x 3 then (-nI 2, P, Q) else if P 0 (oN x) = 0 then (-nI 3, P, Q) else (nI (P 0 (oN x) - 1), fw_u2 P 0 (oN x) (P 0 (oN x) - 1), Q)
def o_mud (P : CF) (Q : Nat → Int32) (x : Int32) : OS := if bd x 9 then (-nI 2, P, Q) else (nI (P 2 0), fw_u2 P 2 0 (oN x), Q)
def o_event (P : CF) (Q : Nat → Int32) (x y z : Int32) : OS := if bd x 2 then (-nI 2, P, Q) else if bd y 23 then (-nI 2, P, Q) else if bd z 15 then (-nI 2, P, Q) else if P 3 0 = 8 then (-nI 4, P, Q) else (nI (P 3 0 + 1), fw_u2 (fw_u2 (fw_u2 (fw_u2 P 4 (P 3 0) (oN x)) 5 (P 3 0) (oN y)) 6 (P 3 0) (oN z)) 3 0 (P 3 0 + 1), Q)
def o_back (P : CF) (Q : Nat → Int32) : OS := if P 3 0 = 0 then (-nI 3, P, Q) else (nI (P 3 0 - 1), fw_u2 P 3 0 (P 3 0 - 1), Q)
def o_seen (P : CF) (Q : Nat → Int32) (x y : Int32) : OS := if bd x 23 then (-nI 2, P, Q) else if bd y 24 then (-nI 2, P, Q) else if P 7 0 = 8 then (-nI 4, P, Q) else (nI (P 7 0 + 1), fw_u2 (fw_u2 (fw_u2 P 8 (P 7 0) (oN x)) 9 (P 7 0) (oN y)) 7 0 (P 7 0 + 1), Q)
def o_forget (P : CF) (Q : Nat → Int32) : OS := (nI (P 7 0), fw_u2 P 7 0 0, Q)
/-- reading a sheet's events from the i-th on -/
def o_rl (Q : Nat → Int32) (s : Nat) : Nat → Nat → CF → Int32 × CF
  | 0, i, P => (nI i, P)
  | m + 1, i, P => if P 12 s ≤ 3 * i + 2 then (nI i, P) else
    let r := o_event P Q (Q (60 * s + 3 * i)) (Q (60 * s + 3 * i + 1)) (Q (60 * s + 3 * i + 2))
    if r.1 ≤ 0 then (nI i, P) else o_rl Q s m (i + 1) r.2.1
def o_read (P : CF) (Q : Nat → Int32) (x : Int32) : OS := if bd x 3 then (-nI 2, P, Q) else if P 10 (oN x) = 0 then o_meets P Q 1 else ((o_rl Q (oN x) 20 0 P).1, (o_rl Q (oN x) 20 0 P).2, Q)
def o_sheet (P : CF) (Q : Nat → Int32) (x y z : Int32) : OS := if bd x 3 then (-nI 2, P, Q) else if bd y 2 then (-nI 2, P, Q) else if nI 60 < z then (-nI 2, P, Q) else if z < 0 then o_meets P Q 5 else (z, fw_u2 (fw_u2 (fw_u2 P 10 (oN x) 1) 11 (oN x) (oN y)) 12 (oN x) (oN z), fun j => if 60 * oN x ≤ j ∧ j < 60 * oN x + 60 then nI 0 else Q j)
def o_lose (P : CF) (Q : Nat → Int32) (x : Int32) : OS := if bd x 3 then (-nI 2, P, Q) else if P 10 (oN x) = 0 then o_meets P Q 1 else (nI (P 12 (oN x)), fw_u2 P 10 (oN x) 0, Q)
def o_lk (P : CF) (s f : Nat) (z : Int32) : Nat := if P 10 s = 0 then 1 else if P 11 s = f then (if z < nI 0 ∨ nI (P 12 s) - nI 1 < z then 2 else 0) else 3
def o_nw (f : Nat) (w : Int32) : Int32 := if f = 0 then w.toInt8.toInt32 else if f = 1 then w.toInt16.toInt32 else w
def o_put (P : CF) (Q : Nat → Int32) (x y z w : Int32) : OS := if bd x 3 then (-nI 2, P, Q) else if bd y 2 then (-nI 2, P, Q) else if o_lk P (oN x) (oN y) z = 0 then (nI 1, P, fun j => if j = 60 * oN x + oN z then o_nw (P 11 (oN x)) w else Q j) else o_meets P Q (o_lk P (oN x) (oN y) z)
def o_get (P : CF) (Q : Nat → Int32) (x y z : Int32) : OS := if bd x 3 then ((-2147483648 : Int32), P, Q) else if bd y 2 then ((-2147483648 : Int32), P, Q) else if o_lk P (oN x) (oN y) z = 0 then (Q (60 * oN x + oN z), P, Q) else ((-2147483648 : Int32), fw_u2 P 13 0 (o_lk P (oN x) (oN y) z), Q)
def o_copy (P : CF) (Q : Nat → Int32) (x a y b n : Int32) : OS :=
  if bd x 3 then (-nI 2, P, Q) else if bd y 3 then (-nI 2, P, Q) else if P 10 (oN x) = 0 then o_meets P Q 1 else if P 10 (oN y) = 0 then o_meets P Q 1 else if ¬ P 11 (oN x) = P 11 (oN y) then o_meets P Q 4
  else if a < 0 ∨ b < 0 ∨ n < 0 ∨ (P 12 (oN x) : Int) < a.toInt + n.toInt ∨ (P 12 (oN y) : Int) < b.toInt + n.toInt then o_meets P Q 2
  else (nI 1, P, fun j => if 60 * oN y + oN b ≤ j ∧ j < 60 * oN y + oN b + oN n then Q (60 * oN x + oN a + (j - (60 * oN y + oN b))) else Q j)
def o_write (P : CF) (Q : Nat → Int32) (x : Int32) : OS := if bd x 3 then (-nI 2, P, Q) else if P 10 (oN x) = 0 then o_meets P Q 1 else (nI (min (P 12 (oN x)) 24), P, fun j => if 60 * oN x ≤ j ∧ j < 60 * oN x + min (P 12 (oN x)) 24 then o_nw (P 11 (oN x)) (nI (c_rs (c_to P) (j - 60 * oN x + 1) 0 0)) else Q j)
/-! they keep the bounds -/
theorem p_B.w {P : CF} (h : p_B P) {j x v : Nat} (hv : (j = 0 → v ≤ if x < 2 then 31 else 24) ∧ (j = 1 → v ≤ 255) ∧ (j = 2 → x = 0 → v ≤ 9) ∧ (j = 3 → x = 0 → v ≤ 8) ∧ (j = 4 → v ≤ 2) ∧ (j = 5 → v ≤ 23) ∧ (j = 6 → v ≤ 15) ∧ (j = 7 → x = 0 → v ≤ 8) ∧ (j = 8 → v ≤ 23) ∧ (j = 9 → v ≤ 24) ∧ (j = 10 → v ≤ 1) ∧ (j = 11 → v ≤ 2) ∧ (j = 12 → v ≤ 60) ∧ (j = 13 → x = 0 → v ≤ 5)) : p_B (fw_u2 P j x v) := by
  obtain ⟨h0, h1, h2, h3, h4, h7, h8, h10, h13⟩ := h
  obtain ⟨v0, v1, v2, v3, v4, v5, v6, v7, v8, v9, v10, v11, v12, v13⟩ := hv
  have g : ∀ (q : Nat → Prop) (a b : Nat), (a = j → b = x → q v) → q (P a b) → q (fw_u2 P j x v a b) := fun q a b e1 e2 => by
    rw [fw_u2_at]
    split
    · next z => exact e1 z.1 z.2
    · exact e2
  refine ⟨fun t => g (fun w => w ≤ if t < 2 then 31 else 24) 0 t (fun a b => by rw [b]; exact v0 a.symm) (h0 t), fun y => g (fun w => w ≤ 255) 1 y (fun a _ => v1 a.symm) (h1 y), g (fun w => w ≤ 9) 2 0 (fun a b => v2 a.symm b.symm) h2, g (fun w => w ≤ 8) 3 0 (fun a b => v3 a.symm b.symm) h3, fun e => ⟨g (fun w => w ≤ 2) 4 e (fun a _ => v4 a.symm) (h4 e).1, g (fun w => w ≤ 23) 5 e (fun a _ => v5 a.symm) (h4 e).2.1, g (fun w => w ≤ 15) 6 e (fun a _ => v6 a.symm) (h4 e).2.2⟩, g (fun w => w ≤ 8) 7 0 (fun a b => v7 a.symm b.symm) h7, fun e => ⟨g (fun w => w ≤ 23) 8 e (fun a _ => v8 a.symm) (h8 e).1, g (fun w => w ≤ 24) 9 e (fun a _ => v9 a.symm) (h8 e).2⟩, fun e => ⟨g (fun w => w ≤ 1) 10 e (fun a _ => v10 a.symm) (h10 e).1, g (fun w => w ≤ 2) 11 e (fun a _ => v11 a.symm) (h10 e).2.1, g (fun w => w ≤ 60) 12 e (fun a _ => v12 a.symm) (h10 e).2.2⟩, g (fun w => w ≤ 5) 13 0 (fun a b => v13 a.symm b.symm) h13⟩
