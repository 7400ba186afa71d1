/-! THE WORLD behind the constructors: cells 1 .. 649 ApplyFree's, 650 .. 666 ApplyFreeModel's, then two for each table (printed by wip/gen/world.py) -/
/-- the script's length, how many tables, their columns, the index's two arrays -/
abbrev wd_Z : Type := Nat × Nat × (Nat → Nat) × Option Nat × Option Nat
def wd_nth {α : Type} (d : α) : List α → Nat → α
  | [], _ => d
  | x :: _, 0 => x
  | _ :: t, n + 1 => wd_nth d t n
def wd_t1 : List (Nat ⊕ (Nat × Nat)) := [.inr (99, 0), .inl 0, .inr (5, 6), .inl 1, .inr (1, 120), .inr (1, 120), .inr (2, 120), .inr (2, 120), .inr (0, 120), .inr (1, 120), .inr (1, 120), .inr (0, 120), .inr (0, 120), .inr (0, 120), .inl 2, .inr (1, 32768), .inr (0, 32768), .inr (0, 32768), .inr (0, 32768), .inr (0, 32768), .inr (0, 32768), .inr (0, 32768), .inr (0, 524288), .inl 3, .inl 4, .inr (0, 32), .inr (6, 300), .inr (0, 3000)]
def wd_t2 : List (Nat ⊕ (Nat × Nat)) := [.inl 5, .inl 6, .inr (0, 256), .inl 7, .inr (0, 4096), .inr (0, 8192), .inr (0, 8192), .inr (0, 8192), .inr (0, 8192), .inr (0, 8192), .inr (0, 600000), .inr (0, 32768), .inr (0, 32768), .inr (0, 32768), .inr (0, 32768), .inr (0, 32768), .inr (0, 256), .inr (0, 8192), .inr (0, 8192), .inr (0, 8192), .inr (4, 8192), .inr (0, 24000), .inl 8, .inr (0, 6), .inr (0, 6), .inr (0, 576), .inr (0, 120), .inr (0, 120), .inr (0, 120), .inr (0, 120), .inr (0, 120), .inr (0, 120), .inr (0, 120), .inr (0, 480), .inr (3, 120), .inr (3, 120), .inr (0, 40000), .inr (0, 600000), .inr (0, 130)]
def wd_r1 : List (List (Option Nat)) := [[], [some 2, none, some 3, some 14, some 23, some 628, some 649, none, none], [], [some 2, some 4, some 5, some 6, some 7, some 8, some 9, some 10, some 11, some 12, some 13, none], [], [], [], [], [], [], [], [], [], [], [none, some 15, some 16, some 17, some 18, some 19, some 20, some 21, some 22, none], [], [], [], [], [], [], [], [], [some 3, some 14, some 24, some 26, none, some 27, none, none], [none, none, some 25, none], [], [], []]
def wd_r2 : List (List (Option Nat)) := [[some 2, some 14, some 629, some 631, some 638, none, some 639, some 640, some 641, some 642, some 643, none, some 644, some 645, some 646, some 647, some 648], [some 630], [], [some 632, some 633, some 634, some 635, some 636, some 637, none, none, none, none, none, none, none], [], [], [], [], [], [], [], [], [], [], [], [], [], [], [], [], [], [], [none, some 651, some 652, some 653, none, some 654, some 655, some 656, some 657, some 658, some 659, some 660, some 661, some 662, some 663, none, none, some 664, some 665, none, some 666, none], [], [], [], [], [], [], [], [], [], [], [], [], [], [], [], []]
def wd_typ (z : wd_Z) (a : Nat) : Nat ⊕ (Nat × Nat) := cond (Nat.blt a 28) (cond (Nat.beq a 0) (.inr (7, z.1)) (wd_nth (.inr (99, 0)) wd_t1 a)) (cond (Nat.blt a 628) (cond (Nat.beq (a % 2) 0) (.inl 4) (.inr (0, 32))) (cond (Nat.blt a 667) (wd_nth (.inr (99, 0)) wd_t2 (a - 628)) (cond (Nat.blt a (667 + 2 * z.2.1)) (cond (Nat.beq (a % 2) 1) (.inl 9) (.inr (0, z.2.2.1 ((a - 667) / 2) * 24))) (.inr (99, 0)))))
def wd_R (z : wd_Z) (a k : Nat) : Option Nat := cond (Nat.blt a 28) (cond (Nat.beq a 2) (cond (Nat.blt k z.2.1) (some (667 + 2 * k)) none) (cond (Nat.beq a 26) (cond (Nat.blt k 300) (some (28 + 2 * k)) none) (wd_nth none (wd_nth [] wd_r1 a) k))) (cond (Nat.blt a 628) (cond (Nat.beq (a % 2) 0 && Nat.beq k 2) (some (a + 1)) none) (cond (Nat.blt a 667) (cond (Nat.beq a 631 && Nat.beq k 7) z.2.2.2.1 (cond (Nat.beq a 631 && Nat.beq k 10) z.2.2.2.2 (wd_nth none (wd_nth [] wd_r2 (a - 628)) k))) (cond (Nat.blt a (667 + 2 * z.2.1) && (Nat.beq (a % 2) 1 && Nat.beq k 1)) (some (a + 1)) none)))
abbrev wd_M : Type := Nat → Nat → Int32
abbrev wd_L : Type := Nat → Nat → Int64
def wd (z : wd_Z) (M : wd_M) (L : wd_L) : am_Mem := (M, L, wd_R z, wd_typ z, 666 + 2 * z.2.1)
/-- the memory behind a call is a world again -/
def wd_lf : am_LF := fun P m => ∃ (z : wd_Z) (M : wd_M) (L : wd_L), m = wd z M L ∧ P (wd z M L)
theorem wd_lf_e : ∀ (P : am_Mem → Prop) (m : am_Mem), wd_lf P m → P m := by
  rintro P m ⟨z, M, L, rfl, h⟩
  exact h
def wQi (K : Int32 → wd_Z → wd_M → wd_L → Prop) : am_Q := am_Qi (fun v m => ∃ (z : wd_Z) (M : wd_M) (L : wd_L), m = wd z M L ∧ K v z M L)
def wQl (K : Int64 → wd_Z → wd_M → wd_L → Prop) : am_Q := am_Ql (fun v m => ∃ (z : wd_Z) (M : wd_M) (L : wd_L), m = wd z M L ∧ K v z M L)
def wQr (K : Nat → wd_Z → wd_M → wd_L → Prop) : am_Q := am_Qr (fun v m => ∃ (z : wd_Z) (M : wd_M) (L : wd_L), m = wd z M L ∧ K v z M L)
def wQv (K : wd_Z → wd_M → wd_L → Prop) : am_Q := am_Qv (fun m => ∃ (z : wd_Z) (M : wd_M) (L : wd_L), m = wd z M L ∧ K z M L)
theorem wQi_i {K : Int32 → wd_Z → wd_M → wd_L → Prop} {v : Int32} {z : wd_Z} {M : wd_M} {L : wd_L} (h : K v z M L) : wQi K (some (.int v)) (wd z M L) := ⟨z, M, L, rfl, h⟩
theorem wQl_i {K : Int64 → wd_Z → wd_M → wd_L → Prop} {v : Int64} {z : wd_Z} {M : wd_M} {L : wd_L} (h : K v z M L) : wQl K (some (.long v)) (wd z M L) := ⟨z, M, L, rfl, h⟩
theorem wQr_i {K : Nat → wd_Z → wd_M → wd_L → Prop} {v : Nat} {z : wd_Z} {M : wd_M} {L : wd_L} (h : K v z M L) : wQr K (some (.ref v)) (wd z M L) := ⟨z, M, L, rfl, h⟩
theorem wQv_i {K : wd_Z → wd_M → wd_L → Prop} {z : wd_Z} {M : wd_M} {L : wd_L} (h : K z M L) : wQv K none (wd z M L) := ⟨z, M, L, rfl, h⟩
abbrev wRun (B : am_Bd) (r : am_MR) (pc : Nat) (al : am_AL) (st : am_ST) (z : wd_Z) (M : wd_M) (L : wd_L) (Q : am_Q) : Prop := am_Run B r pc al st (wd z M L) Q
abbrev wRunI (B : am_Bd) (r : am_MR) (args : List Value) (z : wd_Z) (M : wd_M) (L : wd_L) (K : Int32 → wd_Z → wd_M → wd_L → Prop) : Prop := am_Rn B r args (wd z M L) (wQi K)
abbrev wRunL (B : am_Bd) (r : am_MR) (args : List Value) (z : wd_Z) (M : wd_M) (L : wd_L) (K : Int64 → wd_Z → wd_M → wd_L → Prop) : Prop := am_Rn B r args (wd z M L) (wQl K)
abbrev wRunR (B : am_Bd) (r : am_MR) (args : List Value) (z : wd_Z) (M : wd_M) (L : wd_L) (K : Nat → wd_Z → wd_M → wd_L → Prop) : Prop := am_Rn B r args (wd z M L) (wQr K)
abbrev wRunV (B : am_Bd) (r : am_MR) (args : List Value) (z : wd_Z) (M : wd_M) (L : wd_L) (K : wd_Z → wd_M → wd_L → Prop) : Prop := am_Rn B r args (wd z M L) (wQv K)
