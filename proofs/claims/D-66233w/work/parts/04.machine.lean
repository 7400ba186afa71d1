/-! THE ABSTRACT MACHINE: memory by kinds of slots, cells by number (0: the script; 1 ..: the law's own cells in the order in which they are made), verification conditions out of the decoded instructions -/
/-- ints, longs, references, kinds of cells (.inl class, .inr (kind of array, length)), how many cells -/
abbrev am_Mem : Type := (Nat → Nat → Int32) × (Nat → Nat → Int64) × (Nat → Nat → Option Nat) × (Nat → Nat ⊕ (Nat × Nat)) × Nat
abbrev am_AL : Type := List (Option Value)
abbrev am_ST : Type := List Value
/-- what is left: depth of calls, cells, slots -/
abbrev am_Bd : Type := Nat × Nat × Nat
abbrev am_K : Type := am_Bd → Nat → am_AL → am_ST → am_Mem → Prop
abbrev am_Q : Type := Option Value → am_Mem → Prop
def am_upC {α : Type} (M : Nat → α) (c : Nat) (f : α) : Nat → α := fun x => if x = c then f else M x
def am_up2 (M : Nat → Nat → Int32) (c i : Nat) (v : Int32) : Nat → Nat → Int32 := am_upC M c (upd (M c) i v)
def am_upL (L : Nat → Nat → Int64) (c i : Nat) (v : Int64) : Nat → Nat → Int64 := am_upC L c (vp_updL (L c) i v)
def am_upR (R : Nat → Nat → Option Nat) (c i : Nat) (v : Option Nat) : Nat → Nat → Option Nat := am_upC R c (va_up (R c) i v)
def am_len (t : Nat ⊕ (Nat × Nat)) : Nat := match t with
  | .inr (_, n) => n
  | .inl _ => 0
def am_isA (t : Nat ⊕ (Nat × Nat)) (k : Nat) : Bool := match t with
  | .inr (j, _) => Nat.beq j k
  | .inl _ => false
/-- ints to be read: an array of ints, or the script -/
def am_isI (t : Nat ⊕ (Nat × Nat)) : Bool := am_isA t 0 || am_isA t 7
def am_isO (t : Nat ⊕ (Nat × Nat)) (c : Nat) : Bool := match t with
  | .inl j => Nat.beq j c
  | .inr _ => false
def am_gd (b : Bool) (P : Prop) : Prop := match b with
  | true => P
  | false => False
def am_bR (o : Option Nat) (P : Nat → Prop) : Prop := match o with
  | some a => P a
  | none => False
def am_gz (v : Int32) (P : Prop) : Prop := (v = 0 ∨ v = 1) ∧ P
theorem am_gd_i {b : Bool} {P : Prop} (h : b = true) (p : P) : am_gd b P := by rw [h]; exact p
theorem am_gd_e {b : Bool} {P : Prop} (h : am_gd b P) : b = true ∧ P := by
  cases b with
  | true => exact ⟨rfl, h⟩
  | false => exact absurd h id
theorem am_bR_i {o : Option Nat} {a : Nat} {P : Nat → Prop} (h : o = some a) (p : P a) : am_bR o P := by rw [h]; exact p
theorem am_bR_e {o : Option Nat} {P : Nat → Prop} (h : am_bR o P) : ∃ a, o = some a ∧ P a := by
  cases o with
  | none => exact absurd h id
  | some a => exact ⟨a, rfl, h⟩
theorem am_gz0 {P : Prop} (p : P) : am_gz 0 P := ⟨Or.inl rfl, p⟩
theorem am_gz1 {P : Prop} (p : P) : am_gz 1 P := ⟨Or.inr rfl, p⟩
/-! locals -/
def am_get : am_AL → Nat → Option Value
  | [], _ => none
  | x :: _, 0 => x
  | _ :: t, i + 1 => am_get t i
def am_set : am_AL → Nat → Option Value → am_AL
  | [], _, _ => []
  | _ :: t, 0, v => v :: t
  | x :: t, i + 1, v => x :: am_set t i v
def am_noL (x : Option Value) : Option Value := match x with
  | some (.long _) => none
  | some (.double _) => none
  | x => x
/-- the local before the i-th, if it is a long, is lost -/
def am_nol : am_AL → Nat → am_AL
  | [], _ => []
  | x :: t, 0 => x :: t
  | x :: t, 1 => am_noL x :: t
  | x :: t, i + 2 => x :: am_nol t (i + 1)
def am_st1 (al : am_AL) (i : Nat) (v : Value) : am_AL := am_set (am_nol al i) i (some v)
def am_st2 (al : am_AL) (i : Nat) (v : Value) : am_AL := am_set (am_set (am_nol al i) i (some v)) (i + 1) none
def am_mask : List Bool → am_AL → am_AL
  | b :: bs, x :: t => cond b x none :: am_mask bs t
  | [], t => t
  | _, [] => []
def am_cut : List (Nat × List Bool) → Nat → Option (List Bool) := am_lk
/-! one-instruction meanings -/
def ao_loadI (i nx : Nat) (B : am_Bd) (al : am_AL) (st : am_ST) (m : am_Mem) (K : am_K) : Prop := match am_get al i with
  | some (.int x) => K B nx al (.int x :: st) m
  | _ => False
def ao_loadL (i nx : Nat) (B : am_Bd) (al : am_AL) (st : am_ST) (m : am_Mem) (K : am_K) : Prop := match am_get al i with
  | some (.long x) => K B nx al (.long x :: st) m
  | _ => False
def ao_loadA (i nx : Nat) (B : am_Bd) (al : am_AL) (st : am_ST) (m : am_Mem) (K : am_K) : Prop := match am_get al i with
  | some (.ref x) => K B nx al (.ref x :: st) m
  | _ => False
def ao_storeI (i nx : Nat) (B : am_Bd) (al : am_AL) (st : am_ST) (m : am_Mem) (K : am_K) : Prop := match st with
  | .int x :: r => am_gd (Nat.blt i al.length) (K B nx (am_st1 al i (.int x)) r m)
  | _ => False
def ao_storeA (i nx : Nat) (B : am_Bd) (al : am_AL) (st : am_ST) (m : am_Mem) (K : am_K) : Prop := match st with
  | .ref x :: r => am_gd (Nat.blt i al.length) (K B nx (am_st1 al i (.ref x)) r m)
  | _ => False
def ao_storeL (i nx : Nat) (B : am_Bd) (al : am_AL) (st : am_ST) (m : am_Mem) (K : am_K) : Prop := match st with
  | .long x :: r => am_gd (Nat.blt (i + 1) al.length) (K B nx (am_st2 al i (.long x)) r m)
  | _ => False
def ao_iinc (i : Nat) (n : Int) (nx : Nat) (B : am_Bd) (al : am_AL) (st : am_ST) (m : am_Mem) (K : am_K) : Prop := match am_get al i with
  | some (.int x) => am_gd (Nat.blt i al.length) (K B nx (am_st1 al i (.int (x + Int32.ofInt n))) st m)
  | _ => False
def ao_push (v : Value) (nx : Nat) (B : am_Bd) (al : am_AL) (st : am_ST) (m : am_Mem) (K : am_K) : Prop := K B nx al (v :: st) m
def ao_bin (f : Int32 → Int32 → Int32) (nx : Nat) (B : am_Bd) (al : am_AL) (st : am_ST) (m : am_Mem) (K : am_K) : Prop := match st with
  | .int y :: .int x :: r => K B nx al (.int (f x y) :: r) m
  | _ => False
def ao_irem (nx : Nat) (B : am_Bd) (al : am_AL) (st : am_ST) (m : am_Mem) (K : am_K) : Prop := match st with
  | .int y :: .int x :: r => ¬ y = 0 ∧ K B nx al (.int (x - x / y * y) :: r) m
  | _ => False
def ao_un (f : Int32 → Int32) (nx : Nat) (B : am_Bd) (al : am_AL) (st : am_ST) (m : am_Mem) (K : am_K) : Prop := match st with
  | .int x :: r => K B nx al (.int (f x) :: r) m
  | _ => False
def ao_binL (f : Int64 → Int64 → Int64) (nx : Nat) (B : am_Bd) (al : am_AL) (st : am_ST) (m : am_Mem) (K : am_K) : Prop := match st with
  | .long y :: .long x :: r => K B nx al (.long (f x y) :: r) m
  | _ => False
def ao_i2l (nx : Nat) (B : am_Bd) (al : am_AL) (st : am_ST) (m : am_Mem) (K : am_K) : Prop := match st with
  | .int x :: r => K B nx al (.long x.toInt64 :: r) m
  | _ => False
def ao_l2i (nx : Nat) (B : am_Bd) (al : am_AL) (st : am_ST) (m : am_Mem) (K : am_K) : Prop := match st with
  | .long x :: r => K B nx al (.int x.toInt32 :: r) m
  | _ => False
def ao_lcmp (nx : Nat) (B : am_Bd) (al : am_AL) (st : am_ST) (m : am_Mem) (K : am_K) : Prop := match st with
  | .long y :: .long x :: r => K B nx al (.int (lg_cmp x y) :: r) m
  | _ => False
def am_c1 (v : Value) : Bool := match v with
  | .int _ => true
  | .ref _ => true
  | _ => false
def ao_dup (nx : Nat) (B : am_Bd) (al : am_AL) (st : am_ST) (m : am_Mem) (K : am_K) : Prop := match st with
  | v :: r => am_gd (am_c1 v) (K B nx al (v :: v :: r) m)
  | _ => False
def ao_pop (nx : Nat) (B : am_Bd) (al : am_AL) (st : am_ST) (m : am_Mem) (K : am_K) : Prop := match st with
  | v :: r => am_gd (am_c1 v) (K B nx al r m)
  | _ => False
def ao_dupx1 (nx : Nat) (B : am_Bd) (al : am_AL) (st : am_ST) (m : am_Mem) (K : am_K) : Prop := match st with
  | v :: w :: r => am_gd (am_c1 v && am_c1 w) (K B nx al (v :: w :: v :: r) m)
  | _ => False
def ao_dup2 (nx : Nat) (B : am_Bd) (al : am_AL) (st : am_ST) (m : am_Mem) (K : am_K) : Prop := match st with
  | v :: w :: r => am_gd (am_c1 v && am_c1 w) (K B nx al (v :: w :: v :: w :: r) m)
  | _ => False
def ao_goto (ts : List Nat) (B : am_Bd) (al : am_AL) (st : am_ST) (m : am_Mem) (K : am_K) : Prop := match ts with
  | [t] => K B t al st m
  | _ => False
def ao_if1 (c : Int32 → Prop) (ts : List Nat) (nx : Nat) (B : am_Bd) (al : am_AL) (st : am_ST) (m : am_Mem) (K : am_K) : Prop := match ts, st with
  | [t], .int x :: r => (c x → K B t al r m) ∧ (¬ c x → K B nx al r m)
  | _, _ => False
def ao_if1N (c : Int32 → Prop) (ts : List Nat) (nx : Nat) (B : am_Bd) (al : am_AL) (st : am_ST) (m : am_Mem) (K : am_K) : Prop := match ts, st with
  | [t], .int x :: r => (c x → K B nx al r m) ∧ (¬ c x → K B t al r m)
  | _, _ => False
def ao_if2 (c : Int32 → Int32 → Prop) (ts : List Nat) (nx : Nat) (B : am_Bd) (al : am_AL) (st : am_ST) (m : am_Mem) (K : am_K) : Prop := match ts, st with
  | [t], .int y :: .int x :: r => (c x y → K B t al r m) ∧ (¬ c x y → K B nx al r m)
  | _, _ => False
def ao_if2N (c : Int32 → Int32 → Prop) (ts : List Nat) (nx : Nat) (B : am_Bd) (al : am_AL) (st : am_ST) (m : am_Mem) (K : am_K) : Prop := match ts, st with
  | [t], .int y :: .int x :: r => (c x y → K B nx al r m) ∧ (¬ c x y → K B t al r m)
  | _, _ => False
/-- references compared: jump if alike -/
def ao_ifA (ts : List Nat) (nx : Nat) (B : am_Bd) (al : am_AL) (st : am_ST) (m : am_Mem) (K : am_K) : Prop := match ts, st with
  | [t], .ref y :: .ref x :: r => (x = y → K B t al r m) ∧ (¬ x = y → K B nx al r m)
  | _, _ => False
def am_sw (x : Int32) (n : Int) (ts : List Nat) (K : Nat → Prop) : Prop := match ts with
  | [] => True
  | t :: r => (x.toInt = n → K t) ∧ am_sw x (n + 1) r K
def ao_tsw (lo hi : Int) (ts : List Nat) (B : am_Bd) (al : am_AL) (st : am_ST) (m : am_Mem) (K : am_K) : Prop := match ts, st with
  | d :: ts, .int x :: r => am_gd (decide ((ts.length : Int) = hi - lo + 1)) (((x.toInt < lo ∨ hi < x.toInt) → K B d al r m) ∧ am_sw x lo ts (fun t => K B t al r m))
  | _, _ => False
/-! cells -/
def ao_getf (ci idx nx : Nat) (B : am_Bd) (al : am_AL) (st : am_ST) (m : am_Mem) (K : am_K) : Prop := match am_lk (am_fl ci) idx, st with
  | some (cj, k), .ref a :: r => am_gd (am_isO (m.2.2.2.1 a) cj) (match am_ty cj k with
    | .int => K B nx al (.int (m.1 a k) :: r) m
    | .array _ => am_bR (m.2.2.1 a k) (fun b => K B nx al (.ref b :: r) m)
    | .object _ => am_bR (m.2.2.1 a k) (fun b => K B nx al (.ref b :: r) m)
    | _ => False)
  | _, _ => False
/-- isI: the method is a constructor: only there a final field is set -/
def ao_putf (isI : Bool) (ci idx nx : Nat) (B : am_Bd) (al : am_AL) (st : am_ST) (m : am_Mem) (K : am_K) : Prop := match am_lk (am_fl ci) idx, st with
  | some (cj, k), v :: .ref a :: r => am_gd (am_isO (m.2.2.2.1 a) cj && (!((am_T cj) k).2.2.2 || (isI && Nat.beq cj ci))) (match am_ty cj k, v with
    | .int, .int x => K B nx al r (am_up2 m.1 a k x, m.2)
    | .array _, .ref b => K B nx al r (m.1, m.2.1, am_upR m.2.2.1 a k (some b), m.2.2.2)
    | .object _, .ref b => K B nx al r (m.1, m.2.1, am_upR m.2.2.1 a k (some b), m.2.2.2)
    | _, _ => False)
  | _, _ => False
def ao_iald (nx : Nat) (B : am_Bd) (al : am_AL) (st : am_ST) (m : am_Mem) (K : am_K) : Prop := match st with
  | .int i :: .ref a :: r => am_gd (am_isI (m.2.2.2.1 a)) (vp_in i (am_len (m.2.2.2.1 a)) ∧ K B nx al (.int (m.1 a i.toNatClampNeg) :: r) m)
  | _ => False
/-- bytes and booleans -/
def ao_bald (nx : Nat) (B : am_Bd) (al : am_AL) (st : am_ST) (m : am_Mem) (K : am_K) : Prop := match st with
  | .int i :: .ref a :: r => am_gd (am_isA (m.2.2.2.1 a) 1 || am_isA (m.2.2.2.1 a) 4) (vp_in i (am_len (m.2.2.2.1 a)) ∧ K B nx al (.int (m.1 a i.toNatClampNeg) :: r) m)
  | _ => False
def ao_sald (nx : Nat) (B : am_Bd) (al : am_AL) (st : am_ST) (m : am_Mem) (K : am_K) : Prop := match st with
  | .int i :: .ref a :: r => am_gd (am_isA (m.2.2.2.1 a) 2) (vp_in i (am_len (m.2.2.2.1 a)) ∧ K B nx al (.int (m.1 a i.toNatClampNeg) :: r) m)
  | _ => False
def ao_lald (nx : Nat) (B : am_Bd) (al : am_AL) (st : am_ST) (m : am_Mem) (K : am_K) : Prop := match st with
  | .int i :: .ref a :: r => am_gd (am_isA (m.2.2.2.1 a) 3) (vp_in i (am_len (m.2.2.2.1 a)) ∧ K B nx al (.long (m.2.1 a i.toNatClampNeg) :: r) m)
  | _ => False
def ao_aald (nx : Nat) (B : am_Bd) (al : am_AL) (st : am_ST) (m : am_Mem) (K : am_K) : Prop := match st with
  | .int i :: .ref a :: r => am_gd (am_isA (m.2.2.2.1 a) 5 || am_isA (m.2.2.2.1 a) 6) (vp_in i (am_len (m.2.2.2.1 a)) ∧ am_bR (m.2.2.1 a i.toNatClampNeg) (fun b => K B nx al (.ref b :: r) m))
  | _ => False
def ao_iast (nx : Nat) (B : am_Bd) (al : am_AL) (st : am_ST) (m : am_Mem) (K : am_K) : Prop := match st with
  | .int x :: .int i :: .ref a :: r => am_gd (am_isA (m.2.2.2.1 a) 0) (vp_in i (am_len (m.2.2.2.1 a)) ∧ K B nx al r (am_up2 m.1 a i.toNatClampNeg x, m.2))
  | _ => False
def am_bty (t : Nat ⊕ (Nat × Nat)) : FieldType := cond (am_isA t 1) .byte .boolean
def ao_bast (nx : Nat) (B : am_Bd) (al : am_AL) (st : am_ST) (m : am_Mem) (K : am_K) : Prop := match st with
  | .int x :: .int i :: .ref a :: r => am_gd (am_isA (m.2.2.2.1 a) 1 || am_isA (m.2.2.2.1 a) 4) (vp_in i (am_len (m.2.2.2.1 a)) ∧ K B nx al r (am_up2 m.1 a i.toNatClampNeg (vp_nar (am_bty (m.2.2.2.1 a)) x), m.2))
  | _ => False
def ao_sast (nx : Nat) (B : am_Bd) (al : am_AL) (st : am_ST) (m : am_Mem) (K : am_K) : Prop := match st with
  | .int x :: .int i :: .ref a :: r => am_gd (am_isA (m.2.2.2.1 a) 2) (vp_in i (am_len (m.2.2.2.1 a)) ∧ K B nx al r (am_up2 m.1 a i.toNatClampNeg (vp_nar .short x), m.2))
  | _ => False
def ao_last (nx : Nat) (B : am_Bd) (al : am_AL) (st : am_ST) (m : am_Mem) (K : am_K) : Prop := match st with
  | .long x :: .int i :: .ref a :: r => am_gd (am_isA (m.2.2.2.1 a) 3) (vp_in i (am_len (m.2.2.2.1 a)) ∧ K B nx al r (m.1, am_upL m.2.1 a i.toNatClampNeg x, m.2.2))
  | _ => False
/-- into an array of objects of a class: kind 5 of class 9, kind 6 of class 4 -/
def ao_aast (nx : Nat) (B : am_Bd) (al : am_AL) (st : am_ST) (m : am_Mem) (K : am_K) : Prop := match st with
  | .ref x :: .int i :: .ref a :: r => am_gd ((am_isA (m.2.2.2.1 a) 5 && am_isO (m.2.2.2.1 x) 9) || (am_isA (m.2.2.2.1 a) 6 && am_isO (m.2.2.2.1 x) 4)) (vp_in i (am_len (m.2.2.2.1 a)) ∧ K B nx al r (m.1, m.2.1, am_upR m.2.2.1 a i.toNatClampNeg (some x), m.2.2.2))
  | _ => False
def ao_alen (nx : Nat) (B : am_Bd) (al : am_AL) (st : am_ST) (m : am_Mem) (K : am_K) : Prop := match st with
  | .ref a :: r => am_gd (am_isI (m.2.2.2.1 a)) (K B nx al (.int (Int32.ofNat (am_len (m.2.2.2.1 a))) :: r) m)
  | _ => False
/-- a new cell of kind t: its slots are 0 and null -/
def am_add (m : am_Mem) (t : Nat ⊕ (Nat × Nat)) : am_Mem := (am_upC m.1 (m.2.2.2.2 + 1) (fun _ => 0), am_upC m.2.1 (m.2.2.2.2 + 1) (fun _ => 0), am_upC m.2.2.1 (m.2.2.2.2 + 1) (fun _ => none), am_upC m.2.2.2.1 (m.2.2.2.2 + 1) t, m.2.2.2.2 + 1)
def ao_new (ci idx nx : Nat) (B : am_Bd) (al : am_AL) (st : am_ST) (m : am_Mem) (K : am_K) : Prop := match am_lk (am_nl ci) idx, B with
  | some cj, (d, kc + 1, ks) => am_nf cj ≤ ks ∧ K (d, kc, ks - am_nf cj) nx al (.ref (m.2.2.2.2 + 1) :: st) (am_add m (.inl cj))
  | _, _ => False
def am_atn (a : ArrayType) : Option Nat := match a with
  | .int => some 0
  | .byte => some 1
  | .short => some 2
  | .long => some 3
  | .boolean => some 4
  | _ => none
def ao_newa (a : ArrayType) (nx : Nat) (B : am_Bd) (al : am_AL) (st : am_ST) (m : am_Mem) (K : am_K) : Prop := match am_atn a, st, B with
  | some t, .int n :: r, (d, kc + 1, ks) => ¬ n < 0 ∧ n.toNatClampNeg ≤ 1000000 ∧ n.toNatClampNeg ≤ ks ∧ K (d, kc, ks - n.toNatClampNeg) nx al (.ref (m.2.2.2.2 + 1) :: r) (am_add m (.inr (t, n.toNatClampNeg)))
  | _, _, _ => False
def ao_newq (ci idx nx : Nat) (B : am_Bd) (al : am_AL) (st : am_ST) (m : am_Mem) (K : am_K) : Prop := match am_lk (am_nl ci) idx, st, B with
  | some cj, .int n :: r, (d, kc + 1, ks) => am_gd (Nat.beq cj 9 || Nat.beq cj 4) (¬ n < 0 ∧ n.toNatClampNeg ≤ 1000000 ∧ n.toNatClampNeg ≤ ks ∧ K (d, kc, ks - n.toNatClampNeg) nx al (.ref (m.2.2.2.2 + 1) :: r) (am_add m (.inr (cond (Nat.beq cj 9) 5 6, n.toNatClampNeg))))
  | _, _, _ => False
/-! ends -/
def ao_ireturn (ret : Option FieldType) (st : am_ST) (m : am_Mem) (Q : am_Q) : Prop := match ret, st with
  | some .int, [.int v] => Q (some (.int v)) m
  | some .boolean, [.int v] => am_gz v (Q (some (.int v)) m)
  | _, _ => False
def ao_lreturn (ret : Option FieldType) (st : am_ST) (m : am_Mem) (Q : am_Q) : Prop := match ret, st with
  | some .long, [.long v] => Q (some (.long v)) m
  | _, _ => False
def ao_areturn (ret : Option FieldType) (st : am_ST) (m : am_Mem) (Q : am_Q) : Prop := match ret, st with
  | some (.object _), [.ref v] => Q (some (.ref v)) m
  | _, _ => False
def ao_return (ret : Option FieldType) (st : am_ST) (m : am_Mem) (Q : am_Q) : Prop := match ret, st with
  | none, [] => Q none m
  | _, _ => False
/-! calls: what a callee comes to, by the kind of its answer; Rn: the judgement of a method's run from its entry -/
def am_args : Nat → am_ST → List Value → Option (List Value × am_ST)
  | 0, st, acc => some (acc, st)
  | n + 1, v :: st, acc => am_args n st (v :: acc)
  | _ + 1, [], _ => none
def am_wd : am_ST → Nat
  | [] => 0
  | .long _ :: t => am_wd t + 2
  | .double _ :: t => am_wd t + 2
  | _ :: t => am_wd t + 1
def am_Qi (K : Int32 → am_Mem → Prop) : am_Q := fun r m => match r with
  | some (.int v) => K v m
  | _ => False
def am_Ql (K : Int64 → am_Mem → Prop) : am_Q := fun r m => match r with
  | some (.long v) => K v m
  | _ => False
def am_Qr (K : Nat → am_Mem → Prop) : am_Q := fun r m => match r with
  | some (.ref v) => K v m
  | _ => False
def am_Qv (K : am_Mem → Prop) : am_Q := fun r m => match r with
  | none => K m
  | _ => False
def am_c2 (v : Value) : Bool := match v with
  | .long _ => true
  | .double _ => true
  | _ => false
/-- the locals at a method's entry -/
def am_ent : Nat → List Value → am_AL
  | 0, _ => []
  | n + 1, [] => none :: am_ent n []
  | 1, v :: _ => [some v]
  | n + 2, v :: t => cond (am_c2 v) (some v :: none :: am_ent n t) (some v :: am_ent (n + 1) t)
abbrev am_RN : Type := am_Bd → am_MR → List Value → am_Mem → am_Q → Prop
/-- lf: in which form the memory behind a call is taken on -/
abbrev am_LF : Type := (am_Mem → Prop) → am_Mem → Prop
def am_call (lf : am_LF) (Rn : am_RN) (r : am_MR) (args : List Value) (rest : am_ST) (nx : Nat) (B : am_Bd) (al : am_AL) (m : am_Mem) (K : am_K) : Prop := match B with
  | (d + 1, kc, ks) => am_gd (Nat.ble (am_wd rest) 8 && (Nat.ble (am_wd args) r.2.2.1 && (Nat.ble r.2.2.2.2.2.2.1.1 kc && Nat.ble r.2.2.2.2.2.2.1.2 ks))) (match r.2.2.2.1 with
    | none => Rn (d, r.2.2.2.2.2.2.1.1, r.2.2.2.2.2.2.1.2) r args m (am_Qv (fun m' => lf (fun m' => K (d + 1, kc - r.2.2.2.2.2.2.1.1, ks - r.2.2.2.2.2.2.1.2) nx al rest m') m'))
    | some .int => Rn (d, r.2.2.2.2.2.2.1.1, r.2.2.2.2.2.2.1.2) r args m (am_Qi (fun v m' => lf (fun m' => K (d + 1, kc - r.2.2.2.2.2.2.1.1, ks - r.2.2.2.2.2.2.1.2) nx al (.int v :: rest) m') m'))
    | some .boolean => Rn (d, r.2.2.2.2.2.2.1.1, r.2.2.2.2.2.2.1.2) r args m (am_Qi (fun v m' => lf (fun m' => K (d + 1, kc - r.2.2.2.2.2.2.1.1, ks - r.2.2.2.2.2.2.1.2) nx al (.int v :: rest) m') m'))
    | some .long => Rn (d, r.2.2.2.2.2.2.1.1, r.2.2.2.2.2.2.1.2) r args m (am_Ql (fun v m' => lf (fun m' => K (d + 1, kc - r.2.2.2.2.2.2.1.1, ks - r.2.2.2.2.2.2.1.2) nx al (.long v :: rest) m') m'))
    | some (.object _) => Rn (d, r.2.2.2.2.2.2.1.1, r.2.2.2.2.2.2.1.2) r args m (am_Qr (fun v m' => lf (fun m' => K (d + 1, kc - r.2.2.2.2.2.2.1.1, ks - r.2.2.2.2.2.2.1.2) nx al (.ref v :: rest) m') m'))
    | _ => False)
  | _ => False
def ao_virt (lf : am_LF) (Rn : am_RN) (ci idx nx : Nat) (B : am_Bd) (al : am_AL) (st : am_ST) (m : am_Mem) (K : am_K) : Prop := match am_lk (am_ml ci) idx with
  | some (0, r) => (match am_args (r.2.2.2.2.2.1 + 1) st [] with
    | some (.ref a :: args, rest) => am_gd (am_isO (m.2.2.2.1 a) r.2.2.2.2.1) (am_call lf Rn r (.ref a :: args) rest nx B al m K)
    | _ => False)
  | _ => False
def am_copy (M : Nat → Nat → Int32) (a0 a sp dp n : Nat) : Nat → Nat → Int32 := am_upC M a (va_cpy (M a0) (M a) sp dp n)
def ao_stat (lf : am_LF) (Rn : am_RN) (ci idx nx : Nat) (B : am_Bd) (al : am_AL) (st : am_ST) (m : am_Mem) (K : am_K) : Prop := match am_lk (am_ml ci) idx with
  | some (1, r) => (match am_args r.2.2.2.2.2.1 st [] with
    | some (args, rest) => am_call lf Rn r args rest nx B al m K
    | _ => False)
  | some (5, _) => (match st, B with
    | .int n :: .int dp :: .ref a :: .int sp :: .ref a0 :: rest, (_ + 1, _, _) => am_gd (am_isA (m.2.2.2.1 a0) 0 && (am_isA (m.2.2.2.1 a) 0 && Nat.ble (am_wd rest) 8)) (¬ sp < 0 ∧ ¬ dp < 0 ∧ ¬ n < 0 ∧ sp.toNatClampNeg + n.toNatClampNeg ≤ am_len (m.2.2.2.1 a0) ∧ dp.toNatClampNeg + n.toNatClampNeg ≤ am_len (m.2.2.2.1 a) ∧ K B nx al rest (am_copy m.1 a0 a sp.toNatClampNeg dp.toNatClampNeg n.toNatClampNeg, m.2))
    | _, _ => False)
  | some (6, _) => (match st, B with
    | .int y :: .int x :: rest, (_ + 1, _, _) => am_gd (Nat.ble (am_wd rest) 8) (K B nx al (.int (if y < x then y else x) :: rest) m)
    | _, _ => False)
  | some (7, _) => (match st, B with
    | .long y :: .long x :: rest, (_ + 1, _, _) => am_gd (Nat.ble (am_wd rest) 8) (K B nx al (.long (if y < x then x else y) :: rest) m)
    | _, _ => False)
  | some (8, _) => (match st, B with
    | .long y :: .long x :: rest, (_ + 1, _, _) => am_gd (Nat.ble (am_wd rest) 8) (K B nx al (.long (if y < x then y else x) :: rest) m)
    | _, _ => False)
  | _ => False
def ao_spec (lf : am_LF) (Rn : am_RN) (ci idx nx : Nat) (B : am_Bd) (al : am_AL) (st : am_ST) (m : am_Mem) (K : am_K) : Prop := match am_lk (am_ml ci) idx with
  | some (2, r) => (match am_args (r.2.2.2.2.2.1 + 1) st [] with
    | some (.ref a :: args, rest) => am_call lf Rn r (.ref a :: args) rest nx B al m K
    | _ => False)
  | some (3, r) => (match am_args (r.2.2.2.2.2.1 + 1) st [] with
    | some (.ref a :: args, rest) => am_call lf Rn r (.ref a :: args) rest nx B al m K
    | _ => False)
  | some (4, _) => (match st, B with
    | .ref _ :: rest, (_ + 1, _, _) => am_gd (Nat.ble (am_wd rest) 8) (K B nx al rest m)
    | _, _ => False)
  | _ => False
/-- the meaning of an instruction of the method r -/
def am_sem (lf : am_LF) (Rn : am_RN) (r : am_MR) (i : Instr) (nx : Nat) (ts : List Nat) (B : am_Bd) (al : am_AL) (st : am_ST) (m : am_Mem) (K : am_K) (Q : am_Q) : Prop := match i with
  | .iload_n k => ao_loadI k nx B al st m K
  | .iload k => ao_loadI k nx B al st m K
  | .lload_n k => ao_loadL k nx B al st m K
  | .lload k => ao_loadL k nx B al st m K
  | .aload_n k => ao_loadA k nx B al st m K
  | .aload k => ao_loadA k nx B al st m K
  | .istore_n k => ao_storeI k nx B al st m K
  | .istore k => ao_storeI k nx B al st m K
  | .lstore_n k => ao_storeL k nx B al st m K
  | .lstore k => ao_storeL k nx B al st m K
  | .astore_n k => ao_storeA k nx B al st m K
  | .astore k => ao_storeA k nx B al st m K
  | .iinc k n => ao_iinc k n nx B al st m K
  | .iconst n => ao_push (.int (Int32.ofInt n)) nx B al st m K
  | .bipush n => ao_push (.int (Int8.ofInt n).toInt32) nx B al st m K
  | .sipush n => ao_push (.int (Int16.ofInt n).toInt32) nx B al st m K
  | .lconst n => ao_push (.long (Int64.ofNat n)) nx B al st m K
  | .ldc k => (match am_lk (am_kl r.2.2.2.2.1) k with
    | some v => ao_push (.int v) nx B al st m K
    | none => False)
  | .ldc_w k => (match am_lk (am_kl r.2.2.2.2.1) k with
    | some v => ao_push (.int v) nx B al st m K
    | none => False)
  | .ldc2_w k => (match am_lk (am_jl r.2.2.2.2.1) k with
    | some v => ao_push (.long v) nx B al st m K
    | none => False)
  | .iadd => ao_bin (fun x y => x + y) nx B al st m K
  | .isub => ao_bin (fun x y => x - y) nx B al st m K
  | .imul => ao_bin (fun x y => x * y) nx B al st m K
  | .iand => ao_bin (fun x y => x &&& y) nx B al st m K
  | .ior => ao_bin (fun x y => x ||| y) nx B al st m K
  | .ixor => ao_bin (fun x y => x ^^^ y) nx B al st m K
  | .ishl => ao_bin (fun x y => x <<< (y &&& 31)) nx B al st m K
  | .ishr => ao_bin (fun x y => x >>> (y &&& 31)) nx B al st m K
  | .iushr => ao_bin (fun x y => (x.toUInt32 >>> (y.toUInt32 &&& Int32.toUInt32 31)).toInt32) nx B al st m K
  | .irem => ao_irem nx B al st m K
  | .i2b => ao_un (fun x => x.toInt8.toInt32) nx B al st m K
  | .i2s => ao_un (fun x => x.toInt16.toInt32) nx B al st m K
  | .ladd => ao_binL (fun x y => x + y) nx B al st m K
  | .lmul => ao_binL (fun x y => x * y) nx B al st m K
  | .i2l => ao_i2l nx B al st m K
  | .l2i => ao_l2i nx B al st m K
  | .lcmp => ao_lcmp nx B al st m K
  | .dup => ao_dup nx B al st m K
  | .pop => ao_pop nx B al st m K
  | .dup_x1 => ao_dupx1 nx B al st m K
  | .dup2 => ao_dup2 nx B al st m K
  | .goto _ => ao_goto ts B al st m K
  | .ifCond .eq _ => ao_if1 (fun x => x = 0) ts nx B al st m K
  | .ifCond .ne _ => ao_if1N (fun x => x = 0) ts nx B al st m K
  | .ifCond .lt _ => ao_if1 (fun x => x < 0) ts nx B al st m K
  | .ifCond .ge _ => ao_if1 (fun x => 0 ≤ x) ts nx B al st m K
  | .ifCond .gt _ => ao_if1 (fun x => 0 < x) ts nx B al st m K
  | .ifCond .le _ => ao_if1 (fun x => x ≤ 0) ts nx B al st m K
  | .if_icmp .eq _ => ao_if2 (fun x y => x = y) ts nx B al st m K
  | .if_icmp .ne _ => ao_if2N (fun x y => x = y) ts nx B al st m K
  | .if_icmp .lt _ => ao_if2 (fun x y => x < y) ts nx B al st m K
  | .if_icmp .ge _ => ao_if2 (fun x y => y ≤ x) ts nx B al st m K
  | .if_icmp .gt _ => ao_if2 (fun x y => y < x) ts nx B al st m K
  | .if_icmp .le _ => ao_if2 (fun x y => x ≤ y) ts nx B al st m K
  | .if_acmp .eq _ => ao_ifA ts nx B al st m K
  | .tableswitch _ lo hi _ => ao_tsw lo hi ts B al st m K
  | .getfield k => ao_getf r.2.2.2.2.1 k nx B al st m K
  | .putfield k => ao_putf (decide (r.1.name = "<init>")) r.2.2.2.2.1 k nx B al st m K
  | .iaload => ao_iald nx B al st m K
  | .baload => ao_bald nx B al st m K
  | .saload => ao_sald nx B al st m K
  | .laload => ao_lald nx B al st m K
  | .aaload => ao_aald nx B al st m K
  | .iastore => ao_iast nx B al st m K
  | .bastore => ao_bast nx B al st m K
  | .sastore => ao_sast nx B al st m K
  | .lastore => ao_last nx B al st m K
  | .aastore => ao_aast nx B al st m K
  | .arraylength => ao_alen nx B al st m K
  | .new k => ao_new r.2.2.2.2.1 k nx B al st m K
  | .newarray a => ao_newa a nx B al st m K
  | .anewarray k => ao_newq r.2.2.2.2.1 k nx B al st m K
  | .invokevirtual k => ao_virt lf Rn r.2.2.2.2.1 k nx B al st m K
  | .invokestatic k => ao_stat lf Rn r.2.2.2.2.1 k nx B al st m K
  | .invokespecial k => ao_spec lf Rn r.2.2.2.2.1 k nx B al st m K
  | .ireturn => ao_ireturn r.2.2.2.1 st m Q
  | .lreturn => ao_lreturn r.2.2.2.1 st m Q
  | .areturn => ao_areturn r.2.2.2.1 st m Q
  | .return_ => ao_return r.2.2.2.1 st m Q
  | _ => False
