/-! TOOLKIT: lists of ints in memory, numbers, lists without repetition, order of rows -/
abbrev ay_Row : Type := List Int32
def sl_at (f : Nat → Int32) (p : Nat) (l : List Int32) : Prop := ∀ i v, l[i]? = some v → f (p + i) = v
theorem sl_nil {f : Nat → Int32} {p : Nat} : sl_at f p [] := by intro i v h; simp at h
theorem sl_cons {f : Nat → Int32} {p : Nat} {x : Int32} {l : List Int32} : sl_at f p (x :: l) ↔ f p = x ∧ sl_at f (p + 1) l := by
  constructor
  · intro h
    refine ⟨h 0 x (by simp), fun i v hi => ?_⟩
    have := h (i + 1) v (by simpa using hi)
    rw [← this]; congr 1; omega
  · rintro ⟨h1, h2⟩ i v hi
    cases i with
    | zero =>
      have e : x = v := by simpa using hi
      rw [← e, ← h1]; rfl
    | succ i =>
      have := h2 i v (by simpa using hi)
      rw [← this]; congr 1; omega
theorem sl_app {f : Nat → Int32} {p : Nat} {a b : List Int32} : sl_at f p (a ++ b) ↔ sl_at f p a ∧ sl_at f (p + a.length) b := by
  constructor
  · intro h
    refine ⟨fun i v hi => h i v ?_, fun i v hi => ?_⟩
    · rw [List.getElem?_append_left (List.getElem?_eq_some_iff.mp hi).1]; exact hi
    · have := h (a.length + i) v (by rw [List.getElem?_append_right (by omega)]; simpa using hi)
      rw [← this]; congr 1; omega
  · rintro ⟨h1, h2⟩ i v hi
    by_cases hl : i < a.length
    · exact h1 i v (by rwa [List.getElem?_append_left hl] at hi)
    · rw [List.getElem?_append_right (by omega)] at hi
      have := h2 _ v hi
      rw [← this]; congr 1; omega
theorem sl_one {f : Nat → Int32} {p : Nat} {x : Int32} : sl_at f p [x] ↔ f p = x := by
  rw [sl_cons]; exact ⟨fun h => h.1, fun h => ⟨h, sl_nil⟩⟩
theorem sl_congr {f g : Nat → Int32} {p : Nat} {l : List Int32} (h : sl_at f p l) (e : ∀ i, i < l.length → g (p + i) = f (p + i)) : sl_at g p l := fun i v hi => by
  rw [e i (List.getElem?_eq_some_iff.mp hi).1]; exact h i v hi
theorem sl_upd {f : Nat → Int32} {p k : Nat} {l : List Int32} {v : Int32} (h : sl_at f p l) (hk : k < p ∨ p + l.length ≤ k) : sl_at (upd f k v) p l :=
  sl_congr h (fun i hi => pk_un (by omega))
theorem sl_get {f : Nat → Int32} {p i : Nat} {l : List Int32} (h : sl_at f p l) (hi : i < l.length) : f (p + i) = l[i] := h i _ (List.getElem?_eq_getElem hi)
theorem sl_getD {f : Nat → Int32} {p i : Nat} {l : List Int32} (h : sl_at f p l) (hi : i < l.length) : f (p + i) = l.getD i 0 := by
  rw [sl_get h hi, List.getD_eq_getElem?_getD, List.getElem?_eq_getElem hi]; rfl
def sl_rd (f : Nat → Int32) (p n : Nat) : List Int32 := (List.range n).map (fun i => f (p + i))
theorem sl_rd_len (f : Nat → Int32) (p n : Nat) : (sl_rd f p n).length = n := by simp [sl_rd]
theorem sl_rd_at (f : Nat → Int32) (p n : Nat) : sl_at f p (sl_rd f p n) := by
  intro i v h
  have hi : i < n := by
    have := (List.getElem?_eq_some_iff.mp h).1
    rwa [sl_rd_len] at this
  unfold sl_rd at h
  rw [List.getElem?_map, List.getElem?_range hi] at h
  cases h
  rfl
theorem sl_uniq {f : Nat → Int32} {p : Nat} {a b : List Int32} (ha : sl_at f p a) (hb : sl_at f p b) (h : a.length = b.length) : a = b := by
  apply List.ext_getElem? 
  intro i
  by_cases hi : i < a.length
  · rw [List.getElem?_eq_getElem hi, List.getElem?_eq_getElem (h ▸ hi), ← sl_get ha hi, ← sl_get hb (h ▸ hi)]
  · rw [List.getElem?_eq_none (by omega), List.getElem?_eq_none (by omega)]
theorem sl_cpy_in {f g : Nat → Int32} {sp dp n : Nat} {l : List Int32} (h : sl_at f sp l) (hn : l.length = n) : sl_at (va_cpy f g sp dp n) dp l := by
  intro i v hi
  have hl := (List.getElem?_eq_some_iff.mp hi).1
  rw [pk_cpy_in (by omega) (by omega), ← h i v hi]
  congr 1; omega
theorem sl_cpy_out {f g : Nat → Int32} {sp dp n p : Nat} {l : List Int32} (h : sl_at g p l) (hn : p + l.length ≤ dp ∨ dp + n ≤ p) : sl_at (va_cpy f g sp dp n) p l :=
  sl_congr h (fun i hi => pk_cpy_out (by omega))
/-! rows of one width -/
def sl_W (w : Nat) (R : List ay_Row) : Prop := ∀ r, r ∈ R → r.length = w
theorem sl_W_nil {w : Nat} : sl_W w [] := fun _ h => by cases h
theorem sl_W_cons {w : Nat} {r : ay_Row} {R : List ay_Row} : sl_W w (r :: R) ↔ r.length = w ∧ sl_W w R := by simp [sl_W]
theorem sl_W_app {w : Nat} {A B : List ay_Row} : sl_W w (A ++ B) ↔ sl_W w A ∧ sl_W w B := by
  simp only [sl_W, List.mem_append]
  exact ⟨fun h => ⟨fun r hr => h r (Or.inl hr), fun r hr => h r (Or.inr hr)⟩, fun h r hr => hr.elim (h.1 r) (h.2 r)⟩
theorem sl_W_sub {w : Nat} {A B : List ay_Row} (h : sl_W w B) (s : ∀ r, r ∈ A → r ∈ B) : sl_W w A := fun r hr => h r (s r hr)
theorem sl_W_at {w i : Nat} {R : List ay_Row} {r : ay_Row} (h : sl_W w R) (hi : R[i]? = some r) : r.length = w := h r (List.mem_of_getElem? hi)
theorem sl_flen {w : Nat} : ∀ {R : List ay_Row}, sl_W w R → R.flatten.length = R.length * w
  | [], _ => by simp
  | r :: R, h => by
    rw [sl_W_cons] at h
    rw [List.flatten_cons, List.length_append, sl_flen h.2, h.1, List.length_cons, Nat.succ_mul, Nat.add_comm]
theorem sl_fget {f : Nat → Int32} {w : Nat} : ∀ {R : List ay_Row} {p i : Nat} {r : ay_Row}, sl_at f p R.flatten → sl_W w R → R[i]? = some r → sl_at f (p + i * w) r
  | [], _, _, _, _, _, hi => by simp at hi
  | x :: R, p, i, r, h, hw, hi => by
    rw [List.flatten_cons, sl_app] at h
    rw [sl_W_cons] at hw
    cases i with
    | zero =>
      have e : x = r := by simpa using hi
      rw [← e]; simpa using h.1
    | succ i =>
      have := sl_fget (p := p + x.length) (i := i) h.2 hw.2 (by simpa using hi)
      rw [hw.1] at this
      rw [Nat.succ_mul]
      rw [show p + (i * w + w) = p + w + i * w by omega]
      exact this
theorem sl_fof {f : Nat → Int32} {w : Nat} : ∀ {R : List ay_Row} {p : Nat}, sl_W w R → (∀ i r, R[i]? = some r → sl_at f (p + i * w) r) → sl_at f p R.flatten
  | [], _, _, _ => by simpa using sl_nil
  | x :: R, p, hw, h => by
    rw [sl_W_cons] at hw
    rw [List.flatten_cons, sl_app]
    refine ⟨by simpa using h 0 x (by simp), sl_fof hw.2 fun i r hi => ?_⟩
    have := h (i + 1) r (by simpa using hi)
    rw [Nat.succ_mul] at this
    rw [hw.1, show p + w + i * w = p + (i * w + w) by omega]
    exact this
theorem sl_fcell {f : Nat → Int32} {w p i j : Nat} {R : List ay_Row} {r : ay_Row} (h : sl_at f p R.flatten) (hw : sl_W w R) (hi : R[i]? = some r) (hj : j < w) : f (p + i * w + j) = r.getD j 0 :=
  sl_getD (sl_fget h hw hi) (by rw [sl_W_at hw hi]; exact hj)
theorem sl_take {α : Type} {R : List α} {k : Nat} {r : α} (h : R[k]? = some r) : R.take (k + 1) = R.take k ++ [r] := by
  rw [List.take_succ, h]; rfl
theorem sl_idx {α : Type} {R : List α} {k : Nat} (h : k < R.length) : ∃ r, R[k]? = some r := ⟨R[k], List.getElem?_eq_getElem h⟩
/-! a list without repetition, in the order of first places -/
def sm_once {α : Type} [DecidableEq α] (l : List α) : List α := l.foldl (fun acc r => if r ∈ acc then acc else acc ++ [r]) []
theorem sm_once_nil {α : Type} [DecidableEq α] : sm_once ([] : List α) = [] := rfl
theorem sm_once_snoc {α : Type} [DecidableEq α] (l : List α) (r : α) : sm_once (l ++ [r]) = if r ∈ sm_once l then sm_once l else sm_once l ++ [r] := by
  unfold sm_once
  rw [List.foldl_append]
  rfl
theorem sm_snoc {α : Type} {P : List α → Prop} (h0 : P []) (hs : ∀ l r, P l → P (l ++ [r])) (l : List α) : P l := by
  rw [← List.reverse_reverse l]
  induction l.reverse with
  | nil => exact h0
  | cons x t ih => rw [List.reverse_cons]; exact hs _ _ ih
theorem sm_once_mem {α : Type} [DecidableEq α] (l : List α) : ∀ x, x ∈ sm_once l ↔ x ∈ l := by
  refine sm_snoc (P := fun l => ∀ x, x ∈ sm_once l ↔ x ∈ l) ?_ ?_ l
  · intro x; simp [sm_once]
  · intro l r ih x
    rw [sm_once_snoc]
    split
    · rename_i h
      rw [List.mem_append, List.mem_singleton, ih]
      refine ⟨Or.inl, fun q => q.elim id fun e => ?_⟩
      rw [e, ← ih]; exact h
    · rw [List.mem_append, List.mem_append, ih]
theorem sm_once_nodup {α : Type} [DecidableEq α] (l : List α) : (sm_once l).Nodup := by
  refine sm_snoc (P := fun l => (sm_once l).Nodup) ?_ ?_ l
  · simp [sm_once]
  · intro l r ih
    rw [sm_once_snoc]
    split
    · exact ih
    · rename_i h
      rw [List.nodup_append]
      refine ⟨ih, by simp, fun a ha b hb e => ?_⟩
      rw [List.mem_singleton] at hb
      rw [e, hb] at ha
      exact h ha
theorem sm_once_perm {α : Type} [DecidableEq α] {a b : List α} (h : a.Perm b) : (sm_once a).Perm (sm_once b) := by
  rw [List.perm_ext_iff_of_nodup (sm_once_nodup a) (sm_once_nodup b)]
  intro x
  rw [sm_once_mem, sm_once_mem]
  exact h.mem_iff
theorem sm_once_len {α : Type} [DecidableEq α] (l : List α) : (sm_once l).length ≤ l.length := by
  refine sm_snoc (P := fun l => (sm_once l).length ≤ l.length) ?_ ?_ l
  · simp [sm_once]
  · intro l r ih
    rw [sm_once_snoc]
    split <;> simp <;> omega
theorem sm_once_id {α : Type} [DecidableEq α] {l : List α} (h : l.Nodup) : sm_once l = l := by
  revert h
  refine sm_snoc (P := fun l => l.Nodup → sm_once l = l) ?_ ?_ l
  · intro _; rfl
  · intro l r ih h
    rw [List.nodup_append] at h
    rw [sm_once_snoc, ih h.1, if_neg fun q => h.2.2 r q r (by simp) rfl]
theorem sm_once_count {α : Type} [DecidableEq α] (l : List α) (x : α) : (sm_once l).count x = if x ∈ l then 1 else 0 := by
  split
  · rename_i h
    have h1 := List.nodup_iff_count.mp (sm_once_nodup l) x
    have h2 : 0 < (sm_once l).count x := List.count_pos_iff.mpr ((sm_once_mem l x).mpr h)
    omega
  · rename_i h
    exact List.count_eq_zero.mpr fun q => h ((sm_once_mem l x).mp q)
/-! the order of rows -/
def sm_le : List Int32 → List Int32 → Bool
  | [], _ => true
  | _ :: _, [] => false
  | x :: a, y :: b => decide (x < y) || (decide (x = y) && sm_le a b)
theorem sm_i_lt {x y : Int32} : x < y ↔ x.toInt < y.toInt := Int32.lt_iff_toInt_lt
theorem sm_i_le {x y : Int32} : x ≤ y ↔ x.toInt ≤ y.toInt := Int32.le_iff_toInt_le
theorem sm_i_eq {x y : Int32} : x = y ↔ x.toInt = y.toInt := Int32.toInt_inj.symm
theorem sm_le_refl : ∀ a, sm_le a a = true
  | [] => rfl
  | x :: a => by simp [sm_le, sm_le_refl a]
theorem sm_le_total : ∀ a b, (sm_le a b || sm_le b a) = true
  | [], _ => rfl
  | _ :: _, [] => rfl
  | x :: a, y :: b => by
    have := sm_le_total a b
    simp only [sm_le, Bool.or_eq_true, Bool.and_eq_true, decide_eq_true_eq, sm_i_lt, sm_i_eq] at *
    rcases Int.lt_trichotomy x.toInt y.toInt with h | h | h
    · exact Or.inl (Or.inl h)
    · rcases this with q | q
      · exact Or.inl (Or.inr ⟨h, q⟩)
      · exact Or.inr (Or.inr ⟨h.symm, q⟩)
    · exact Or.inr (Or.inl h)
theorem sm_le_trans : ∀ a b c, sm_le a b = true → sm_le b c = true → sm_le a c = true
  | [], _, _, _, _ => rfl
  | _ :: _, [], _, h, _ => by cases h
  | _ :: _, _ :: _, [], _, h => by cases h
  | x :: a, y :: b, z :: c, h1, h2 => by
    have ih := sm_le_trans a b c
    simp only [sm_le, Bool.or_eq_true, Bool.and_eq_true, decide_eq_true_eq, sm_i_lt, sm_i_eq] at *
    rcases h1 with h1 | ⟨h1, q1⟩ <;> rcases h2 with h2 | ⟨h2, q2⟩
    · exact Or.inl (by omega)
    · exact Or.inl (by omega)
    · exact Or.inl (by omega)
    · exact Or.inr ⟨by omega, ih q1 q2⟩
theorem sm_le_anti : ∀ a b, sm_le a b = true → sm_le b a = true → a = b
  | [], [], _, _ => rfl
  | [], _ :: _, _, h => by cases h
  | _ :: _, [], h, _ => by cases h
  | x :: a, y :: b, h1, h2 => by
    have ih := sm_le_anti a b
    simp only [sm_le, Bool.or_eq_true, Bool.and_eq_true, decide_eq_true_eq, sm_i_lt, sm_i_eq] at *
    rcases h1 with h1 | ⟨h1, q1⟩ <;> rcases h2 with h2 | ⟨h2, q2⟩
    · omega
    · omega
    · omega
    · rw [ih q1 q2, sm_i_eq.mpr h1]
def sm_srt (l : List ay_Row) : List ay_Row := l.mergeSort sm_le
theorem sm_srt_perm (l : List ay_Row) : (sm_srt l).Perm l := List.mergeSort_perm l sm_le
theorem sm_srt_pw (l : List ay_Row) : (sm_srt l).Pairwise (fun a b => sm_le a b = true) := List.pairwise_mergeSort sm_le_trans sm_le_total l
theorem sm_srt_uniq {l m : List ay_Row} (h : m.Perm l) (hm : m.Pairwise (fun a b => sm_le a b = true)) : m = sm_srt l :=
  List.Perm.eq_of_pairwise (fun a b _ _ => sm_le_anti a b) hm (sm_srt_pw l) (h.trans (sm_srt_perm l).symm)
theorem sm_srt_congr {l m : List ay_Row} (h : l.Perm m) : sm_srt l = sm_srt m := sm_srt_uniq ((sm_srt_perm l).trans h) (sm_srt_pw l)
/-! numbers -/
def ak_o (o : Option Nat) : Int32 := match o with
  | none => -1
  | some n => nI n
theorem ak_m1 : (-1 : Int32) < 0 := by decide
theorem ak_byte {n : Nat} (h : n < 128) : vp_nar .byte (nI n).toInt8.toInt32 = nI n := by
  rw [pk_vb]
  have : ∀ n, n < 128 → (nI n).toInt8.toInt32 = nI n := by decide
  exact this n h
theorem ak_n0 : (0 : Int32) = nI 0 := rfl
theorem ak_n1 : (1 : Int32) = nI 1 := rfl
theorem ak_n2 : (2 : Int32) = nI 2 := rfl
theorem ak_n3 : (3 : Int32) = nI 3 := rfl
theorem ak_n4 : (4 : Int32) = nI 4 := rfl
theorem ak_n5 : (5 : Int32) = nI 5 := rfl
theorem ak_n6 : (6 : Int32) = nI 6 := rfl
theorem ak_n7 : (7 : Int32) = nI 7 := rfl
theorem ak_n8 : (8 : Int32) = nI 8 := rfl
theorem ak_n10 : (10 : Int32) = nI 10 := rfl
theorem ak_n16 : (16 : Int32) = nI 16 := rfl
theorem ak_n24 : (24 : Int32) = nI 24 := rfl
theorem ak_n32 : (32 : Int32) = nI 32 := rfl
theorem ak_n96 : (96 : Int32) = nI 96 := rfl
theorem ak_up_same {M : Nat → Nat → Int32} {c i : Nat} {v : Int32} : am_up2 M c i v c i = v := by simp [am_up2, am_upC, upd]
theorem ak_up_ne {M : Nat → Nat → Int32} {c i j : Nat} {v : Int32} (h : j ≠ i) : am_up2 M c i v c j = M c j := by simp [am_up2, am_upC, upd, h]
theorem ak_up_cell {M : Nat → Nat → Int32} {c i c' : Nat} {v : Int32} (h : c' ≠ c) : am_up2 M c i v c' = M c' := by simp [am_up2, am_upC, h]
theorem ak_up_own {M : Nat → Nat → Int32} {c i : Nat} {v : Int32} : am_up2 M c i v c = upd (M c) i v := by simp [am_up2, am_upC]
theorem ak_cp_cell {M : Nat → Nat → Int32} {a0 a sp dp n c : Nat} (h : c ≠ a) : am_copy M a0 a sp dp n c = M c := by simp [am_copy, am_upC, h]
theorem ak_cp_own {M : Nat → Nat → Int32} {a0 a sp dp n : Nat} : am_copy M a0 a sp dp n a = va_cpy (M a0) (M a) sp dp n := by simp [am_copy, am_upC]
theorem ak_deep {k d : Nat} (h : k + 1 ≤ d) : ∃ d', d = d' + 1 ∧ k ≤ d' := ⟨d - 1, by omega, by omega⟩
