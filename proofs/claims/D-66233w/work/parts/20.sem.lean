/-! WHAT TERMS MEAN, in plain words: values and truths as ints (0, 1, nothing), bags as lists of rows (up to their order) -/
/-- kind, op, first and second part, number, count, width, looks -/
abbrev sm_T : Type := Nat × Nat × Option Nat × Option Nat × Int32 × Nat × Nat × Nat
abbrev sm_k (x : sm_T) : Nat := x.1
abbrev sm_o (x : sm_T) : Nat := x.2.1
abbrev sm_a (x : sm_T) : Nat := x.2.2.1.getD 0
abbrev sm_b (x : sm_T) : Nat := x.2.2.2.1.getD 0
abbrev sm_n (x : sm_T) : Int32 := x.2.2.2.2.1
abbrev sm_c (x : sm_T) : Nat := x.2.2.2.2.2.1
abbrev sm_w (x : sm_T) : Nat := x.2.2.2.2.2.2.1
abbrev sm_l (x : sm_T) : Nat := x.2.2.2.2.2.2.2
def sm_reckon (op : Nat) (a b : Int32) : Int32 := if a = (-2147483648 : Int32) ∨ b = (-2147483648 : Int32) then (-2147483648 : Int32) else if op = 0 then a + b else if op = 1 then a - b else a * b
def sm_cmp (op : Nat) (a b : Int32) : Int32 := if op < 4 ∧ (a = (-2147483648 : Int32) ∨ b = (-2147483648 : Int32)) then (-2147483648 : Int32) else if op = 0 ∨ op = 4 then (if a = b then 1 else 0) else if op = 1 then (if a = b then 0 else 1) else if op = 2 then (if a < b then 1 else 0) else (if a ≤ b then 1 else 0)
def sm_not (a : Int32) : Int32 := if a = (-2147483648 : Int32) then (-2147483648 : Int32) else 1 - a
def sm_logic (op : Nat) (a b : Int32) : Int32 := if op = 0 then (if a = 0 ∨ b = 0 then 0 else if a = (-2147483648 : Int32) ∨ b = (-2147483648 : Int32) then (-2147483648 : Int32) else 1) else (if a = 1 ∨ b = 1 then 1 else if a = (-2147483648 : Int32) ∨ b = (-2147483648 : Int32) then (-2147483648 : Int32) else 0)
def sm_isno (a : Int32) : Int32 := if a = (-2147483648 : Int32) then 1 else 0
def sm_lo (a v : Int32) : Int32 := if v < a then v else a
def sm_hi (a v : Int32) : Int32 := if a < v then v else a
def sm_ext (g : Int32 → Int32 → Int32) (l : List Int32) : Int32 := match l with
  | [] => (-2147483648 : Int32)
  | x :: r => r.foldl g x
def sm_some (vs : List Int32) : List Int32 := vs.filter (fun v => !(v == (-2147483648 : Int32)))
def sm_fold (k : Nat) (vs : List Int32) : Int32 :=
  if k = 0 then nI vs.length else if k = 1 then nI (sm_some vs).length else if k = 5 then nI (sm_once (sm_some vs)).length
  else if k = 2 then sm_ext (fun a v => a + v) (sm_some vs) else if k = 3 then sm_ext sm_lo (sm_some vs) else sm_ext sm_hi (sm_some vs)
def sm_quant (ends : Int32) (xs : List Int32) : Int32 := if ends ∈ xs then ends else if (-2147483648 : Int32) ∈ xs then (-2147483648 : Int32) else 1 - ends
def sm_col (num : Int32) (k : Nat) : Nat := ((num >>> (nI (4 * k) &&& 31)) &&& 15).toNatClampNeg
def sm_bit (num : Int32) (c : Nat) : Bool := (num >>> (nI c &&& 31)) &&& 1 == 1
def sm_ks (num : Int32) : List Nat := (List.range 8).filter (sm_bit num)
def sm_pick (ks : List Nat) (r : ay_Row) : ay_Row := ks.map (fun c => r.getD c 0)
def sm_at (c : Nat) (l : List ay_Row) : List Int32 := l.map (fun r => r.getD c 0)
def sm_groups (num : Int32) (kind c : Nat) (l : List ay_Row) : List ay_Row :=
  if sm_ks num = [] then [[sm_fold kind (sm_at c l)]]
  else (sm_once (l.map (sm_pick (sm_ks num)))).map (fun k => k ++ [sm_fold kind (sm_at c (l.filter (fun r => sm_pick (sm_ks num) r == k)))])
def sm_apply (k wb : Nat) (l : List ay_Row) (f : ay_Row → List ay_Row) : List ay_Row :=
  if k = 0 then l.flatMap (fun r => (f r).map (fun s => r ++ s))
  else if k = 1 then l.flatMap (fun r => if f r = [] then [r ++ List.replicate wb (-2147483648 : Int32)] else (f r).map (fun s => r ++ s))
  else if k = 2 then l.filter (fun r => !(f r).isEmpty) else l.filter (fun r => (f r).isEmpty)
def sm_minus (A B : List ay_Row) : List ay_Row := B.foldl (fun a r => a.erase r) A
def sm_both (op : Nat) (A B : List ay_Row) : List ay_Row := if op = 0 then A ++ B else if op = 1 then sm_minus A B else sm_minus A (sm_minus A B)
def sm_first (n : Nat) (l : List ay_Row) : List ay_Row := (sm_srt l).take n
def sm_only (num : Int32) (n : Nat) (r : ay_Row) : ay_Row := (List.range n).map (fun k => r.getD (sm_col num k) 0)
abbrev sm_E : Type := Nat → Int32
def sm_enter (r : ay_Row) (e : sm_E) : sm_E := fun k => if k < 8 then r.getD k 0 else e (k - 8)
def sm_body (x : sm_T) (wd : Nat → Nat) (tb : Nat → List ay_Row) (ev : Nat → sm_E → Int32 × List ay_Row) (e : sm_E) : Int32 × List ay_Row := match sm_k x with
  | 0 => (sm_n x, [])
  | 1 => (e (sm_n x).toNatClampNeg, [])
  | 2 => (sm_reckon (sm_o x) (ev (sm_a x) e).1 (ev (sm_b x) e).1, [])
  | 3 => ((ev (sm_a x) e).1, [])
  | 4 => (sm_fold (sm_o x) (sm_at (sm_c x) (ev (sm_a x) e).2), [])
  | 5 => (sm_cmp (sm_o x) (ev (sm_a x) e).1 (ev (sm_b x) e).1, [])
  | 6 => (sm_isno (ev (sm_a x) e).1, [])
  | 7 => (if sm_o x = 2 then sm_not (ev (sm_a x) e).1 else sm_logic (sm_o x) (ev (sm_a x) e).1 (ev (sm_b x) e).1, [])
  | 8 => (if (ev (sm_a x) e).2 = [] then 0 else 1, [])
  | 9 => (sm_quant 1 ((sm_at 0 (ev (sm_b x) e).2).map (fun v => sm_cmp (sm_o x) (ev (sm_a x) e).1 v)), [])
  | 10 => (sm_quant 0 ((sm_at 0 (ev (sm_b x) e).2).map (fun v => sm_cmp (sm_o x) (ev (sm_a x) e).1 v)), [])
  | 11 => (0, tb (sm_n x).toNatClampNeg)
  | 12 => (0, (ev (sm_a x) e).2.filter (fun r => (ev (sm_b x) (sm_enter r e)).1 == 1))
  | 13 => (0, (ev (sm_a x) e).2.map (fun r => r ++ [(ev (sm_b x) (sm_enter r e)).1]))
  | 14 => (0, (ev (sm_a x) e).2.map (sm_only (sm_n x) (sm_c x)))
  | 15 => (0, sm_apply 0 0 (ev (sm_a x) e).2 (fun _ => (ev (sm_b x) e).2))
  | 16 => (0, sm_apply (sm_o x) (wd (sm_b x)) (ev (sm_a x) e).2 (fun r => (ev (sm_b x) (sm_enter r e)).2))
  | 17 => (0, sm_both (sm_o x) (ev (sm_a x) e).2 (ev (sm_b x) e).2)
  | 18 => (0, sm_once (ev (sm_a x) e).2)
  | 19 => (0, sm_first (sm_n x).toNatClampNeg (ev (sm_a x) e).2)
  | _ => (0, sm_groups (sm_n x) (sm_o x) (sm_c x) (ev (sm_a x) e).2)
def sm_ev (T : Nat → sm_T) (tb : Nat → List ay_Row) : Nat → Nat → sm_E → Int32 × List ay_Row
  | 0, _, _ => (0, [])
  | n + 1, t, e => sm_body (T t) (fun i => sm_w (T i)) tb (sm_ev T tb n) e
/-! terms as they are made -/
def sm_sort (k : Nat) : Nat := if k ≤ 4 then 0 else if k ≤ 10 then 1 else 2
def sm_pa (T : Nat → sm_T) (t s : Nat) : Prop := (T t).2.2.1 = some (sm_a (T t)) ∧ sm_a (T t) < t ∧ sm_sort (sm_k (T (sm_a (T t)))) = s
def sm_pb (T : Nat → sm_T) (t s : Nat) : Prop := (T t).2.2.2.1 = some (sm_b (T t)) ∧ sm_b (T t) < t ∧ sm_sort (sm_k (T (sm_b (T t)))) = s
def sm_nb (T : Nat → sm_T) (t : Nat) : Prop := (T t).2.2.2.1 = none
def sm_wA (T : Nat → sm_T) (t : Nat) : Nat := sm_w (T (sm_a (T t)))
def sm_wB (T : Nat → sm_T) (t : Nat) : Nat := sm_w (T (sm_b (T t)))
def sm_lA (T : Nat → sm_T) (t : Nat) : Nat := sm_l (T (sm_a (T t)))
def sm_lB (T : Nat → sm_T) (t : Nat) : Nat := sm_l (T (sm_b (T t)))
def sm_fits (T : Nat → sm_T) (t : Nat) : Prop := sm_lB T t % 256 < 2 ^ sm_wA T t
def sm_wfk (T : Nat → sm_T) (tc : Nat → Nat) (nt t : Nat) : Prop := match sm_k (T t) with
  | 0 => (T t).2.2.1 = none ∧ sm_nb T t ∧ sm_w (T t) = 0 ∧ sm_l (T t) = 0
  | 1 => (T t).2.2.1 = none ∧ sm_nb T t ∧ sm_w (T t) = 0 ∧ ∃ k, k < 32 ∧ sm_n (T t) = nI k ∧ sm_l (T t) = 2 ^ k
  | 2 => sm_pa T t 0 ∧ sm_pb T t 0 ∧ sm_o (T t) ≤ 2 ∧ sm_l (T t) = sm_lA T t ||| sm_lB T t
  | 3 => sm_pa T t 1 ∧ sm_nb T t ∧ sm_l (T t) = sm_lA T t
  | 4 => sm_pa T t 2 ∧ sm_nb T t ∧ sm_o (T t) ≤ 5 ∧ sm_c (T t) < sm_wA T t ∧ sm_l (T t) = sm_lA T t
  | 5 => sm_pa T t 0 ∧ sm_pb T t 0 ∧ sm_o (T t) ≤ 4 ∧ sm_l (T t) = sm_lA T t ||| sm_lB T t
  | 6 => sm_pa T t 0 ∧ sm_nb T t ∧ sm_l (T t) = sm_lA T t
  | 7 => sm_pa T t 1 ∧ ((sm_o (T t) < 2 ∧ sm_pb T t 1 ∧ sm_l (T t) = sm_lA T t ||| sm_lB T t) ∨ (sm_o (T t) = 2 ∧ sm_nb T t ∧ sm_l (T t) = sm_lA T t))
  | 8 => sm_pa T t 2 ∧ sm_nb T t ∧ sm_l (T t) = sm_lA T t
  | 9 => sm_pa T t 0 ∧ sm_pb T t 2 ∧ sm_o (T t) ≤ 4 ∧ sm_wB T t = 1 ∧ sm_l (T t) = sm_lA T t ||| sm_lB T t
  | 10 => sm_pa T t 0 ∧ sm_pb T t 2 ∧ sm_o (T t) ≤ 4 ∧ sm_wB T t = 1 ∧ sm_l (T t) = sm_lA T t ||| sm_lB T t
  | 11 => (T t).2.2.1 = none ∧ sm_nb T t ∧ sm_l (T t) = 0 ∧ ∃ k, k < nt ∧ sm_n (T t) = nI k ∧ sm_w (T t) = tc k
  | 12 => sm_pa T t 2 ∧ sm_pb T t 1 ∧ sm_fits T t ∧ sm_w (T t) = sm_wA T t ∧ sm_l (T t) = sm_lA T t ||| sm_lB T t >>> 8
  | 13 => sm_pa T t 2 ∧ sm_pb T t 0 ∧ sm_fits T t ∧ sm_w (T t) = sm_wA T t + 1 ∧ sm_l (T t) = sm_lA T t ||| sm_lB T t >>> 8
  | 14 => sm_pa T t 2 ∧ sm_nb T t ∧ sm_w (T t) = sm_c (T t) ∧ (∀ k, k < sm_c (T t) → sm_col (sm_n (T t)) k < sm_wA T t) ∧ sm_l (T t) = sm_lA T t
  | 15 => sm_pa T t 2 ∧ sm_pb T t 2 ∧ sm_w (T t) = sm_wA T t + sm_wB T t ∧ sm_l (T t) = sm_lA T t ||| sm_lB T t
  | 16 => sm_pa T t 2 ∧ sm_pb T t 2 ∧ sm_o (T t) ≤ 3 ∧ sm_fits T t ∧ sm_w (T t) = (if sm_o (T t) < 2 then sm_wA T t + sm_wB T t else sm_wA T t) ∧ sm_l (T t) = sm_lA T t ||| sm_lB T t >>> 8
  | 17 => sm_pa T t 2 ∧ sm_pb T t 2 ∧ sm_o (T t) ≤ 2 ∧ sm_wA T t = sm_wB T t ∧ sm_w (T t) = sm_wA T t ∧ sm_l (T t) = sm_lA T t ||| sm_lB T t
  | 18 => sm_pa T t 2 ∧ sm_nb T t ∧ sm_w (T t) = sm_wA T t ∧ sm_l (T t) = sm_lA T t
  | 19 => sm_pa T t 2 ∧ sm_nb T t ∧ sm_w (T t) = sm_wA T t ∧ sm_l (T t) = sm_lA T t ∧ ∃ n, 1 ≤ n ∧ n ≤ 24 ∧ sm_n (T t) = nI n
  | 20 => sm_pa T t 2 ∧ sm_nb T t ∧ sm_o (T t) ≤ 5 ∧ sm_c (T t) < sm_wA T t ∧ sm_l (T t) = sm_lA T t ∧ ∃ g, g < 2 ^ sm_wA T t ∧ g ≠ 255 ∧ sm_n (T t) = nI g ∧ sm_w (T t) = (sm_ks (nI g)).length + 1
  | _ => False
def sm_wf (T : Nat → sm_T) (tc : Nat → Nat) (nt n : Nat) : Prop := ∀ t, t < n → sm_wfk T tc nt t ∧ sm_w (T t) ≤ 8 ∧ sm_l (T t) < 2 ^ 32 ∧ (11 ≤ sm_k (T t) → 1 ≤ sm_w (T t))
theorem sm_kinds {P : Nat → Prop} {T : Nat → sm_T} {tc : Nat → Nat} {nt t : Nat} (h : sm_wfk T tc nt t) (p : ∀ k, k ≤ 20 → sm_k (T t) = k → P k) : P (sm_k (T t)) := by
  refine p _ ?_ rfl
  refine Nat.not_lt.mp fun q => ?_
  obtain ⟨j, hj⟩ : ∃ j, sm_k (T t) = j + 21 := ⟨sm_k (T t) - 21, by omega⟩
  unfold sm_wfk at h
  rw [hj] at h
  exact h
/-! the answers of lists don't hang on their order -/
theorem sm_some_perm {a b : List Int32} (h : a.Perm b) : (sm_some a).Perm (sm_some b) := h.filter _
theorem sm_ext_perm {g : Int32 → Int32 → Int32} (hc : ∀ a v w, g (g a v) w = g (g a w) v) (hs : ∀ a b, g a b = g b a) : ∀ {a b : List Int32}, a.Perm b → sm_ext g a = sm_ext g b := by
  intro a b h
  induction h with
  | nil => rfl
  | cons x h _ =>
    show List.foldl g x _ = List.foldl g x _
    exact h.foldl_eq' (fun _ _ _ _ z => hc z _ _) x
  | swap x y l =>
    show List.foldl g (g y x) l = List.foldl g (g x y) l
    rw [hs]
  | trans _ _ h1 h2 => exact h1.trans h2
theorem sm_lo_c (a v w : Int32) : sm_lo (sm_lo a v) w = sm_lo (sm_lo a w) v := by
  unfold sm_lo
  simp only [sm_i_lt]
  repeat' split
  all_goals first | rfl | (exfalso; omega) | (apply sm_i_eq.mpr; omega)
theorem sm_hi_c (a v w : Int32) : sm_hi (sm_hi a v) w = sm_hi (sm_hi a w) v := by
  unfold sm_hi
  simp only [sm_i_lt]
  repeat' split
  all_goals first | rfl | (exfalso; omega) | (apply sm_i_eq.mpr; omega)
theorem sm_lo_s (a b : Int32) : sm_lo a b = sm_lo b a := by
  unfold sm_lo
  simp only [sm_i_lt]
  split <;> split <;> first | rfl | (exfalso; omega) | (apply sm_i_eq.mpr; omega)
theorem sm_hi_s (a b : Int32) : sm_hi a b = sm_hi b a := by
  unfold sm_hi
  simp only [sm_i_lt]
  split <;> split <;> first | rfl | (exfalso; omega) | (apply sm_i_eq.mpr; omega)
theorem sm_fold_perm (k : Nat) {a b : List Int32} (h : a.Perm b) : sm_fold k a = sm_fold k b := by
  unfold sm_fold
  rw [h.length_eq, (sm_some_perm h).length_eq, (sm_once_perm (sm_some_perm h)).length_eq, sm_ext_perm sm_lo_c sm_lo_s (sm_some_perm h), sm_ext_perm sm_hi_c sm_hi_s (sm_some_perm h),
    sm_ext_perm (g := fun a v => a + v) (fun a v w => by simp only [Int32.add_assoc, Int32.add_comm v w]) (fun a b => Int32.add_comm a b) (sm_some_perm h)]
theorem sm_at_perm (c : Nat) {a b : List ay_Row} (h : a.Perm b) : (sm_at c a).Perm (sm_at c b) := h.map _
theorem sm_quant_perm (d : Int32) {a b : List Int32} (h : a.Perm b) : sm_quant d a = sm_quant d b := by
  unfold sm_quant
  simp only [h.mem_iff]
theorem sm_nil_perm {α : Type} {a b : List α} (h : a.Perm b) : a = [] ↔ b = [] := by
  constructor
  · intro e; rw [e] at h; exact h.symm.eq_nil
  · intro e; rw [e] at h; exact h.eq_nil
theorem sm_minus_count (A B : List ay_Row) (r : ay_Row) : (sm_minus A B).count r = A.count r - B.count r := by
  unfold sm_minus
  induction B generalizing A with
  | nil => simp
  | cons x B ih =>
    rw [List.foldl_cons, ih, List.count_erase, List.count_cons]
    by_cases h : x = r
    · simp [h]; omega
    · have h' : ¬ r = x := fun e => h e.symm
      simp [h, h']
theorem sm_both_perm (op : Nat) {A A' B B' : List ay_Row} (ha : A.Perm A') (hb : B.Perm B') : (sm_both op A B).Perm (sm_both op A' B') := by
  unfold sm_both
  split
  · exact ha.append hb
  · split
    · rw [List.perm_iff_count]
      intro r
      rw [sm_minus_count, sm_minus_count, ha.count_eq, hb.count_eq]
    · rw [List.perm_iff_count]
      intro r
      rw [sm_minus_count, sm_minus_count, sm_minus_count, sm_minus_count, ha.count_eq, hb.count_eq]
theorem sm_first_perm (n : Nat) {A B : List ay_Row} (h : A.Perm B) : sm_first n A = sm_first n B := by
  unfold sm_first
  rw [sm_srt_congr h]
theorem sm_flat_perm {α β : Type} {l : List α} {f g : α → List β} (h : ∀ x, x ∈ l → (f x).Perm (g x)) : (l.flatMap f).Perm (l.flatMap g) := by
  induction l with
  | nil => exact List.Perm.nil
  | cons x l ih =>
    rw [List.flatMap_cons, List.flatMap_cons]
    exact (h x (by simp)).append (ih fun y hy => h y (by simp [hy]))
theorem sm_groups_perm (num : Int32) (kind c : Nat) {A B : List ay_Row} (h : A.Perm B) : (sm_groups num kind c A).Perm (sm_groups num kind c B) := by
  unfold sm_groups
  split
  · rw [sm_fold_perm kind (sm_at_perm c h)]
  · have e : (fun k : ay_Row => k ++ [sm_fold kind (sm_at c (A.filter (fun r => sm_pick (sm_ks num) r == k)))]) = (fun k => k ++ [sm_fold kind (sm_at c (B.filter (fun r => sm_pick (sm_ks num) r == k)))]) := by
      funext k
      rw [sm_fold_perm kind (sm_at_perm c (h.filter _))]
    rw [e]
    exact (sm_once_perm (h.map _)).map _
theorem sm_apply_perm (k wb : Nat) {A B : List ay_Row} {f g : ay_Row → List ay_Row} (h : A.Perm B) (hf : ∀ r, r ∈ A → (f r).Perm (g r)) : (sm_apply k wb A f).Perm (sm_apply k wb B g) := by
  have hf' : ∀ r, r ∈ B → (f r).Perm (g r) := fun r hr => hf r (h.mem_iff.mpr hr)
  unfold sm_apply
  split
  · refine (h.flatMap_right _).trans (sm_flat_perm fun x hx => (hf' x hx).map _)
  · split
    · refine (h.flatMap_right _).trans (sm_flat_perm fun x hx => ?_)
      by_cases e : f x = []
      · rw [if_pos e, if_pos ((sm_nil_perm (hf' x hx)).mp e)]
      · rw [if_neg e, if_neg (fun q => e ((sm_nil_perm (hf' x hx)).mpr q))]
        exact (hf' x hx).map _
    · split
      · refine (h.filter _).trans (List.Perm.of_eq (List.filter_congr fun x hx => ?_))
        rw [(hf' x hx).isEmpty_eq]
      · refine (h.filter _).trans (List.Perm.of_eq (List.filter_congr fun x hx => ?_))
        rw [(hf' x hx).isEmpty_eq]
/-! fuel -/
theorem sm_body_congr {x : sm_T} {wd : Nat → Nat} {tb : Nat → List ay_Row} {ev ev' : Nat → sm_E → Int32 × List ay_Row} (ha : ev (sm_a x) = ev' (sm_a x)) (hb : ev (sm_b x) = ev' (sm_b x)) (e : sm_E) : sm_body x wd tb ev e = sm_body x wd tb ev' e := by
  unfold sm_body
  rw [ha, hb]
def sm_lt (T : Nat → sm_T) (n : Nat) : Prop := ∀ t, t < n → (sm_a (T t) < t ∨ sm_a (T t) = 0) ∧ (sm_b (T t) < t ∨ sm_b (T t) = 0)
