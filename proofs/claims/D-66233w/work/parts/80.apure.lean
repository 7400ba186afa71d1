/-! CALLS, plain: a term more, a table more -/
def ap_push (T : Nat → sm_T) (N : Nat) (τ : sm_T) : Nat → sm_T := fun k => if k = N then τ else T k
section AP
variable {T : Nat → sm_T} {N : Nat} {τ : sm_T} {tc : Nat → Nat} {nt : Nat}
theorem ap_new : ap_push T N τ N = τ := by unfold ap_push; rw [if_pos rfl]
theorem ap_old {t : Nat} (h : t < N) : ap_push T N τ t = T t := by unfold ap_push; rw [if_neg (by omega)]
theorem ap_none {o : Option Nat} (h : o = none) (t : Nat) : o.getD 0 ≤ t := by rw [h]; exact Nat.zero_le _
theorem ap_ab {t : Nat} (h : sm_wfk T tc nt t) : sm_a (T t) ≤ t ∧ sm_b (T t) ≤ t := by
  rcases sm_split (sm_k20 h) with hk | hk | hk | hk | hk | hk | hk | hk | hk | hk | hk | hk | hk | hk | hk | hk | hk | hk | hk | hk | hk
  · have q := sm_wf0 h hk; exact ⟨ap_none q.1 t, ap_none q.2.1 t⟩
  · have q := sm_wf1 h hk; exact ⟨ap_none q.1 t, ap_none q.2.1 t⟩
  · have q := sm_wf2 h hk; exact ⟨Nat.le_of_lt q.1.2.1, Nat.le_of_lt q.2.1.2.1⟩
  · have q := sm_wf3 h hk; exact ⟨Nat.le_of_lt q.1.2.1, ap_none q.2.1 t⟩
  · have q := sm_wf4 h hk; exact ⟨Nat.le_of_lt q.1.2.1, ap_none q.2.1 t⟩
  · have q := sm_wf5 h hk; exact ⟨Nat.le_of_lt q.1.2.1, Nat.le_of_lt q.2.1.2.1⟩
  · have q := sm_wf6 h hk; exact ⟨Nat.le_of_lt q.1.2.1, ap_none q.2.1 t⟩
  · have q := sm_wf7 h hk
    rcases q.2 with ⟨-, q2, -⟩ | ⟨-, q2, -⟩
    · exact ⟨Nat.le_of_lt q.1.2.1, Nat.le_of_lt q2.2.1⟩
    · exact ⟨Nat.le_of_lt q.1.2.1, ap_none q2 t⟩
  · have q := sm_wf8 h hk; exact ⟨Nat.le_of_lt q.1.2.1, ap_none q.2.1 t⟩
  · have q := sm_wf9 h hk; exact ⟨Nat.le_of_lt q.1.2.1, Nat.le_of_lt q.2.1.2.1⟩
  · have q := sm_wf10 h hk; exact ⟨Nat.le_of_lt q.1.2.1, Nat.le_of_lt q.2.1.2.1⟩
  · have q := sm_wf11 h hk; exact ⟨ap_none q.1 t, ap_none q.2.1 t⟩
  · have q := sm_wf12 h hk; exact ⟨Nat.le_of_lt q.1.2.1, Nat.le_of_lt q.2.1.2.1⟩
  · have q := sm_wf13 h hk; exact ⟨Nat.le_of_lt q.1.2.1, Nat.le_of_lt q.2.1.2.1⟩
  · have q := sm_wf14 h hk; exact ⟨Nat.le_of_lt q.1.2.1, ap_none q.2.1 t⟩
  · have q := sm_wf15 h hk; exact ⟨Nat.le_of_lt q.1.2.1, Nat.le_of_lt q.2.1.2.1⟩
  · have q := sm_wf16 h hk; exact ⟨Nat.le_of_lt q.1.2.1, Nat.le_of_lt q.2.1.2.1⟩
  · have q := sm_wf17 h hk; exact ⟨Nat.le_of_lt q.1.2.1, Nat.le_of_lt q.2.1.2.1⟩
  · have q := sm_wf18 h hk; exact ⟨Nat.le_of_lt q.1.2.1, ap_none q.2.1 t⟩
  · have q := sm_wf19 h hk; exact ⟨Nat.le_of_lt q.1.2.1, ap_none q.2.1 t⟩
  · have q := sm_wf20 h hk; exact ⟨Nat.le_of_lt q.1.2.1, ap_none q.2.1 t⟩
theorem ap_wfk_old {t : Nat} (ht : t < N) (h : sm_wfk T tc nt t) : sm_wfk (ap_push T N τ) tc nt t := by
  have ab := ap_ab h
  have et : ap_push T N τ t = T t := ap_old ht
  have ea : ap_push T N τ (sm_a (T t)) = T (sm_a (T t)) := ap_old (by omega)
  have eb : ap_push T N τ (sm_b (T t)) = T (sm_b (T t)) := ap_old (by omega)
  unfold sm_wfk sm_pa sm_pb sm_nb sm_fits sm_lA sm_lB sm_wA sm_wB at *
  rw [et, ea, eb]
  exact h
/-- a term more -/
theorem ap_wf (w : sm_wf T tc nt N) (h : sm_wfk (ap_push T N τ) tc nt N) (hw : sm_w τ ≤ 8) (hl : sm_l τ < 2 ^ 32) (h1 : 11 ≤ sm_k τ → 1 ≤ sm_w τ) : sm_wf (ap_push T N τ) tc nt (N + 1) := by
  intro t ht
  by_cases e : t = N
  · rw [e]
    refine ⟨h, ?_⟩
    rw [ap_new]
    exact ⟨hw, hl, h1⟩
  · have ht : t < N := by omega
    obtain ⟨w1, w2⟩ := w t ht
    refine ⟨ap_wfk_old ht w1, ?_⟩
    rw [ap_old ht]
    exact w2
/-- a table more -/
theorem ap_wf_tab {tc' : Nat → Nat} {nt' : Nat} (w : sm_wf T tc nt N) (h : ∀ k, k < nt → tc' k = tc k) (hn : nt ≤ nt') : sm_wf T tc' nt' N := by
  intro t ht
  obtain ⟨w1, w2⟩ := w t ht
  refine ⟨?_, w2⟩
  rcases sm_split (sm_k20 w1) with hk | hk | hk | hk | hk | hk | hk | hk | hk | hk | hk | hk | hk | hk | hk | hk | hk | hk | hk | hk | hk
  iterate 11 (unfold sm_wfk at *; rw [hk] at w1 ⊢; exact w1)
  · obtain ⟨q1, q2, q3, k, q4, q5, q6⟩ := sm_wf11 w1 hk
    unfold sm_wfk
    rw [hk]
    exact ⟨q1, q2, q3, k, by omega, q5, by rw [h k q4]; exact q6⟩
  iterate 9 (unfold sm_wfk at *; rw [hk] at w1 ⊢; exact w1)
section ONE
variable {a b s : Nat}
theorem ap_a (hτ : τ.2.2.1 = some a) : sm_a τ = a := by show τ.2.2.1.getD 0 = a; rw [hτ]; rfl
theorem ap_b (hτ : τ.2.2.2.1 = some b) : sm_b τ = b := by show τ.2.2.2.1.getD 0 = b; rw [hτ]; rfl
theorem ap_pa (ha : a < N) (hs : sm_sort (sm_k (T a)) = s) (hτ : τ.2.2.1 = some a) : sm_pa (ap_push T N τ) N s := by
  unfold sm_pa; rw [ap_new, ap_a hτ, ap_old ha]; exact ⟨hτ, ha, hs⟩
theorem ap_pb (ha : b < N) (hs : sm_sort (sm_k (T b)) = s) (hτ : τ.2.2.2.1 = some b) : sm_pb (ap_push T N τ) N s := by
  unfold sm_pb; rw [ap_new, ap_b hτ, ap_old ha]; exact ⟨hτ, ha, hs⟩
theorem ap_nb (hτ : τ.2.2.2.1 = none) : sm_nb (ap_push T N τ) N := by unfold sm_nb; rw [ap_new]; exact hτ
theorem ap_lA (ha : a < N) (hτ : τ.2.2.1 = some a) : sm_lA (ap_push T N τ) N = sm_l (T a) := by unfold sm_lA; rw [ap_new, ap_a hτ, ap_old ha]
theorem ap_wA (ha : a < N) (hτ : τ.2.2.1 = some a) : sm_wA (ap_push T N τ) N = sm_w (T a) := by unfold sm_wA; rw [ap_new, ap_a hτ, ap_old ha]
theorem ap_lB (hb : b < N) (hτ : τ.2.2.2.1 = some b) : sm_lB (ap_push T N τ) N = sm_l (T b) := by unfold sm_lB; rw [ap_new, ap_b hτ, ap_old hb]
theorem ap_wB (hb : b < N) (hτ : τ.2.2.2.1 = some b) : sm_wB (ap_push T N τ) N = sm_w (T b) := by unfold sm_wB; rw [ap_new, ap_b hτ, ap_old hb]
end ONE
end AP
/-! what a call asks, and the term that it makes -/
/-- a term of a sort -/
def ap_is (T : Nat → sm_T) (N : Nat) (x : Int32) (s : Nat) : Prop := vp_in x N ∧ sm_sort (sm_k (T x.toNatClampNeg)) = s
theorem ap_nI {x : Int32} {n : Nat} (h : vp_in x n) (hn : n < 2 ^ 31) : x = nI x.toNatClampNeg ∧ x.toNatClampNeg < n := by
  obtain ⟨j, hj, rfl⟩ := vp_in_of h hn
  rw [nI_clamp (by omega)]
  exact ⟨rfl, hj⟩
def ok_column (N : Nat) (x1 x2 : Int32) : Prop := N < 120 ∧ vp_in x1 4 ∧ vp_in x2 8
def ok_two (T : Nat → sm_T) (N s1 s2 : Nat) (x y : Int32) : Prop := N < 120 ∧ ap_is T N x s1 ∧ ap_is T N y s2
def ok_one (T : Nat → sm_T) (N s : Nat) (x : Int32) : Prop := N < 120 ∧ ap_is T N x s
def ok_op (T : Nat → sm_T) (N n s1 s2 : Nat) (o x y : Int32) : Prop := ok_two T N s1 s2 x y ∧ vp_in o n
def ok_fold (T : Nat → sm_T) (N : Nat) (x1 x2 x3 : Int32) : Prop := ok_one T N 2 x2 ∧ vp_in x1 6 ∧ vp_in x3 (sm_w (T x2.toNatClampNeg))
def ok_logic (T : Nat → sm_T) (N : Nat) (x1 x2 x3 : Int32) : Prop := vp_in x1 3 ∧ ok_one T N 1 x2 ∧ (x1.toNatClampNeg < 2 → ap_is T N x3 1)
def ok_quant (T : Nat → sm_T) (N : Nat) (x1 x2 x3 : Int32) : Prop := ok_op T N 5 0 2 x1 x2 x3 ∧ sm_w (T x3.toNatClampNeg) = 1
def ok_scan (N nt : Nat) (x1 : Int32) : Prop := N < 120 ∧ vp_in x1 nt
def ap_fits (T : Nat → sm_T) (x y : Int32) : Prop := sm_l (T y.toNatClampNeg) % 256 < 2 ^ sm_w (T x.toNatClampNeg)
def ok_filter (T : Nat → sm_T) (N : Nat) (x1 x2 : Int32) : Prop := ok_two T N 2 1 x1 x2 ∧ ap_fits T x1 x2
def ok_more (T : Nat → sm_T) (N : Nat) (x1 x2 : Int32) : Prop := ok_two T N 2 0 x1 x2 ∧ ap_fits T x1 x2 ∧ sm_w (T x1.toNatClampNeg) < 8
def ok_only (T : Nat → sm_T) (N : Nat) (x1 x2 x3 : Int32) : Prop := ok_one T N 2 x1 ∧ (vp_in x3 9 ∧ x3 ≠ 0) ∧ ∀ k, k < x3.toNatClampNeg → sm_col x2 k < sm_w (T x1.toNatClampNeg)
def ap_narrow (T : Nat → sm_T) (x y : Int32) : Prop := sm_w (T x.toNatClampNeg) + sm_w (T y.toNatClampNeg) ≤ 8
def ok_pairs (T : Nat → sm_T) (N : Nat) (x1 x2 : Int32) : Prop := ok_two T N 2 2 x1 x2 ∧ ap_narrow T x1 x2
def ok_apply (T : Nat → sm_T) (N : Nat) (x1 x2 x3 : Int32) : Prop := ok_op T N 4 2 2 x1 x2 x3 ∧ ap_fits T x2 x3 ∧ (x1.toNatClampNeg < 2 → ap_narrow T x2 x3)
def ok_both (T : Nat → sm_T) (N : Nat) (x1 x2 x3 : Int32) : Prop := ok_op T N 3 2 2 x1 x2 x3 ∧ sm_w (T x2.toNatClampNeg) = sm_w (T x3.toNatClampNeg)
def ok_first (T : Nat → sm_T) (N : Nat) (x1 x2 : Int32) : Prop := ok_one T N 2 x1 ∧ vp_in x2 25 ∧ x2 ≠ 0
def ok_groups (T : Nat → sm_T) (N : Nat) (x1 x2 x3 x4 : Int32) : Prop := ok_one T N 2 x1 ∧ vp_in x3 6 ∧ vp_in x4 (sm_w (T x1.toNatClampNeg)) ∧ vp_in x2 (2 ^ sm_w (T x1.toNatClampNeg)) ∧ x2.toNatClampNeg ≠ 255
/-- a kind with one part, with two, with one and rows around the other -/
def tm_1 (T : Nat → sm_T) (k o : Nat) (x n : Int32) (c w : Nat) : sm_T := (k, o, some x.toNatClampNeg, none, n, c, w, sm_l (T x.toNatClampNeg))
def tm_2 (T : Nat → sm_T) (k o : Nat) (x y : Int32) (w : Nat) : sm_T := (k, o, some x.toNatClampNeg, some y.toNatClampNeg, 0, 0, w, sm_l (T x.toNatClampNeg) ||| sm_l (T y.toNatClampNeg))
def tm_i (T : Nat → sm_T) (k o : Nat) (x y : Int32) (w : Nat) : sm_T := (k, o, some x.toNatClampNeg, some y.toNatClampNeg, 0, 0, w, sm_l (T x.toNatClampNeg) ||| sm_l (T y.toNatClampNeg) >>> 8)
def tm_constant (x1 : Int32) : sm_T := (0, 0, none, none, x1, 0, 0, 0)
def tm_column (x1 x2 : Int32) : sm_T := (1, 0, none, none, nI (8 * x1.toNatClampNeg + x2.toNatClampNeg), 0, 0, 2 ^ (8 * x1.toNatClampNeg + x2.toNatClampNeg))
def tm_scan (tc : Nat → Nat) (x1 : Int32) : sm_T := (11, 0, none, none, x1, 0, tc x1.toNatClampNeg, 0)
def tm_logic (T : Nat → sm_T) (x1 x2 x3 : Int32) : sm_T := if x1.toNatClampNeg < 2 then tm_2 T 7 x1.toNatClampNeg x2 x3 0 else tm_1 T 7 x1.toNatClampNeg x2 0 0 0
def tm_apply (T : Nat → sm_T) (x1 x2 x3 : Int32) : sm_T := tm_i T 16 x1.toNatClampNeg x2 x3 (if x1.toNatClampNeg < 2 then sm_w (T x2.toNatClampNeg) + sm_w (T x3.toNatClampNeg) else sm_w (T x2.toNatClampNeg))
def tm_groups (T : Nat → sm_T) (x1 x2 x3 x4 : Int32) : sm_T := tm_1 T 20 x3.toNatClampNeg x1 x2 x4.toNatClampNeg ((sm_ks x2).length + 1)
section WF
variable {T : Nat → sm_T} {N : Nat} {tc : Nat → Nat} {nt : Nat} {x1 x2 x3 x4 : Int32}
theorem ap_is_lt {x : Int32} {s : Nat} (h : ap_is T N x s) (hN : N ≤ 120) : x = nI x.toNatClampNeg ∧ x.toNatClampNeg < N := ap_nI h.1 (by omega)
theorem ap_or32 {a b : Nat} (ha : a < 2 ^ 32) (hb : b < 2 ^ 32) : a ||| b < 2 ^ 32 := Nat.or_lt_two_pow ha hb
theorem ap_or8 {a b : Nat} (ha : a < 2 ^ 32) (hb : b < 2 ^ 32) : a ||| b >>> 8 < 2 ^ 32 := Nat.or_lt_two_pow ha (Nat.lt_of_le_of_lt (Nat.shiftRight_le b 8) hb)
theorem wf_constant (w : sm_wf T tc nt N) : sm_wf (ap_push T N (tm_constant x1)) tc nt (N + 1) := by
  refine ap_wf w ?_ (by show 0 ≤ 8; omega) (by show 0 < 2 ^ 32; omega) (fun h => absurd h (by show ¬ 11 ≤ 0; omega))
  unfold sm_wfk; rw [ap_new]
  exact ⟨rfl, ap_nb rfl, rfl, rfl⟩
theorem wf_column (w : sm_wf T tc nt N) (h : ok_column N x1 x2) : sm_wf (ap_push T N (tm_column x1 x2)) tc nt (N + 1) := by
  have e1 := (ap_nI h.2.1 (by omega)).2
  have e2 := (ap_nI h.2.2 (by omega)).2
  refine ap_wf w ?_ (by show 0 ≤ 8; omega) (Nat.pow_lt_pow_right (by omega) (by omega)) (fun h => absurd h (by show ¬ 11 ≤ 1; omega))
  unfold sm_wfk; rw [ap_new]
  exact ⟨rfl, ap_nb rfl, rfl, _, by omega, rfl, rfl⟩
theorem wf_reckon (w : sm_wf T tc nt N) (h : ok_op T N 3 0 0 x1 x2 x3) : sm_wf (ap_push T N (tm_2 T 2 x1.toNatClampNeg x2 x3 0)) tc nt (N + 1) := by
  obtain ⟨⟨hN, ha, hb⟩, ho⟩ := h
  have a1 := (ap_is_lt ha (by omega)).2
  have b1 := (ap_is_lt hb (by omega)).2
  have o1 := (ap_nI ho (by omega)).2
  refine ap_wf w ?_ (by show 0 ≤ 8; omega) (ap_or32 (w _ a1).2.2.1 (w _ b1).2.2.1) (fun h => absurd h (by show ¬ 11 ≤ 2; omega))
  unfold sm_wfk; rw [ap_new]
  exact ⟨ap_pa a1 ha.2 rfl, ap_pb b1 hb.2 rfl, by show x1.toNatClampNeg ≤ 2; omega, by rw [ap_lA a1 rfl, ap_lB b1 rfl]; rfl⟩
theorem wf_compare (w : sm_wf T tc nt N) (h : ok_op T N 5 0 0 x1 x2 x3) : sm_wf (ap_push T N (tm_2 T 5 x1.toNatClampNeg x2 x3 0)) tc nt (N + 1) := by
  obtain ⟨⟨hN, ha, hb⟩, ho⟩ := h
  have a1 := (ap_is_lt ha (by omega)).2
  have b1 := (ap_is_lt hb (by omega)).2
  have o1 := (ap_nI ho (by omega)).2
  refine ap_wf w ?_ (by show 0 ≤ 8; omega) (ap_or32 (w _ a1).2.2.1 (w _ b1).2.2.1) (fun h => absurd h (by show ¬ 11 ≤ 5; omega))
  unfold sm_wfk; rw [ap_new]
  exact ⟨ap_pa a1 ha.2 rfl, ap_pb b1 hb.2 rfl, by show x1.toNatClampNeg ≤ 4; omega, by rw [ap_lA a1 rfl, ap_lB b1 rfl]; rfl⟩
theorem wf_number (w : sm_wf T tc nt N) (h : ok_one T N 1 x1) : sm_wf (ap_push T N (tm_1 T 3 0 x1 0 0 0)) tc nt (N + 1) := by
  obtain ⟨hN, ha⟩ := h
  have a1 := (ap_is_lt ha (by omega)).2
  refine ap_wf w ?_ (by show 0 ≤ 8; omega) (w _ a1).2.2.1 (fun h => absurd h (by show ¬ 11 ≤ 3; omega))
  unfold sm_wfk; rw [ap_new]
  exact ⟨ap_pa a1 ha.2 rfl, ap_nb rfl, by rw [ap_lA a1 rfl]; rfl⟩
theorem wf_isNothing (w : sm_wf T tc nt N) (h : ok_one T N 0 x1) : sm_wf (ap_push T N (tm_1 T 6 0 x1 0 0 0)) tc nt (N + 1) := by
  obtain ⟨hN, ha⟩ := h
  have a1 := (ap_is_lt ha (by omega)).2
  refine ap_wf w ?_ (by show 0 ≤ 8; omega) (w _ a1).2.2.1 (fun h => absurd h (by show ¬ 11 ≤ 6; omega))
  unfold sm_wfk; rw [ap_new]
  exact ⟨ap_pa a1 ha.2 rfl, ap_nb rfl, by rw [ap_lA a1 rfl]; rfl⟩
theorem wf_has (w : sm_wf T tc nt N) (h : ok_one T N 2 x1) : sm_wf (ap_push T N (tm_1 T 8 0 x1 0 0 0)) tc nt (N + 1) := by
  obtain ⟨hN, ha⟩ := h
  have a1 := (ap_is_lt ha (by omega)).2
  refine ap_wf w ?_ (by show 0 ≤ 8; omega) (w _ a1).2.2.1 (fun h => absurd h (by show ¬ 11 ≤ 8; omega))
  unfold sm_wfk; rw [ap_new]
  exact ⟨ap_pa a1 ha.2 rfl, ap_nb rfl, by rw [ap_lA a1 rfl]; rfl⟩
theorem wf_fold (w : sm_wf T tc nt N) (h : ok_fold T N x1 x2 x3) : sm_wf (ap_push T N (tm_1 T 4 x1.toNatClampNeg x2 0 x3.toNatClampNeg 0)) tc nt (N + 1) := by
  obtain ⟨⟨hN, ha⟩, ho, hc⟩ := h
  have a1 := (ap_is_lt ha (by omega)).2
  have o1 := (ap_nI ho (by omega)).2
  have w8 := (w _ a1).2.1
  have c1 := (ap_nI hc (by omega)).2
  refine ap_wf w ?_ (by show 0 ≤ 8; omega) (w _ a1).2.2.1 (fun h => absurd h (by show ¬ 11 ≤ 4; omega))
  unfold sm_wfk; rw [ap_new]
  exact ⟨ap_pa a1 ha.2 rfl, ap_nb rfl, by show x1.toNatClampNeg ≤ 5; omega, by rw [ap_wA a1 rfl]; exact c1, by rw [ap_lA a1 rfl]; rfl⟩
theorem wf_logic (w : sm_wf T tc nt N) (h : ok_logic T N x1 x2 x3) : sm_wf (ap_push T N (tm_logic T x1 x2 x3)) tc nt (N + 1) := by
  obtain ⟨ho, ⟨hN, ha⟩, hb⟩ := h
  have a1 := (ap_is_lt ha (by omega)).2
  have o1 := (ap_nI ho (by omega)).2
  unfold tm_logic
  by_cases h2 : x1.toNatClampNeg < 2
  · rw [if_pos h2]
    have hb := hb h2
    have b1 := (ap_is_lt hb (by omega)).2
    refine ap_wf w ?_ (by show 0 ≤ 8; omega) (ap_or32 (w _ a1).2.2.1 (w _ b1).2.2.1) (fun h => absurd h (by show ¬ 11 ≤ 7; omega))
    unfold sm_wfk; rw [ap_new]
    exact ⟨ap_pa a1 ha.2 rfl, Or.inl ⟨h2, ap_pb b1 hb.2 rfl, by rw [ap_lA a1 rfl, ap_lB b1 rfl]; rfl⟩⟩
  · rw [if_neg h2]
    refine ap_wf w ?_ (by show 0 ≤ 8; omega) (w _ a1).2.2.1 (fun h => absurd h (by show ¬ 11 ≤ 7; omega))
    unfold sm_wfk; rw [ap_new]
    exact ⟨ap_pa a1 ha.2 rfl, Or.inr ⟨by show x1.toNatClampNeg = 2; omega, ap_nb rfl, by rw [ap_lA a1 rfl]; rfl⟩⟩
theorem wf_quant {k : Nat} (hk : k = 9 ∨ k = 10) (w : sm_wf T tc nt N) (h : ok_quant T N x1 x2 x3) : sm_wf (ap_push T N (tm_2 T k x1.toNatClampNeg x2 x3 0)) tc nt (N + 1) := by
  obtain ⟨⟨⟨hN, ha, hb⟩, ho⟩, hw⟩ := h
  have a1 := (ap_is_lt ha (by omega)).2
  have b1 := (ap_is_lt hb (by omega)).2
  have o1 := (ap_nI ho (by omega)).2
  refine ap_wf w ?_ (by show 0 ≤ 8; omega) (ap_or32 (w _ a1).2.2.1 (w _ b1).2.2.1) (fun h => absurd h (by show ¬ 11 ≤ k; omega))
  unfold sm_wfk; rw [ap_new]
  rcases hk with rfl | rfl
  · exact ⟨ap_pa a1 ha.2 rfl, ap_pb b1 hb.2 rfl, by show x1.toNatClampNeg ≤ 4; omega, by rw [ap_wB b1 rfl]; exact hw, by rw [ap_lA a1 rfl, ap_lB b1 rfl]; rfl⟩
  · exact ⟨ap_pa a1 ha.2 rfl, ap_pb b1 hb.2 rfl, by show x1.toNatClampNeg ≤ 4; omega, by rw [ap_wB b1 rfl]; exact hw, by rw [ap_lA a1 rfl, ap_lB b1 rfl]; rfl⟩
theorem wf_scan (w : sm_wf T tc nt N) (hn : nt ≤ 6) (hc : ∀ k, k < nt → 1 ≤ tc k ∧ tc k ≤ 4) (h : ok_scan N nt x1) : sm_wf (ap_push T N (tm_scan tc x1)) tc nt (N + 1) := by
  obtain ⟨hN, ha⟩ := h
  obtain ⟨a0, a1⟩ := ap_nI ha (by omega)
  have c1 := hc _ a1
  refine ap_wf w ?_ (by show tc _ ≤ 8; omega) (by show 0 < 2 ^ 32; omega) (fun _ => c1.1)
  unfold sm_wfk; rw [ap_new]
  exact ⟨rfl, ap_nb rfl, rfl, _, a1, a0, rfl⟩
theorem wf_filter (w : sm_wf T tc nt N) (h : ok_filter T N x1 x2) : sm_wf (ap_push T N (tm_i T 12 0 x1 x2 (sm_w (T x1.toNatClampNeg)))) tc nt (N + 1) := by
  obtain ⟨⟨hN, ha, hb⟩, hf⟩ := h
  have a1 := (ap_is_lt ha (by omega)).2
  have b1 := (ap_is_lt hb (by omega)).2
  have wa := w _ a1
  refine ap_wf w ?_ wa.2.1 (ap_or8 wa.2.2.1 (w _ b1).2.2.1) (fun _ => wa.2.2.2 (lw_sort2.mp ha.2))
  unfold sm_wfk; rw [ap_new]
  exact ⟨ap_pa a1 ha.2 rfl, ap_pb b1 hb.2 rfl, by unfold sm_fits; rw [ap_lB b1 rfl, ap_wA a1 rfl]; exact hf, by rw [ap_wA a1 rfl]; rfl, by rw [ap_lA a1 rfl, ap_lB b1 rfl]; rfl⟩
theorem wf_more (w : sm_wf T tc nt N) (h : ok_more T N x1 x2) : sm_wf (ap_push T N (tm_i T 13 0 x1 x2 (sm_w (T x1.toNatClampNeg) + 1))) tc nt (N + 1) := by
  obtain ⟨⟨hN, ha, hb⟩, hf, hw⟩ := h
  have a1 := (ap_is_lt ha (by omega)).2
  have b1 := (ap_is_lt hb (by omega)).2
  have wa := w _ a1
  refine ap_wf w ?_ (by show sm_w _ + 1 ≤ 8; omega) (ap_or8 wa.2.2.1 (w _ b1).2.2.1) (fun _ => by show 1 ≤ sm_w _ + 1; omega)
  unfold sm_wfk; rw [ap_new]
  exact ⟨ap_pa a1 ha.2 rfl, ap_pb b1 hb.2 rfl, by unfold sm_fits; rw [ap_lB b1 rfl, ap_wA a1 rfl]; exact hf, by rw [ap_wA a1 rfl]; rfl, by rw [ap_lA a1 rfl, ap_lB b1 rfl]; rfl⟩
theorem wf_only (w : sm_wf T tc nt N) (h : ok_only T N x1 x2 x3) : sm_wf (ap_push T N (tm_1 T 14 0 x1 x2 x3.toNatClampNeg x3.toNatClampNeg)) tc nt (N + 1) := by
  obtain ⟨⟨hN, ha⟩, ⟨hn, hn0⟩, hc⟩ := h
  have a1 := (ap_is_lt ha (by omega)).2
  obtain ⟨n0, n1⟩ := ap_nI hn (by omega)
  have wa := w _ a1
  have npos : x3.toNatClampNeg ≠ 0 := fun e => hn0 (by rw [n0, e]; rfl)
  refine ap_wf w ?_ (by show x3.toNatClampNeg ≤ 8; omega) wa.2.2.1 (fun _ => by show 1 ≤ x3.toNatClampNeg; omega)
  unfold sm_wfk; rw [ap_new]
  exact ⟨ap_pa a1 ha.2 rfl, ap_nb rfl, rfl, by rw [ap_wA a1 rfl]; exact hc, by rw [ap_lA a1 rfl]; rfl⟩
theorem wf_pairs (w : sm_wf T tc nt N) (h : ok_pairs T N x1 x2) : sm_wf (ap_push T N (tm_2 T 15 0 x1 x2 (sm_w (T x1.toNatClampNeg) + sm_w (T x2.toNatClampNeg)))) tc nt (N + 1) := by
  obtain ⟨⟨hN, ha, hb⟩, hw⟩ := h
  have a1 := (ap_is_lt ha (by omega)).2
  have b1 := (ap_is_lt hb (by omega)).2
  have wa := w _ a1
  have wp := wa.2.2.2 (lw_sort2.mp ha.2)
  refine ap_wf w ?_ hw (ap_or32 wa.2.2.1 (w _ b1).2.2.1) (fun _ => by show 1 ≤ sm_w _ + sm_w _; omega)
  unfold sm_wfk; rw [ap_new]
  exact ⟨ap_pa a1 ha.2 rfl, ap_pb b1 hb.2 rfl, by rw [ap_wA a1 rfl, ap_wB b1 rfl]; rfl, by rw [ap_lA a1 rfl, ap_lB b1 rfl]; rfl⟩
theorem wf_apply (w : sm_wf T tc nt N) (h : ok_apply T N x1 x2 x3) : sm_wf (ap_push T N (tm_apply T x1 x2 x3)) tc nt (N + 1) := by
  obtain ⟨⟨⟨hN, ha, hb⟩, ho⟩, hf, hw⟩ := h
  have a1 := (ap_is_lt ha (by omega)).2
  have b1 := (ap_is_lt hb (by omega)).2
  have o1 := (ap_nI ho (by omega)).2
  have wa := w _ a1
  have wp := wa.2.2.2 (lw_sort2.mp ha.2)
  have e8 : sm_w (tm_apply T x1 x2 x3) ≤ 8 ∧ 1 ≤ sm_w (tm_apply T x1 x2 x3) := by
    show (if x1.toNatClampNeg < 2 then sm_w (T x2.toNatClampNeg) + sm_w (T x3.toNatClampNeg) else sm_w (T x2.toNatClampNeg)) ≤ 8 ∧ 1 ≤ (if x1.toNatClampNeg < 2 then sm_w (T x2.toNatClampNeg) + sm_w (T x3.toNatClampNeg) else sm_w (T x2.toNatClampNeg))
    split
    · rename_i q
      have hw : sm_w (T x2.toNatClampNeg) + sm_w (T x3.toNatClampNeg) ≤ 8 := hw q
      exact ⟨hw, by omega⟩
    · exact ⟨wa.2.1, wp⟩
  refine ap_wf w ?_ e8.1 (ap_or8 wa.2.2.1 (w _ b1).2.2.1) (fun _ => e8.2)
  unfold sm_wfk; rw [ap_new]
  exact ⟨ap_pa a1 ha.2 rfl, ap_pb b1 hb.2 rfl, by show x1.toNatClampNeg ≤ 3; omega, by unfold sm_fits; rw [ap_lB b1 rfl, ap_wA a1 rfl]; exact hf, by rw [ap_wA a1 rfl, ap_wB b1 rfl]; rfl, by rw [ap_lA a1 rfl, ap_lB b1 rfl]; rfl⟩
theorem wf_both (w : sm_wf T tc nt N) (h : ok_both T N x1 x2 x3) : sm_wf (ap_push T N (tm_2 T 17 x1.toNatClampNeg x2 x3 (sm_w (T x2.toNatClampNeg)))) tc nt (N + 1) := by
  obtain ⟨⟨⟨hN, ha, hb⟩, ho⟩, hw⟩ := h
  have a1 := (ap_is_lt ha (by omega)).2
  have b1 := (ap_is_lt hb (by omega)).2
  have o1 := (ap_nI ho (by omega)).2
  have wa := w _ a1
  refine ap_wf w ?_ wa.2.1 (ap_or32 wa.2.2.1 (w _ b1).2.2.1) (fun _ => wa.2.2.2 (lw_sort2.mp ha.2))
  unfold sm_wfk; rw [ap_new]
  exact ⟨ap_pa a1 ha.2 rfl, ap_pb b1 hb.2 rfl, by show x1.toNatClampNeg ≤ 2; omega, by rw [ap_wA a1 rfl, ap_wB b1 rfl]; exact hw, by rw [ap_wA a1 rfl]; rfl, by rw [ap_lA a1 rfl, ap_lB b1 rfl]; rfl⟩
theorem wf_once (w : sm_wf T tc nt N) (h : ok_one T N 2 x1) : sm_wf (ap_push T N (tm_1 T 18 0 x1 0 0 (sm_w (T x1.toNatClampNeg)))) tc nt (N + 1) := by
  obtain ⟨hN, ha⟩ := h
  have a1 := (ap_is_lt ha (by omega)).2
  have wa := w _ a1
  refine ap_wf w ?_ wa.2.1 wa.2.2.1 (fun _ => wa.2.2.2 (lw_sort2.mp ha.2))
  unfold sm_wfk; rw [ap_new]
  exact ⟨ap_pa a1 ha.2 rfl, ap_nb rfl, by rw [ap_wA a1 rfl]; rfl, by rw [ap_lA a1 rfl]; rfl⟩
theorem wf_first (w : sm_wf T tc nt N) (h : ok_first T N x1 x2) : sm_wf (ap_push T N (tm_1 T 19 0 x1 x2 0 (sm_w (T x1.toNatClampNeg)))) tc nt (N + 1) := by
  obtain ⟨⟨hN, ha⟩, hn, hn0⟩ := h
  have a1 := (ap_is_lt ha (by omega)).2
  obtain ⟨n0, n1⟩ := ap_nI hn (by omega)
  have npos : x2.toNatClampNeg ≠ 0 := fun e => hn0 (by rw [n0, e]; rfl)
  have wa := w _ a1
  refine ap_wf w ?_ wa.2.1 wa.2.2.1 (fun _ => wa.2.2.2 (lw_sort2.mp ha.2))
  unfold sm_wfk; rw [ap_new]
  exact ⟨ap_pa a1 ha.2 rfl, ap_nb rfl, by rw [ap_wA a1 rfl]; rfl, by rw [ap_lA a1 rfl]; rfl, x2.toNatClampNeg, by omega, by omega, n0⟩
theorem wf_ks8 : ∀ g, g < 256 → g ≠ 255 → (sm_ks (nI g)).length + 1 ≤ 8 := by decide +kernel
theorem wf_groups (w : sm_wf T tc nt N) (h : ok_groups T N x1 x2 x3 x4) : sm_wf (ap_push T N (tm_groups T x1 x2 x3 x4)) tc nt (N + 1) := by
  obtain ⟨⟨hN, ha⟩, ho, hc, hg, hg5⟩ := h
  have a1 := (ap_is_lt ha (by omega)).2
  have wa := w _ a1
  have p8 : 2 ^ sm_w (T x1.toNatClampNeg) ≤ 2 ^ 8 := Nat.pow_le_pow_right (by omega) wa.2.1
  have w8 := wa.2.1
  have o1 := (ap_nI ho (by omega)).2
  have c1 := (ap_nI hc (by omega)).2
  obtain ⟨g0, g1⟩ := ap_nI hg (by omega)
  have e8 : (sm_ks x2).length + 1 ≤ 8 := by rw [g0]; exact wf_ks8 _ (by omega) hg5
  refine ap_wf w ?_ e8 wa.2.2.1 (fun _ => by show 1 ≤ (sm_ks x2).length + 1; omega)
  unfold sm_wfk; rw [ap_new]
  exact ⟨ap_pa a1 ha.2 rfl, ap_nb rfl, by show x3.toNatClampNeg ≤ 5; omega, by rw [ap_wA a1 rfl]; exact c1, by rw [ap_lA a1 rfl]; rfl, x2.toNatClampNeg, by rw [ap_wA a1 rfl]; exact g1, hg5, g0, by rw [← g0]; rfl⟩
end WF
