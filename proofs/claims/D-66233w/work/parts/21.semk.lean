/-! the kinds of terms, one by one (the first rows are printed by wip/gen/kinds.py) -/
theorem sm_wf0 {T : Nat → sm_T} {tc : Nat → Nat} {nt t : Nat} (h : sm_wfk T tc nt t) (hk : sm_k (T t) = 0) : (T t).2.2.1 = none ∧ sm_nb T t ∧ sm_w (T t) = 0 ∧ sm_l (T t) = 0 := by
  unfold sm_wfk at h
  rw [hk] at h
  exact h
theorem sm_wf1 {T : Nat → sm_T} {tc : Nat → Nat} {nt t : Nat} (h : sm_wfk T tc nt t) (hk : sm_k (T t) = 1) : (T t).2.2.1 = none ∧ sm_nb T t ∧ sm_w (T t) = 0 ∧ ∃ k, k < 32 ∧ sm_n (T t) = nI k ∧ sm_l (T t) = 2 ^ k := by
  unfold sm_wfk at h
  rw [hk] at h
  exact h
theorem sm_wf2 {T : Nat → sm_T} {tc : Nat → Nat} {nt t : Nat} (h : sm_wfk T tc nt t) (hk : sm_k (T t) = 2) : sm_pa T t 0 ∧ sm_pb T t 0 ∧ sm_o (T t) ≤ 2 ∧ sm_l (T t) = sm_lA T t ||| sm_lB T t := by
  unfold sm_wfk at h
  rw [hk] at h
  exact h
theorem sm_wf3 {T : Nat → sm_T} {tc : Nat → Nat} {nt t : Nat} (h : sm_wfk T tc nt t) (hk : sm_k (T t) = 3) : sm_pa T t 1 ∧ sm_nb T t ∧ sm_l (T t) = sm_lA T t := by
  unfold sm_wfk at h
  rw [hk] at h
  exact h
theorem sm_wf4 {T : Nat → sm_T} {tc : Nat → Nat} {nt t : Nat} (h : sm_wfk T tc nt t) (hk : sm_k (T t) = 4) : sm_pa T t 2 ∧ sm_nb T t ∧ sm_o (T t) ≤ 5 ∧ sm_c (T t) < sm_wA T t ∧ sm_l (T t) = sm_lA T t := by
  unfold sm_wfk at h
  rw [hk] at h
  exact h
theorem sm_wf5 {T : Nat → sm_T} {tc : Nat → Nat} {nt t : Nat} (h : sm_wfk T tc nt t) (hk : sm_k (T t) = 5) : sm_pa T t 0 ∧ sm_pb T t 0 ∧ sm_o (T t) ≤ 4 ∧ sm_l (T t) = sm_lA T t ||| sm_lB T t := by
  unfold sm_wfk at h
  rw [hk] at h
  exact h
theorem sm_wf6 {T : Nat → sm_T} {tc : Nat → Nat} {nt t : Nat} (h : sm_wfk T tc nt t) (hk : sm_k (T t) = 6) : sm_pa T t 0 ∧ sm_nb T t ∧ sm_l (T t) = sm_lA T t := by
  unfold sm_wfk at h
  rw [hk] at h
  exact h
theorem sm_wf7 {T : Nat → sm_T} {tc : Nat → Nat} {nt t : Nat} (h : sm_wfk T tc nt t) (hk : sm_k (T t) = 7) : sm_pa T t 1 ∧ ((sm_o (T t) < 2 ∧ sm_pb T t 1 ∧ sm_l (T t) = sm_lA T t ||| sm_lB T t) ∨ (sm_o (T t) = 2 ∧ sm_nb T t ∧ sm_l (T t) = sm_lA T t)) := by
  unfold sm_wfk at h
  rw [hk] at h
  exact h
theorem sm_wf8 {T : Nat → sm_T} {tc : Nat → Nat} {nt t : Nat} (h : sm_wfk T tc nt t) (hk : sm_k (T t) = 8) : sm_pa T t 2 ∧ sm_nb T t ∧ sm_l (T t) = sm_lA T t := by
  unfold sm_wfk at h
  rw [hk] at h
  exact h
theorem sm_wf9 {T : Nat → sm_T} {tc : Nat → Nat} {nt t : Nat} (h : sm_wfk T tc nt t) (hk : sm_k (T t) = 9) : sm_pa T t 0 ∧ sm_pb T t 2 ∧ sm_o (T t) ≤ 4 ∧ sm_wB T t = 1 ∧ sm_l (T t) = sm_lA T t ||| sm_lB T t := by
  unfold sm_wfk at h
  rw [hk] at h
  exact h
theorem sm_wf10 {T : Nat → sm_T} {tc : Nat → Nat} {nt t : Nat} (h : sm_wfk T tc nt t) (hk : sm_k (T t) = 10) : sm_pa T t 0 ∧ sm_pb T t 2 ∧ sm_o (T t) ≤ 4 ∧ sm_wB T t = 1 ∧ sm_l (T t) = sm_lA T t ||| sm_lB T t := by
  unfold sm_wfk at h
  rw [hk] at h
  exact h
theorem sm_wf11 {T : Nat → sm_T} {tc : Nat → Nat} {nt t : Nat} (h : sm_wfk T tc nt t) (hk : sm_k (T t) = 11) : (T t).2.2.1 = none ∧ sm_nb T t ∧ sm_l (T t) = 0 ∧ ∃ k, k < nt ∧ sm_n (T t) = nI k ∧ sm_w (T t) = tc k := by
  unfold sm_wfk at h
  rw [hk] at h
  exact h
theorem sm_wf12 {T : Nat → sm_T} {tc : Nat → Nat} {nt t : Nat} (h : sm_wfk T tc nt t) (hk : sm_k (T t) = 12) : sm_pa T t 2 ∧ sm_pb T t 1 ∧ sm_fits T t ∧ sm_w (T t) = sm_wA T t ∧ sm_l (T t) = sm_lA T t ||| sm_lB T t >>> 8 := by
  unfold sm_wfk at h
  rw [hk] at h
  exact h
theorem sm_wf13 {T : Nat → sm_T} {tc : Nat → Nat} {nt t : Nat} (h : sm_wfk T tc nt t) (hk : sm_k (T t) = 13) : sm_pa T t 2 ∧ sm_pb T t 0 ∧ sm_fits T t ∧ sm_w (T t) = sm_wA T t + 1 ∧ sm_l (T t) = sm_lA T t ||| sm_lB T t >>> 8 := by
  unfold sm_wfk at h
  rw [hk] at h
  exact h
theorem sm_wf14 {T : Nat → sm_T} {tc : Nat → Nat} {nt t : Nat} (h : sm_wfk T tc nt t) (hk : sm_k (T t) = 14) : sm_pa T t 2 ∧ sm_nb T t ∧ sm_w (T t) = sm_c (T t) ∧ (∀ k, k < sm_c (T t) → sm_col (sm_n (T t)) k < sm_wA T t) ∧ sm_l (T t) = sm_lA T t := by
  unfold sm_wfk at h
  rw [hk] at h
  exact h
theorem sm_wf15 {T : Nat → sm_T} {tc : Nat → Nat} {nt t : Nat} (h : sm_wfk T tc nt t) (hk : sm_k (T t) = 15) : sm_pa T t 2 ∧ sm_pb T t 2 ∧ sm_w (T t) = sm_wA T t + sm_wB T t ∧ sm_l (T t) = sm_lA T t ||| sm_lB T t := by
  unfold sm_wfk at h
  rw [hk] at h
  exact h
theorem sm_wf16 {T : Nat → sm_T} {tc : Nat → Nat} {nt t : Nat} (h : sm_wfk T tc nt t) (hk : sm_k (T t) = 16) : sm_pa T t 2 ∧ sm_pb T t 2 ∧ sm_o (T t) ≤ 3 ∧ sm_fits T t ∧ sm_w (T t) = (if sm_o (T t) < 2 then sm_wA T t + sm_wB T t else sm_wA T t) ∧ sm_l (T t) = sm_lA T t ||| sm_lB T t >>> 8 := by
  unfold sm_wfk at h
  rw [hk] at h
  exact h
theorem sm_wf17 {T : Nat → sm_T} {tc : Nat → Nat} {nt t : Nat} (h : sm_wfk T tc nt t) (hk : sm_k (T t) = 17) : sm_pa T t 2 ∧ sm_pb T t 2 ∧ sm_o (T t) ≤ 2 ∧ sm_wA T t = sm_wB T t ∧ sm_w (T t) = sm_wA T t ∧ sm_l (T t) = sm_lA T t ||| sm_lB T t := by
  unfold sm_wfk at h
  rw [hk] at h
  exact h
theorem sm_wf18 {T : Nat → sm_T} {tc : Nat → Nat} {nt t : Nat} (h : sm_wfk T tc nt t) (hk : sm_k (T t) = 18) : sm_pa T t 2 ∧ sm_nb T t ∧ sm_w (T t) = sm_wA T t ∧ sm_l (T t) = sm_lA T t := by
  unfold sm_wfk at h
  rw [hk] at h
  exact h
theorem sm_wf19 {T : Nat → sm_T} {tc : Nat → Nat} {nt t : Nat} (h : sm_wfk T tc nt t) (hk : sm_k (T t) = 19) : sm_pa T t 2 ∧ sm_nb T t ∧ sm_w (T t) = sm_wA T t ∧ sm_l (T t) = sm_lA T t ∧ ∃ n, 1 ≤ n ∧ n ≤ 24 ∧ sm_n (T t) = nI n := by
  unfold sm_wfk at h
  rw [hk] at h
  exact h
theorem sm_wf20 {T : Nat → sm_T} {tc : Nat → Nat} {nt t : Nat} (h : sm_wfk T tc nt t) (hk : sm_k (T t) = 20) : sm_pa T t 2 ∧ sm_nb T t ∧ sm_o (T t) ≤ 5 ∧ sm_c (T t) < sm_wA T t ∧ sm_l (T t) = sm_lA T t ∧ ∃ g, g < 2 ^ sm_wA T t ∧ g ≠ 255 ∧ sm_n (T t) = nI g ∧ sm_w (T t) = (sm_ks (nI g)).length + 1 := by
  unfold sm_wfk at h
  rw [hk] at h
  exact h
theorem sm_body0 {x : sm_T} {wd : Nat → Nat} {tb : Nat → List ay_Row} {ev : Nat → sm_E → Int32 × List ay_Row} {e : sm_E} (hk : sm_k x = 0) : sm_body x wd tb ev e = (sm_n x, []) := by
  unfold sm_body
  rw [hk]
  rfl
theorem sm_body1 {x : sm_T} {wd : Nat → Nat} {tb : Nat → List ay_Row} {ev : Nat → sm_E → Int32 × List ay_Row} {e : sm_E} (hk : sm_k x = 1) : sm_body x wd tb ev e = (e (sm_n x).toNatClampNeg, []) := by
  unfold sm_body
  rw [hk]
  rfl
theorem sm_body2 {x : sm_T} {wd : Nat → Nat} {tb : Nat → List ay_Row} {ev : Nat → sm_E → Int32 × List ay_Row} {e : sm_E} (hk : sm_k x = 2) : sm_body x wd tb ev e = (sm_reckon (sm_o x) (ev (sm_a x) e).1 (ev (sm_b x) e).1, []) := by
  unfold sm_body
  rw [hk]
  rfl
theorem sm_body3 {x : sm_T} {wd : Nat → Nat} {tb : Nat → List ay_Row} {ev : Nat → sm_E → Int32 × List ay_Row} {e : sm_E} (hk : sm_k x = 3) : sm_body x wd tb ev e = ((ev (sm_a x) e).1, []) := by
  unfold sm_body
  rw [hk]
  rfl
theorem sm_body4 {x : sm_T} {wd : Nat → Nat} {tb : Nat → List ay_Row} {ev : Nat → sm_E → Int32 × List ay_Row} {e : sm_E} (hk : sm_k x = 4) : sm_body x wd tb ev e = (sm_fold (sm_o x) (sm_at (sm_c x) (ev (sm_a x) e).2), []) := by
  unfold sm_body
  rw [hk]
  rfl
theorem sm_body5 {x : sm_T} {wd : Nat → Nat} {tb : Nat → List ay_Row} {ev : Nat → sm_E → Int32 × List ay_Row} {e : sm_E} (hk : sm_k x = 5) : sm_body x wd tb ev e = (sm_cmp (sm_o x) (ev (sm_a x) e).1 (ev (sm_b x) e).1, []) := by
  unfold sm_body
  rw [hk]
  rfl
theorem sm_body6 {x : sm_T} {wd : Nat → Nat} {tb : Nat → List ay_Row} {ev : Nat → sm_E → Int32 × List ay_Row} {e : sm_E} (hk : sm_k x = 6) : sm_body x wd tb ev e = (sm_isno (ev (sm_a x) e).1, []) := by
  unfold sm_body
  rw [hk]
  rfl
theorem sm_body7 {x : sm_T} {wd : Nat → Nat} {tb : Nat → List ay_Row} {ev : Nat → sm_E → Int32 × List ay_Row} {e : sm_E} (hk : sm_k x = 7) : sm_body x wd tb ev e = (if sm_o x = 2 then sm_not (ev (sm_a x) e).1 else sm_logic (sm_o x) (ev (sm_a x) e).1 (ev (sm_b x) e).1, []) := by
  unfold sm_body
  rw [hk]
  rfl
theorem sm_body8 {x : sm_T} {wd : Nat → Nat} {tb : Nat → List ay_Row} {ev : Nat → sm_E → Int32 × List ay_Row} {e : sm_E} (hk : sm_k x = 8) : sm_body x wd tb ev e = (if (ev (sm_a x) e).2 = [] then 0 else 1, []) := by
  unfold sm_body
  rw [hk]
  rfl
theorem sm_body9 {x : sm_T} {wd : Nat → Nat} {tb : Nat → List ay_Row} {ev : Nat → sm_E → Int32 × List ay_Row} {e : sm_E} (hk : sm_k x = 9) : sm_body x wd tb ev e = (sm_quant 1 ((sm_at 0 (ev (sm_b x) e).2).map (fun v => sm_cmp (sm_o x) (ev (sm_a x) e).1 v)), []) := by
  unfold sm_body
  rw [hk]
  rfl
theorem sm_body10 {x : sm_T} {wd : Nat → Nat} {tb : Nat → List ay_Row} {ev : Nat → sm_E → Int32 × List ay_Row} {e : sm_E} (hk : sm_k x = 10) : sm_body x wd tb ev e = (sm_quant 0 ((sm_at 0 (ev (sm_b x) e).2).map (fun v => sm_cmp (sm_o x) (ev (sm_a x) e).1 v)), []) := by
  unfold sm_body
  rw [hk]
  rfl
theorem sm_body11 {x : sm_T} {wd : Nat → Nat} {tb : Nat → List ay_Row} {ev : Nat → sm_E → Int32 × List ay_Row} {e : sm_E} (hk : sm_k x = 11) : sm_body x wd tb ev e = (0, tb (sm_n x).toNatClampNeg) := by
  unfold sm_body
  rw [hk]
  rfl
theorem sm_body12 {x : sm_T} {wd : Nat → Nat} {tb : Nat → List ay_Row} {ev : Nat → sm_E → Int32 × List ay_Row} {e : sm_E} (hk : sm_k x = 12) : sm_body x wd tb ev e = (0, (ev (sm_a x) e).2.filter (fun r => (ev (sm_b x) (sm_enter r e)).1 == 1)) := by
  unfold sm_body
  rw [hk]
  rfl
theorem sm_body13 {x : sm_T} {wd : Nat → Nat} {tb : Nat → List ay_Row} {ev : Nat → sm_E → Int32 × List ay_Row} {e : sm_E} (hk : sm_k x = 13) : sm_body x wd tb ev e = (0, (ev (sm_a x) e).2.map (fun r => r ++ [(ev (sm_b x) (sm_enter r e)).1])) := by
  unfold sm_body
  rw [hk]
  rfl
theorem sm_body14 {x : sm_T} {wd : Nat → Nat} {tb : Nat → List ay_Row} {ev : Nat → sm_E → Int32 × List ay_Row} {e : sm_E} (hk : sm_k x = 14) : sm_body x wd tb ev e = (0, (ev (sm_a x) e).2.map (sm_only (sm_n x) (sm_c x))) := by
  unfold sm_body
  rw [hk]
  rfl
theorem sm_body15 {x : sm_T} {wd : Nat → Nat} {tb : Nat → List ay_Row} {ev : Nat → sm_E → Int32 × List ay_Row} {e : sm_E} (hk : sm_k x = 15) : sm_body x wd tb ev e = (0, sm_apply 0 0 (ev (sm_a x) e).2 (fun _ => (ev (sm_b x) e).2)) := by
  unfold sm_body
  rw [hk]
  rfl
theorem sm_body16 {x : sm_T} {wd : Nat → Nat} {tb : Nat → List ay_Row} {ev : Nat → sm_E → Int32 × List ay_Row} {e : sm_E} (hk : sm_k x = 16) : sm_body x wd tb ev e = (0, sm_apply (sm_o x) (wd (sm_b x)) (ev (sm_a x) e).2 (fun r => (ev (sm_b x) (sm_enter r e)).2)) := by
  unfold sm_body
  rw [hk]
  rfl
theorem sm_body17 {x : sm_T} {wd : Nat → Nat} {tb : Nat → List ay_Row} {ev : Nat → sm_E → Int32 × List ay_Row} {e : sm_E} (hk : sm_k x = 17) : sm_body x wd tb ev e = (0, sm_both (sm_o x) (ev (sm_a x) e).2 (ev (sm_b x) e).2) := by
  unfold sm_body
  rw [hk]
  rfl
theorem sm_body18 {x : sm_T} {wd : Nat → Nat} {tb : Nat → List ay_Row} {ev : Nat → sm_E → Int32 × List ay_Row} {e : sm_E} (hk : sm_k x = 18) : sm_body x wd tb ev e = (0, sm_once (ev (sm_a x) e).2) := by
  unfold sm_body
  rw [hk]
  rfl
theorem sm_body19 {x : sm_T} {wd : Nat → Nat} {tb : Nat → List ay_Row} {ev : Nat → sm_E → Int32 × List ay_Row} {e : sm_E} (hk : sm_k x = 19) : sm_body x wd tb ev e = (0, sm_first (sm_n x).toNatClampNeg (ev (sm_a x) e).2) := by
  unfold sm_body
  rw [hk]
  rfl
theorem sm_body20 {x : sm_T} {wd : Nat → Nat} {tb : Nat → List ay_Row} {ev : Nat → sm_E → Int32 × List ay_Row} {e : sm_E} (hk : sm_k x = 20) : sm_body x wd tb ev e = (0, sm_groups (sm_n x) (sm_o x) (sm_c x) (ev (sm_a x) e).2) := by
  unfold sm_body
  rw [hk]
  rfl
theorem sm_k20 {T : Nat → sm_T} {tc : Nat → Nat} {nt t : Nat} (h : sm_wfk T tc nt t) : sm_k (T t) ≤ 20 := by
  refine Nat.not_lt.mp fun q => ?_
  obtain ⟨j, hj⟩ : ∃ j, sm_k (T t) = j + 21 := ⟨sm_k (T t) - 21, by omega⟩
  unfold sm_wfk at h
  rw [hj] at h
  exact h
theorem sm_split {k : Nat} (h : k ≤ 20) : k = 0 ∨ k = 1 ∨ k = 2 ∨ k = 3 ∨ k = 4 ∨ k = 5 ∨ k = 6 ∨ k = 7 ∨ k = 8 ∨ k = 9 ∨ k = 10 ∨ k = 11 ∨ k = 12 ∨ k = 13 ∨ k = 14 ∨ k = 15 ∨ k = 16 ∨ k = 17 ∨ k = 18 ∨ k = 19 ∨ k = 20 := by omega
/-- parts come before -/
theorem sm_parts {T : Nat → sm_T} {tc : Nat → Nat} {nt t : Nat} (h : sm_wfk T tc nt t) : (sm_a (T t) < t ∧ (sm_b (T t) < t)) ∨ (sm_k (T t) = 0 ∨ sm_k (T t) = 1 ∨ sm_k (T t) = 11) := by
  have nb : sm_nb T t → sm_a (T t) < t → sm_b (T t) < t := fun h1 h2 => by
    have h1 : (T t).2.2.2.1 = none := h1
    show (T t).2.2.2.1.getD 0 < t
    rw [h1]
    exact Nat.lt_of_le_of_lt (Nat.zero_le _) h2
  rcases sm_split (sm_k20 h) with hk | hk | hk | hk | hk | hk | hk | hk | hk | hk | hk | hk | hk | hk | hk | hk | hk | hk | hk | hk | hk
  · exact Or.inr (Or.inl hk)
  · exact Or.inr (Or.inr (Or.inl hk))
  · have := sm_wf2 h hk; exact Or.inl ⟨this.1.2.1, this.2.1.2.1⟩
  · have := sm_wf3 h hk; exact Or.inl ⟨this.1.2.1, nb this.2.1 this.1.2.1⟩
  · have := sm_wf4 h hk; exact Or.inl ⟨this.1.2.1, nb this.2.1 this.1.2.1⟩
  · have := sm_wf5 h hk; exact Or.inl ⟨this.1.2.1, this.2.1.2.1⟩
  · have := sm_wf6 h hk; exact Or.inl ⟨this.1.2.1, nb this.2.1 this.1.2.1⟩
  · have := sm_wf7 h hk
    rcases this.2 with q | q
    · exact Or.inl ⟨this.1.2.1, q.2.1.2.1⟩
    · exact Or.inl ⟨this.1.2.1, nb q.2.1 this.1.2.1⟩
  · have := sm_wf8 h hk; exact Or.inl ⟨this.1.2.1, nb this.2.1 this.1.2.1⟩
  · have := sm_wf9 h hk; exact Or.inl ⟨this.1.2.1, this.2.1.2.1⟩
  · have := sm_wf10 h hk; exact Or.inl ⟨this.1.2.1, this.2.1.2.1⟩
  · exact Or.inr (Or.inr (Or.inr hk))
  · have := sm_wf12 h hk; exact Or.inl ⟨this.1.2.1, this.2.1.2.1⟩
  · have := sm_wf13 h hk; exact Or.inl ⟨this.1.2.1, this.2.1.2.1⟩
  · have := sm_wf14 h hk; exact Or.inl ⟨this.1.2.1, nb this.2.1 this.1.2.1⟩
  · have := sm_wf15 h hk; exact Or.inl ⟨this.1.2.1, this.2.1.2.1⟩
  · have := sm_wf16 h hk; exact Or.inl ⟨this.1.2.1, this.2.1.2.1⟩
  · have := sm_wf17 h hk; exact Or.inl ⟨this.1.2.1, this.2.1.2.1⟩
  · have := sm_wf18 h hk; exact Or.inl ⟨this.1.2.1, nb this.2.1 this.1.2.1⟩
  · have := sm_wf19 h hk; exact Or.inl ⟨this.1.2.1, nb this.2.1 this.1.2.1⟩
  · have := sm_wf20 h hk; exact Or.inl ⟨this.1.2.1, nb this.2.1 this.1.2.1⟩
theorem sm_fuel {T : Nat → sm_T} {tc : Nat → Nat} {nt N : Nat} (tb : Nat → List ay_Row) (w : sm_wf T tc nt N) : ∀ n m t, t < n → t < m → t < N → sm_ev T tb n t = sm_ev T tb m t
  | 0, _, _, h, _, _ => by omega
  | _ + 1, 0, _, _, h, _ => by omega
  | n + 1, m + 1, t, h1, h2, h3 => by
    funext e
    show sm_body _ _ _ _ _ = sm_body _ _ _ _ _
    rcases sm_parts (w t h3).1 with ⟨ha, hb⟩ | hk | hk | hk
    · exact sm_body_congr (sm_fuel tb w n m _ (by omega) (by omega) (by omega)) (sm_fuel tb w n m _ (by omega) (by omega) (by omega)) e
    · rw [sm_body0 hk, sm_body0 hk]
    · rw [sm_body1 hk, sm_body1 hk]
    · rw [sm_body11 hk, sm_body11 hk]
/-- what a term means in rows around -/
def sm_S (T : Nat → sm_T) (tb : Nat → List ay_Row) (t : Nat) : sm_E → Int32 × List ay_Row := sm_ev T tb (t + 1) t
theorem sm_S_eq {T : Nat → sm_T} {tc : Nat → Nat} {nt N t : Nat} {tb : Nat → List ay_Row} (w : sm_wf T tc nt N) (ht : t < N) (e : sm_E) : sm_S T tb t e = sm_body (T t) (fun i => sm_w (T i)) tb (sm_S T tb) e := by
  show sm_body (T t) (fun i => sm_w (T i)) tb (sm_ev T tb t) e = sm_body _ _ _ _ _
  rcases sm_parts (w t ht).1 with ⟨ha, hb⟩ | hk | hk | hk
  · exact sm_body_congr (ev' := sm_S T tb) (sm_fuel tb w t (sm_a (T t) + 1) _ ha (by omega) (by omega)) (sm_fuel tb w t (sm_b (T t) + 1) _ hb (by omega) (by omega)) e
  · rw [sm_body0 hk, sm_body0 hk]
  · rw [sm_body1 hk, sm_body1 hk]
  · rw [sm_body11 hk, sm_body11 hk]
theorem sm_ind {N : Nat} {P : Nat → Prop} (h : ∀ t, t < N → (∀ s, s < t → P s) → P t) : ∀ t, t < N → P t := by
  intro t
  induction t using Nat.strongRecOn with
  | ind t ih => exact fun ht => h t ht fun s hs => ih s hs (by omega)
/-- a term hangs on nothing but what it looks at -/
theorem sm_looks {T : Nat → sm_T} {tc : Nat → Nat} {nt N : Nat} {tb : Nat → List ay_Row} (w : sm_wf T tc nt N) : ∀ t, t < N → ∀ e e' : sm_E, (∀ k, k < 32 → (sm_l (T t)).testBit k = true → e k = e' k) → sm_S T tb t e = sm_S T tb t e' := by
  refine sm_ind fun t ht ih e e' he => ?_
  rw [sm_S_eq w ht, sm_S_eq w ht]
  have hA : sm_a (T t) < t → (∀ k, (sm_lA T t).testBit k = true → (sm_l (T t)).testBit k = true) → sm_S T tb (sm_a (T t)) e = sm_S T tb (sm_a (T t)) e' := fun h1 h2 => ih _ h1 e e' fun k hk hb => he k hk (h2 k hb)
  have hB : sm_b (T t) < t → (∀ k, (sm_lB T t).testBit k = true → (sm_l (T t)).testBit k = true) → sm_S T tb (sm_b (T t)) e = sm_S T tb (sm_b (T t)) e' := fun h1 h2 => ih _ h1 e e' fun k hk hb => he k hk (h2 k hb)
  have hI : sm_b (T t) < t → sm_l (T t) = sm_lA T t ||| sm_lB T t >>> 8 → ∀ r, sm_S T tb (sm_b (T t)) (sm_enter r e) = sm_S T tb (sm_b (T t)) (sm_enter r e') := fun h1 h2 r => ih _ h1 _ _ fun k hk hb => by
    unfold sm_enter
    split
    · rfl
    · refine he (k - 8) (by omega) ?_
      rw [h2, Nat.testBit_or, Nat.testBit_shiftRight, show 8 + (k - 8) = k by omega]
      have hb : (sm_lB T t).testBit k = true := hb
      rw [hb, Bool.or_true]
  have o1 : ∀ {x y z : Nat}, z = x ||| y → ∀ k, x.testBit k = true → z.testBit k = true := fun e k h => by rw [e, Nat.testBit_or, h, Bool.true_or]
  have o2 : ∀ {x y z : Nat}, z = x ||| y → ∀ k, y.testBit k = true → z.testBit k = true := fun e k h => by rw [e, Nat.testBit_or, h, Bool.or_true]
  have o3 : ∀ {x z : Nat}, z = x → ∀ k, x.testBit k = true → z.testBit k = true := fun e k h => by rw [e]; exact h
  have hw := (w t ht).1
  rcases sm_split (sm_k20 hw) with hk | hk | hk | hk | hk | hk | hk | hk | hk | hk | hk | hk | hk | hk | hk | hk | hk | hk | hk | hk | hk
  · rw [sm_body0 hk, sm_body0 hk]
  · rw [sm_body1 hk, sm_body1 hk]
    obtain ⟨-, -, -, k, h1, h2, h3⟩ := sm_wf1 hw hk
    rw [h2, nI_clamp (by omega), he k h1 (by rw [h3, Nat.testBit_two_pow_self])]
  · have q := sm_wf2 hw hk
    rw [sm_body2 hk, sm_body2 hk, hA q.1.2.1 (o1 q.2.2.2), hB q.2.1.2.1 (o2 q.2.2.2)]
  · have q := sm_wf3 hw hk
    rw [sm_body3 hk, sm_body3 hk, hA q.1.2.1 (o3 q.2.2)]
  · have q := sm_wf4 hw hk
    rw [sm_body4 hk, sm_body4 hk, hA q.1.2.1 (o3 q.2.2.2.2)]
  · have q := sm_wf5 hw hk
    rw [sm_body5 hk, sm_body5 hk, hA q.1.2.1 (o1 q.2.2.2), hB q.2.1.2.1 (o2 q.2.2.2)]
  · have q := sm_wf6 hw hk
    rw [sm_body6 hk, sm_body6 hk, hA q.1.2.1 (o3 q.2.2)]
  · have q := sm_wf7 hw hk
    rw [sm_body7 hk, sm_body7 hk]
    rcases q.2 with p | p
    · rw [hA q.1.2.1 (o1 p.2.2), hB p.2.1.2.1 (o2 p.2.2)]
    · rw [hA q.1.2.1 (o3 p.2.2), if_pos p.1, if_pos p.1]
  · have q := sm_wf8 hw hk
    rw [sm_body8 hk, sm_body8 hk, hA q.1.2.1 (o3 q.2.2)]
  · have q := sm_wf9 hw hk
    rw [sm_body9 hk, sm_body9 hk, hA q.1.2.1 (o1 q.2.2.2.2), hB q.2.1.2.1 (o2 q.2.2.2.2)]
  · have q := sm_wf10 hw hk
    rw [sm_body10 hk, sm_body10 hk, hA q.1.2.1 (o1 q.2.2.2.2), hB q.2.1.2.1 (o2 q.2.2.2.2)]
  · rw [sm_body11 hk, sm_body11 hk]
  · have q := sm_wf12 hw hk
    rw [sm_body12 hk, sm_body12 hk, hA q.1.2.1 (o1 q.2.2.2.2)]
    simp only [hI q.2.1.2.1 q.2.2.2.2]
  · have q := sm_wf13 hw hk
    rw [sm_body13 hk, sm_body13 hk, hA q.1.2.1 (o1 q.2.2.2.2)]
    simp only [hI q.2.1.2.1 q.2.2.2.2]
  · have q := sm_wf14 hw hk
    rw [sm_body14 hk, sm_body14 hk, hA q.1.2.1 (o3 q.2.2.2.2)]
  · have q := sm_wf15 hw hk
    rw [sm_body15 hk, sm_body15 hk, hA q.1.2.1 (o1 q.2.2.2), hB q.2.1.2.1 (o2 q.2.2.2)]
  · have q := sm_wf16 hw hk
    rw [sm_body16 hk, sm_body16 hk, hA q.1.2.1 (o1 q.2.2.2.2.2)]
    simp only [hI q.2.1.2.1 q.2.2.2.2.2]
  · have q := sm_wf17 hw hk
    rw [sm_body17 hk, sm_body17 hk, hA q.1.2.1 (o1 q.2.2.2.2.2), hB q.2.1.2.1 (o2 q.2.2.2.2.2)]
  · have q := sm_wf18 hw hk
    rw [sm_body18 hk, sm_body18 hk, hA q.1.2.1 (o3 q.2.2.2)]
  · have q := sm_wf19 hw hk
    rw [sm_body19 hk, sm_body19 hk, hA q.1.2.1 (o3 q.2.2.2.1)]
  · have q := sm_wf20 hw hk
    rw [sm_body20 hk, sm_body20 hk, hA q.1.2.1 (o3 q.2.2.2.2.1)]
/-! widths -/
theorem sm_minus_sub {A B : List ay_Row} {r : ay_Row} (h : r ∈ sm_minus A B) : r ∈ A := by
  have h1 := List.count_pos_iff.mpr h
  rw [sm_minus_count] at h1
  exact List.count_pos_iff.mp (by omega)
theorem sm_apply_W {k wa wb w : Nat} {A : List ay_Row} {f : ay_Row → List ay_Row} (hA : sl_W wa A) (hf : ∀ r, sl_W wb (f r)) (hw : w = if k < 2 then wa + wb else wa) : sl_W w (sm_apply k wb A f) := by
  intro r hr
  unfold sm_apply at hr
  split at hr
  · rename_i hk
    rw [List.mem_flatMap] at hr
    obtain ⟨x, hx, hr⟩ := hr
    rw [List.mem_map] at hr
    obtain ⟨y, hy, rfl⟩ := hr
    rw [List.length_append, hA x hx, hf x y hy, hw, if_pos (by omega)]
  · split at hr
    · rename_i hk
      rw [List.mem_flatMap] at hr
      obtain ⟨x, hx, hr⟩ := hr
      split at hr
      · rw [List.mem_singleton] at hr
        rw [hr, List.length_append, hA x hx, List.length_replicate, hw, if_pos (by omega)]
      · rw [List.mem_map] at hr
        obtain ⟨y, hy, rfl⟩ := hr
        rw [List.length_append, hA x hx, hf x y hy, hw, if_pos (by omega)]
    · have hm : r ∈ A := by split at hr <;> exact (List.mem_filter.mp hr).1
      rw [hA r hm, hw, if_neg (by omega)]
theorem sm_width {T : Nat → sm_T} {tc : Nat → Nat} {nt N : Nat} {tb : Nat → List ay_Row} (w : sm_wf T tc nt N) (hT : ∀ k, k < nt → k < 6 ∧ sl_W (tc k) (tb k)) : ∀ t, t < N → sm_sort (sm_k (T t)) = 2 → ∀ e : sm_E, sl_W (sm_w (T t)) (sm_S T tb t e).2 := by
  refine sm_ind fun t ht ih hs e => ?_
  rw [sm_S_eq w ht]
  have hw := (w t ht).1
  have hs : 11 ≤ sm_k (T t) := by
    unfold sm_sort at hs
    split at hs
    · omega
    · split at hs <;> omega
  rcases sm_split (sm_k20 hw) with hk | hk | hk | hk | hk | hk | hk | hk | hk | hk | hk | hk | hk | hk | hk | hk | hk | hk | hk | hk | hk
  iterate 11 omega
  · obtain ⟨-, -, -, k, h1, h2, h3⟩ := sm_wf11 hw hk
    rw [sm_body11 hk, h3, h2, nI_clamp (by have := (hT k h1).1; omega)]
    exact (hT k h1).2
  · have q := sm_wf12 hw hk
    rw [sm_body12 hk, q.2.2.2.1]
    exact sl_W_sub (ih _ q.1.2.1 q.1.2.2 e) fun r hr => (List.mem_filter.mp hr).1
  · have q := sm_wf13 hw hk
    rw [sm_body13 hk, q.2.2.2.1]
    intro r hr
    obtain ⟨x, hx, rfl⟩ := List.mem_map.mp hr
    rw [List.length_append, ih _ q.1.2.1 q.1.2.2 e x hx]; rfl
  · have q := sm_wf14 hw hk
    rw [sm_body14 hk, q.2.2.1]
    intro r hr
    obtain ⟨x, hx, rfl⟩ := List.mem_map.mp hr
    simp [sm_only]
  · have q := sm_wf15 hw hk
    rw [sm_body15 hk, q.2.2.1]
    intro r hr
    obtain ⟨x, hx, hr⟩ := List.mem_flatMap.mp hr
    obtain ⟨y, hy, rfl⟩ := List.mem_map.mp hr
    rw [List.length_append, ih _ q.1.2.1 q.1.2.2 e x hx, ih _ q.2.1.2.1 q.2.1.2.2 e y hy]; rfl
  · have q := sm_wf16 hw hk
    rw [sm_body16 hk]
    exact sm_apply_W (ih _ q.1.2.1 q.1.2.2 e) (fun r => ih _ q.2.1.2.1 q.2.1.2.2 _) q.2.2.2.2.1
  · have q := sm_wf17 hw hk
    rw [sm_body17 hk, q.2.2.2.2.1]
    have hA := ih _ q.1.2.1 q.1.2.2 e
    have hB := ih _ q.2.1.2.1 q.2.1.2.2 e
    intro r hr
    have hr : r ∈ sm_both _ _ _ := hr
    unfold sm_both at hr
    split at hr
    · rcases List.mem_append.mp hr with h | h
      · exact hA r h
      · rw [q.2.2.2.1]; exact hB r h
    · split at hr <;> exact hA r (sm_minus_sub hr)
  · have q := sm_wf18 hw hk
    rw [sm_body18 hk, q.2.2.1]
    exact sl_W_sub (ih _ q.1.2.1 q.1.2.2 e) fun r hr => (sm_once_mem _ r).mp hr
  · have q := sm_wf19 hw hk
    rw [sm_body19 hk, q.2.2.1]
    exact sl_W_sub (ih _ q.1.2.1 q.1.2.2 e) fun r hr => (sm_srt_perm _).mem_iff.mp (List.mem_of_mem_take hr)
  · obtain ⟨-, -, -, -, -, g, -, -, h3, h4⟩ := sm_wf20 hw hk
    rw [sm_body20 hk, h4, h3]
    intro r hr
    have hr : r ∈ sm_groups _ _ _ _ := hr
    unfold sm_groups at hr
    split at hr
    · rename_i e0
      rw [List.mem_singleton] at hr
      rw [hr, e0]; rfl
    · obtain ⟨x, hx, rfl⟩ := List.mem_map.mp hr
      rw [sm_once_mem] at hx
      obtain ⟨y, hy, rfl⟩ := List.mem_map.mp hx
      simp [sm_pick]
