/-! LAW: bags in all, and the whole -/
section LW
variable {T : Nat → sm_T} {tc : Nat → Nat} {nt N : Nat} {tb : Nat → List ay_Row} {tr : Nat → Nat}
variable {bag : cp_B} {att : cp_A} {t : Nat} {x : cp_X} {L : List cp_St} {u : Nat} {X : cv_X} {Xr : List ay_Row} {m B : Nat}
theorem lw_sort2 {k : Nat} : sm_sort k = 2 ↔ 11 ≤ k := by
  unfold sm_sort
  split
  · omega
  · split <;> omega
theorem lw_sw (H : lw_H T tc nt N tb tr) (hN : N ≤ 120) (ht : t < N) (hs : sm_sort (sm_k (T t)) = 2) (ih : ∀ s, s < t → sm_sort (sm_k (T s)) = 2 → lw_BC T tc nt tb tr bag s) (iha : ∀ s, s < t → sm_sort (sm_k (T s)) ≠ 2 → lw_AC T tc nt tb tr att s) (hp : lw_pre T tc nt tb tr x L X Xr m B t) : lw_P T tc nt tb tr 5 x L u X Xr B t (cp_sw T bag att t x (L, u)) := by
  have hw := (H.1 t ht).1
  have hs := lw_sort2.mp hs
  rcases sm_split (sm_k20 hw) with hk | hk | hk | hk | hk | hk | hk | hk | hk | hk | hk | hk | hk | hk | hk | hk | hk | hk | hk | hk | hk
  iterate 11 omega
  · exact lw_scan H ht hk hp
  · have q := (sm_wf12 hw hk).2.1
    exact lw_filter H hN ht hk ih (iha _ q.2.1 (by rw [q.2.2]; decide)) hp
  · have q := (sm_wf13 hw hk).2.1
    exact lw_more H hN ht hk ih (iha _ q.2.1 (by rw [q.2.2]; decide)) hp
  · exact lw_only H ht hk ih hp
  · exact lw_pairs H ht hk ih hp
  · exact lw_apply H ht hk ih hp
  · exact lw_both H ht hk ih hp
  · exact lw_once H ht hk ih hp
  · exact lw_first H ht hk ih hp
  · exact lw_groups H ht hk ih hp
theorem lw_bag0 (H : lw_H T tc nt N tb tr) (hN : N ≤ 120) (ht : t < N) (hs : sm_sort (sm_k (T t)) = 2) (ih : ∀ s, s < t → sm_sort (sm_k (T s)) = 2 → lw_BC T tc nt tb tr bag s) (iha : ∀ s, s < t → sm_sort (sm_k (T s)) ≠ 2 → lw_AC T tc nt tb tr att s) : lw_BC T tc nt tb tr (cp_bag0 T bag att) t := by
  intro x L u X Xr m B hp
  unfold cp_bag0
  by_cases h : x.1 = false ∧ sm_l (T t) = 0
  · rw [if_pos h]
    obtain ⟨p1, p2, p3, p4, p5, p6, p7⟩ := id hp
    have z3 := lw_z3 p4 p6
    have m1 : 1 * sm_zc T tr t ≤ m * sm_zc T tr t := Nat.mul_le_mul_right _ p4
    have hu := lw_sw (x := cp_U) (Xr := [[]]) (m := 1) (B := B) (L := L) (u := u) (X := X) H hN ht hs ih iha ⟨p1, ⟨0, p1.2.1⟩, lw_U p1 h.2, by omega, by simp, by omega, by omega⟩
    generalize cp_sw T bag att t cp_U (L, u) = r at hu ⊢
    obtain ⟨K, R, h1, h2, h3, h4, h5, h6⟩ := hu
    have e0 : cp_U.2.2.1 + sm_w (T t) = sm_w (T t) := Nat.zero_add _
    rw [e0] at h2 h3
    have sz := sm_sizes H.1 (fun k hk => ⟨(H.2 k hk).1, (H.2 k hk).2.1⟩) t ht z3 hs
    have g4 : R.Perm (sm_S T tb t (lw_E cp_U.2.2.2 [])).2 := by
      refine h4.trans (List.Perm.of_eq ?_)
      rw [lw_J_cons, lw_J_nil, List.append_nil]
      exact List.map_id' _
    have rl : R.length ≤ sm_zs T tr t := by rw [g4.length_eq]; exact sz.2.2 _
    have x32 := p3.2.2.2.1
    have w8 := (H.1 t ht).2.1
    have c0 : R.length * sm_w (T t) ≤ 8 * sm_zs T tr t := lw_cells rl w8
    have c1 : Xr.length * R.length ≤ m * sm_zs T tr t := Nat.mul_le_mul p5 rl
    have c2 : Xr.length * R.length * (x.2.2.1 + sm_w (T t)) ≤ 40 * (m * sm_zs T tr t) := lw_cells c1 (by omega)
    have c3 : m * sm_zs T tr t ≤ m * sm_zc T tr t := Nat.mul_le_mul_left _ sz.1
    have e := em_cross (Z := X) h2 (cv_in_tl p2) (cv_at_app p3.1 K) cv_in_cons h3 (by omega) (by omega) (by rw [cv_n_cons]; show _ + _ + _ ≤ _; omega) (fun _ h => by simp [h])
    dsimp only
    rw [h1]
    unfold em_P at e
    rw [List.append_assoc] at e ⊢
    refine ⟨K ++ [cp_set 2 x.2.1 r.1], lw_J Xr fun _ => R, rfl, e.1, e.2, ?_, by rw [List.length_append, List.length_singleton]; omega, by show r.2.2 + 10 ≤ _; omega⟩
    refine (lw_J_perm (List.Perm.refl _) fun _ _ => g4).trans (List.Perm.of_eq (lw_J_congr fun xr _ => ?_))
    rw [lw_closed H.1 ht h.2 (lw_E cp_U.2.2.2 []) (lw_E x.2.2.2 xr)]
  · rw [if_neg h]
    obtain ⟨K, R, h1, h2, h3, h4, h5, h6⟩ := lw_sw (u := u) H hN ht hs ih iha hp
    exact ⟨K, R, h1, h2, h3, h4, by omega, h6⟩
theorem lw_att0 (H : lw_H T tc nt N tb tr) (hN : N ≤ 120) (ht : t < N) (hs : sm_sort (sm_k (T t)) ≠ 2) (ih : ∀ s, s < t → sm_sort (sm_k (T s)) = 2 → lw_BC T tc nt tb tr bag s) (iha : ∀ s, s < t → sm_sort (sm_k (T s)) ≠ 2 → lw_AC T tc nt tb tr att s) : lw_AC T tc nt tb tr (cp_att0 T bag att) t := by
  have hw := (H.1 t ht).1
  have hs : ¬ 11 ≤ sm_k (T t) := fun h => hs (lw_sort2.mpr h)
  have n0 : ∀ {k}, k = 0 → k ≠ 2 := by omega
  have n1 : ∀ {k}, k = 1 → k ≠ 2 := by omega
  rcases sm_split (sm_k20 hw) with hk | hk | hk | hk | hk | hk | hk | hk | hk | hk | hk | hk | hk | hk | hk | hk | hk | hk | hk | hk | hk
  · exact lw_att_0 H ht (by omega)
  · exact lw_att_0 H ht (by omega)
  · have q := sm_wf2 hw hk
    exact lw_att_2 H ht (by omega) q.2.1.1 q.1.2.1 q.2.1.2.1 q.2.2.2 ⟨by omega, fun _ => q.2.2.1, fun h => by omega⟩ (iha _ q.1.2.1 (n0 q.1.2.2)) (iha _ q.2.1.2.1 (n0 q.2.1.2.2))
  · have q := sm_wf3 hw hk
    exact lw_att_1 H ht (by omega) q.2.1 q.1.2.1 q.2.2 (fun h => by omega) (iha _ q.1.2.1 (n1 q.1.2.2))
  · have q := sm_wf4 hw hk
    exact lw_att_fld H ht hk (ih _ q.1.2.1 q.1.2.2)
  · have q := sm_wf5 hw hk
    exact lw_att_2 H ht (by omega) q.2.1.1 q.1.2.1 q.2.1.2.1 q.2.2.2 ⟨by omega, fun h => by omega, fun h => by omega⟩ (iha _ q.1.2.1 (n0 q.1.2.2)) (iha _ q.2.1.2.1 (n0 q.2.1.2.2))
  · have q := sm_wf6 hw hk
    exact lw_att_1 H ht (by omega) q.2.1 q.1.2.1 q.2.2 (fun h => by omega) (iha _ q.1.2.1 (n0 q.1.2.2))
  · have q := sm_wf7 hw hk
    rcases q.2 with ⟨q1, q2, q3⟩ | ⟨q1, q2, q3⟩
    · exact lw_att_2 H ht (by omega) q2.1 q.1.2.1 q2.2.1 q3 ⟨by omega, fun h => by omega, fun h => q1⟩ (iha _ q.1.2.1 (n1 q.1.2.2)) (iha _ q2.2.1 (n1 q2.2.2))
    · exact lw_att_1 H ht (by omega) q2 q.1.2.1 q3 (fun _ => q1) (iha _ q.1.2.1 (n1 q.1.2.2))
  · have q := sm_wf8 hw hk
    exact lw_att_has H ht hk (ih _ q.1.2.1 q.1.2.2)
  · have q := sm_wf9 hw hk
    exact lw_att_qnt H hN ht (Or.inl hk) (iha _ q.1.2.1 (n0 q.1.2.2)) (ih _ q.2.1.2.1 q.2.1.2.2)
  · have q := sm_wf10 hw hk
    exact lw_att_qnt H hN ht (Or.inr hk) (iha _ q.1.2.1 (n0 q.1.2.2)) (ih _ q.2.1.2.1 q.2.1.2.2)
  iterate 10 omega
theorem lw_cp (H : lw_H T tc nt N tb tr) (hN : N ≤ 120) : ∀ n t, t < n → t < N → (sm_sort (sm_k (T t)) = 2 → lw_BC T tc nt tb tr (cp T n).1 t) ∧ (sm_sort (sm_k (T t)) ≠ 2 → lw_AC T tc nt tb tr (cp T n).2 t)
  | 0, t, h, _ => by omega
  | n + 1, t, h, ht => by
    have ih := lw_cp H hN n
    exact ⟨fun hs => lw_bag0 H hN ht hs (fun s h1 h2 => (ih s (by omega) (by omega)).1 h2) (fun s h1 h2 => (ih s (by omega) (by omega)).2 h2), fun hs => lw_att0 H hN ht hs (fun s h1 h2 => (ih s (by omega) (by omega)).1 h2) (fun s h1 h2 => (ih s (by omega) (by omega)).2 h2)⟩
theorem lw_start : lw_I tc nt tb [cp_unit] [(0, 0)] 600000 := by
  have h0 : cv tc tb nt [] [] 600000 := by
    refine ⟨fun p (hp : p ∈ []) => absurd hp List.not_mem_nil, fun s st (hs : ([] : List cp_St)[s]? = some st) => ?_⟩
    rw [List.getElem?_nil] at hs; cases hs
  have e := cv_emit (st := cp_unit) (w := 0) (R := [[]]) (Z := []) h0 rfl ⟨rfl, rfl⟩ (fun r hr => by rw [List.mem_singleton] at hr; rw [hr]; rfl) (by simp) (by omega) (fun a ha => by rcases ha with h | h <;> cases h) (by unfold cv_n; simp) (fun _ h => h)
  exact ⟨e.1, by simp, e.2⟩
/-- the whole: steps that can be run, and what the last makes -/
theorem lw_whole (H : lw_H T tc nt N tb tr) (hN : N ≤ 120) (ht : t < N) (hs : sm_sort (sm_k (T t)) = 2) (hl : sm_l (T t) = 0) (hc : sm_zc T tr t ≤ 3000) :
    ∃ X R, cv tc tb nt (cp_whole T t).2.1 X 600000 ∧ cv_in X (cp_whole T t).1 ∧ cv_at tc tb (cp_whole T t).2.1 (cp_whole T t).1 (sm_w (T t)) R ∧ (∀ e, R.Perm (sm_S T tb t e).2) ∧ R.length ≤ 3000 ∧ (cp_whole T t).2.1.length ≤ 32768 ∧ (cp_whole T t).2.2 ≤ 524288 := by
  have n0 : cv_n [(0, 0)] = 0 := rfl
  have hb := (lw_cp H hN (t + 1) t (by omega) ht).1 hs cp_U [cp_unit] 0 [(0, 0)] [[]] 1 600000 ⟨lw_start, ⟨0, List.mem_singleton.mpr rfl⟩, lw_U (nt := nt) lw_start hl, by omega, by simp, by omega, by omega⟩
  unfold cp_whole
  generalize (cp T (t + 1)).1 t cp_U ([cp_unit], 0) = r at hb ⊢
  obtain ⟨K, R, h1, h2, h3, h4, h5, h6⟩ := hb
  have e0 : cp_U.2.2.1 + sm_w (T t) = sm_w (T t) := Nat.zero_add _
  rw [e0] at h2 h3
  have g4 : ∀ e, R.Perm (sm_S T tb t e).2 := fun e => by
    refine h4.trans (List.Perm.of_eq ?_)
    rw [lw_J_cons, lw_J_nil, List.append_nil, lw_closed H.1 ht hl e (lw_E cp_U.2.2.2 [])]
    exact List.map_id' _
  have sz := sm_sizes H.1 (fun k hk => ⟨(H.2 k hk).1, (H.2 k hk).2.1⟩) t ht hc hs
  have rl : R.length ≤ sm_zs T tr t := by rw [(g4 fun _ => 0).length_eq]; exact sz.2.2 _
  rw [h1]
  exact ⟨_, R, h2, cv_in_cons, h3, g4, by have := sz.1; omega, by rw [List.length_append, List.length_singleton]; omega, by omega⟩
end LW
