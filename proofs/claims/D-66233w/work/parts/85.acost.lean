/-! CALLS of ApplyFree: sizes and costs -/
section ZZ
variable {T : Nat → sm_T} {tc : Nat → Nat} {nt N t : Nat} {tr : Nat → Nat}
theorem ap_parts (h : sm_wfk T tc nt t) (h2 : 1 < sm_k (T t)) (h11 : sm_k (T t) ≠ 11) : (T t).2.2.1 = some (sm_a (T t)) ∧ sm_a (T t) < t ∧ ((T t).2.2.2.1 = none ∨ (T t).2.2.2.1 = some (sm_b (T t)) ∧ sm_b (T t) < t) := by
  rcases sm_split (sm_k20 h) with hk | hk | hk | hk | hk | hk | hk | hk | hk | hk | hk | hk | hk | hk | hk | hk | hk | hk | hk | hk | hk
  · omega
  · omega
  · have q := sm_wf2 h hk; exact ⟨q.1.1, q.1.2.1, Or.inr ⟨q.2.1.1, q.2.1.2.1⟩⟩
  · have q := sm_wf3 h hk; exact ⟨q.1.1, q.1.2.1, Or.inl q.2.1⟩
  · have q := sm_wf4 h hk; exact ⟨q.1.1, q.1.2.1, Or.inl q.2.1⟩
  · have q := sm_wf5 h hk; exact ⟨q.1.1, q.1.2.1, Or.inr ⟨q.2.1.1, q.2.1.2.1⟩⟩
  · have q := sm_wf6 h hk; exact ⟨q.1.1, q.1.2.1, Or.inl q.2.1⟩
  · have q := sm_wf7 h hk
    rcases q.2 with ⟨-, q2, -⟩ | ⟨-, q2, -⟩
    · exact ⟨q.1.1, q.1.2.1, Or.inr ⟨q2.1, q2.2.1⟩⟩
    · exact ⟨q.1.1, q.1.2.1, Or.inl q2⟩
  · have q := sm_wf8 h hk; exact ⟨q.1.1, q.1.2.1, Or.inl q.2.1⟩
  · have q := sm_wf9 h hk; exact ⟨q.1.1, q.1.2.1, Or.inr ⟨q.2.1.1, q.2.1.2.1⟩⟩
  · have q := sm_wf10 h hk; exact ⟨q.1.1, q.1.2.1, Or.inr ⟨q.2.1.1, q.2.1.2.1⟩⟩
  · omega
  · have q := sm_wf12 h hk; exact ⟨q.1.1, q.1.2.1, Or.inr ⟨q.2.1.1, q.2.1.2.1⟩⟩
  · have q := sm_wf13 h hk; exact ⟨q.1.1, q.1.2.1, Or.inr ⟨q.2.1.1, q.2.1.2.1⟩⟩
  · have q := sm_wf14 h hk; exact ⟨q.1.1, q.1.2.1, Or.inl q.2.1⟩
  · have q := sm_wf15 h hk; exact ⟨q.1.1, q.1.2.1, Or.inr ⟨q.2.1.1, q.2.1.2.1⟩⟩
  · have q := sm_wf16 h hk; exact ⟨q.1.1, q.1.2.1, Or.inr ⟨q.2.1.1, q.2.1.2.1⟩⟩
  · have q := sm_wf17 h hk; exact ⟨q.1.1, q.1.2.1, Or.inr ⟨q.2.1.1, q.2.1.2.1⟩⟩
  · have q := sm_wf18 h hk; exact ⟨q.1.1, q.1.2.1, Or.inl q.2.1⟩
  · have q := sm_wf19 h hk; exact ⟨q.1.1, q.1.2.1, Or.inl q.2.1⟩
  · have q := sm_wf20 h hk; exact ⟨q.1.1, q.1.2.1, Or.inl q.2.1⟩
theorem sm_cut_6 (n : Nat) : sm_cut n ≤ 1000000 := by unfold sm_cut; split <;> omega
/-- sizes and costs are small -/
theorem zz_le (w : sm_wf T tc nt N) (hr : ∀ k, k < nt → k < 6 ∧ tr k ≤ 24) (ht : t < N) : sm_zs T tr t ≤ 1000000 ∧ sm_zc T tr t ≤ 1000000 := by
  constructor
  · rw [sm_zs_eq w ht]
    unfold sm_scs
    split
    · omega
    · split
      · rename_i hk
        obtain ⟨-, -, -, k, h1, h2, h3⟩ := sm_wf11 (w t ht).1 hk
        have := hr k h1
        rw [h2, nI_clamp (by omega)]; omega
      · exact sm_cut_6 _
  · unfold sm_zc
    rw [sm_Z_eq w ht]
    exact sm_cut_6 _
theorem zz_c (w : sm_wf T tc nt N) (ht : t < N) : sm_zc T tr t = sm_cut (sm_ownc (T t) (sm_zs T tr t) (sm_zs T tr (sm_a (T t))) (sm_zc T tr (sm_a (T t))) (sm_p2 (T t).2.2.2.1 (sm_zc T tr))) := by
  unfold sm_zc sm_zs
  rw [sm_Z_eq w ht]; rfl
theorem zz_s (w : sm_wf T tc nt N) (ht : t < N) (hk : 11 < sm_k (T t)) : sm_zs T tr t = sm_cut (sm_own (T t) (sm_zs T tr (sm_a (T t))) (sm_p2 (T t).2.2.2.1 (sm_zs T tr))) := by
  rw [sm_zs_eq w ht]
  unfold sm_scs
  rw [if_neg (by omega), if_neg (by omega)]; rfl
theorem zz_s11 (w : sm_wf T tc nt N) (ht : t < N) (hk : sm_k (T t) = 11) : sm_zs T tr t = tr (sm_n (T t)).toNatClampNeg := by
  rw [sm_zs_eq w ht]
  unfold sm_scs
  rw [if_neg (by omega), if_pos hk]
theorem zz_s0 (w : sm_wf T tc nt N) (ht : t < N) (hk : sm_k (T t) < 11) : sm_zs T tr t = 0 := by
  rw [sm_zs_eq w ht]
  unfold sm_scs
  rw [if_pos hk]
theorem zz_p2 {o : Option Nat} {f : Nat → Nat} {b n : Nat} (ho : o = none ∨ o = some b) (h : f b ≤ n) : sm_p2 o f ≤ n := by
  rcases ho with rfl | rfl
  · exact Nat.zero_le _
  · exact h
theorem zz_mul {a b : Nat} (ha : a ≤ 1000001) (hb : b ≤ 1000001) : a * b ≤ 1000001 * 1000001 := Nat.mul_le_mul ha hb
theorem zz_own {x : sm_T} {a b : Nat} (ha : a ≤ 1000000) (hb : b ≤ 1000000) : sm_own x a b ≤ 2000000000000 := by
  have h1 := zz_mul (a := a) (b := b) (by omega) (by omega)
  have h2 := zz_mul (a := a) (b := max 1 b) (by omega) (by omega)
  unfold sm_own
  repeat' split
  all_goals omega
theorem zz_ownc {x : sm_T} {s sa ca cb : Nat} (hs : s ≤ 1000000) (ha : sa ≤ 1000000) (hc : ca ≤ 1000000) (hb : cb ≤ 1000000) : sm_ownc x s sa ca cb ≤ 2000000000000 := by
  have h1 := zz_mul (a := sa + 1) (b := cb) (by omega) (by omega)
  unfold sm_ownc
  repeat' split
  all_goals omega
end ZZ
section CZ
variable {d : Nat} {z : wd_Z} {L : wd_L} {M : wd_M} {T : Nat → sm_T} {N : Nat} {tc : Nat → Nat} {nt : Nat} {tr : Nat → Nat} {t : Nat}
theorem cl_cut {K : Int32 → wd_Z → wd_M → wd_L → Prop} {n : Nat} (hn : n ≤ 2000000000000) (h : K (nI (sm_cut n)) z M L) : wRunI (d, 0, 0) mX1_cut [.long (lN n)] z M L K := by
  have e : (lg_cmp (lN n) 1000000 ≤ 0) ↔ n ≤ 1000000 := by rw [lg_cmp_le]; exact pk_lLE (b := 1000000) (by omega) (by omega)
  unfold sm_cut at h
  refine fX1_cut_e ⟨fun q => wQi_i ?_, fun q => wQi_i ?_⟩
  · rw [e] at q
    rw [if_neg (by omega)] at h
    rw [lN_i]; exact h
  · rw [e] at q
    rw [if_pos (by omega)] at h
    exact h
theorem mm_cut {K : Int64 → wd_Z → wd_M → wd_L → Prop} {n : Nat} (hn : n ≤ 2000000000000) (h : K (lN (sm_cut n)) z M L) : wRunL (d, 0, 0) mX8_cut [.long (lN n)] z M L K := by
  have e : (lg_cmp (lN n) 1000000 ≤ 0) ↔ n ≤ 1000000 := by rw [lg_cmp_le]; exact pk_lLE (b := 1000000) (by omega) (by omega)
  unfold sm_cut at h
  refine fX8_cut_e ⟨fun q => wQl_i ?_, fun q => wQl_i ?_⟩
  · rw [e] at q
    rw [if_neg (by omega)] at h; exact h
  · rw [e] at q
    rw [if_pos (by omega)] at h
    exact h
theorem cl_own_65 {K : Int64 → wd_Z → wd_M → wd_L → Prop} {A B : Nat} (hT : tx_T M T N) (w : sm_wf T tc nt N) (ht : t < N) (hk : 11 < sm_k (T t)) (hA : A ≤ 1000000) (hB : B ≤ 1000000) (h : K (lN (sm_own (T t) A B)) z M L) : wRun (d + 1, 0, 0) mX1_ownSize 65 [some (.ref 3), some (.int (nI t)), some (.long (lN A)), none, none, none] [.long (lN B)] z M L (wQl K) := by
  have hN := hT.2.1
  have hw := (w t ht).1
  have k20 := sm_k20 hw
  have hin : vp_in (nI t) 120 := vp_in_nI (by omega) (by omega)
  obtain ⟨t4, t5, -, -, t8, -⟩ := hT.2.2 t ht
  have o5 : ∀ j, j < 10 → sm_o (T t) < 100 → (nI (sm_o (T t)) = nI j ↔ sm_o (T t) = j) := fun j hj ho => nI_eq (by omega) (by omega)
  refine fX1_ownSize_65 ⟨hin, ?_⟩
  rw [nI_clamp (by omega), t4, t5, t8, nI_toInt (by omega)]
  refine ⟨fun q => fX1_ownSize_192 (wQl_i ?_), fun q => wQl_i ?_, fun q => ⟨hin, ?_⟩, fun q => ⟨hin, ?_⟩, fun q => fX1_ownSize_192 (wQl_i ?_), fun q => ⟨hin, wQl_i ?_⟩, fun q => wQl_i ?_, trivial⟩
  · unfold sm_own at h
    rw [if_neg (by omega), if_neg (by omega), if_neg (by omega), if_neg (by omega), if_neg (by omega)] at h
    exact h
  · unfold sm_own at h
    rw [if_pos (by omega)] at h
    rw [lN_mul]; exact h
  · have o3 := (sm_wf16 hw (by omega)).2.2.1
    unfold sm_own at h
    rw [if_neg (by omega), if_pos (by omega)] at h
    refine ⟨fun e => fX1_ownSize_155 (wQl_i ?_), fun e => ⟨hin, fun e1 => fX1_ownSize_155 (wQl_i ?_), fun e1 => fX1_ownSize_155 (wQl_i ?_)⟩⟩
    · rw [if_pos ((o5 0 (by omega) (by omega)).mp e)] at h
      rw [lN_mul]; exact h
    · rw [if_neg (fun q => e ((o5 0 (by omega) (by omega)).mpr q)), if_pos ((o5 1 (by omega) (by omega)).mp e1)] at h
      have em : (if lN B < 1 then (1 : Int64) else lN B) = lN (max 1 B) := by
        have e1 : (lN B < 1) ↔ B < 1 := pk_lLT (b := 1) (by omega) (by omega)
        by_cases q : B < 1
        · rw [if_pos (e1.mpr q), Nat.max_eq_left (by omega)]; rfl
        · rw [if_neg (fun p => q (e1.mp p)), Nat.max_eq_right (by omega)]
      rw [em, lN_mul]; exact h
    · rw [if_neg (fun q => e ((o5 0 (by omega) (by omega)).mpr q)), if_neg (fun q => e1 ((o5 1 (by omega) (by omega)).mpr q))] at h
      exact h
  · have o3 := (sm_wf17 hw (by omega)).2.2.1
    unfold sm_own at h
    rw [if_neg (by omega), if_neg (by omega), if_pos (by omega)] at h
    refine ⟨fun e => fX1_ownSize_173 (wQl_i ?_), fun e => fX1_ownSize_173 (wQl_i ?_)⟩
    · rw [if_pos ((o5 0 (by omega) (by omega)).mp e)] at h
      rw [lN_add]; exact h
    · rw [if_neg (fun q => e ((o5 0 (by omega) (by omega)).mpr q))] at h
      exact h
  · unfold sm_own at h
    rw [if_neg (by omega), if_neg (by omega), if_neg (by omega), if_neg (by omega), if_neg (by omega)] at h
    exact h
  · obtain ⟨-, -, -, -, n, n1, n2, n3⟩ := sm_wf19 hw (by omega)
    unfold sm_own at h
    rw [if_neg (by omega), if_neg (by omega), if_neg (by omega), if_pos (by omega)] at h
    rw [n3] at h ⊢
    rw [nI_clamp (by omega)] at h
    rw [nI_l (by omega)]
    have em : (if lN n < lN A then lN n else lN A) = lN (min A n) := by
      have e1 : (lN n < lN A) ↔ n < A := pk_lLT (by omega) (by omega)
      by_cases q : n < A
      · rw [if_pos (e1.mpr q), Nat.min_eq_right (by omega)]
      · rw [if_neg (fun p => q (e1.mp p)), Nat.min_eq_left (by omega)]
    rw [em]; exact h
  · unfold sm_own at h
    rw [if_neg (by omega), if_neg (by omega), if_neg (by omega), if_neg (by omega), if_pos (by omega)] at h
    have em : (if lN A < 1 then (1 : Int64) else lN A) = lN (max 1 A) := by
      have e1 : (lN A < 1) ↔ A < 1 := pk_lLT (b := 1) (by omega) (by omega)
      by_cases q : A < 1
      · rw [if_pos (e1.mpr q), Nat.max_eq_left (by omega)]; rfl
      · rw [if_neg (fun p => q (e1.mp p)), Nat.max_eq_right (by omega)]
    rw [em]; exact h
/-- tables, as far as sizes ask -/
def cl_tr (z : wd_Z) (M : wd_M) (nt : Nat) (tr : Nat → Nat) : Prop := z.2.1 = nt ∧ nt ≤ 6 ∧ ∀ k, k < nt → M (667 + 2 * k) 2 = nI (tr k) ∧ tr k ≤ 24
theorem cl_tr_r (h : cl_tr z M nt tr) : ∀ k, k < nt → k < 6 ∧ tr k ≤ 24 := fun k hk => ⟨by have := h.2.1; omega, (h.2.2 k hk).2⟩
theorem cl_ownSize {K : Int64 → wd_Z → wd_M → wd_L → Prop} (hT : tx_T M T N) (w : sm_wf T tc nt N) (hR : cl_tr z M nt tr) (ht : t < N) (hk : 11 ≤ sm_k (T t)) (hS : ∀ s, s < t → M 13 s = nI (sm_zs T tr s))
    (h : ∀ n, n ≤ 2000000000000 → sm_cut n = sm_zs T tr t → K (lN n) z M L) : wRunL (d + 1, 0, 0) mX1_ownSize [.ref 3, .int (nI t)] z M L K := by
  have hN := hT.2.1
  have hw := (w t ht).1
  have k20 := sm_k20 hw
  have hin : vp_in (nI t) 120 := vp_in_nI (by omega) (by omega)
  obtain ⟨t4, t5, t6, t7, t8, -⟩ := hT.2.2 t ht
  have e11 : (nI (sm_k (T t)) = 11) ↔ sm_k (T t) = 11 := nI_eq (b := 11) (by omega) (by omega)
  refine fX1_ownSize_e ⟨hin, ?_⟩
  rw [nI_clamp (by omega), t4, t6, t7, t8]
  refine ⟨fun q => ?_, fun q => ?_⟩
  · rw [e11] at q
    obtain ⟨-, -, -, k, h1, h2, h3⟩ := sm_wf11 hw q
    have r6 := hR.2.1
    obtain ⟨r1, r2⟩ := hR.2.2 k h1
    rw [h2, nI_clamp (by omega)]
    refine ⟨hin, vp_in_nI (by omega) (by omega), am_bR_i (tb_ref (by rw [hR.1]; exact h1)) (am_gd_i (by rw [tb_typ (by rw [hR.1]; exact h1)]; rfl) (wQl_i ?_))⟩
    rw [r1, nI_l (by omega)]
    refine h _ (by omega) ?_
    rw [zz_s11 w ht q, h2, nI_clamp (by omega)]
    unfold sm_cut
    rw [if_neg (by omega)]
  · have q' : sm_k (T t) ≠ 11 := fun p => q (e11.mpr p)
    obtain ⟨p1, p2, p3⟩ := ap_parts hw (by omega) q'
    have za := (zz_le (t := sm_a (T t)) w (cl_tr_r hR) (by omega)).1
    have ea : ak_o (T t).2.2.1 = nI (sm_a (T t)) := by rw [p1]; rfl
    rw [ea, nI_clamp (by omega)]
    refine ⟨hin, vp_in_nI (by omega) (by omega), hin, ?_⟩
    have hs := zz_s (tr := tr) w ht (by omega)
    rw [hS _ p2, nI_l (by omega)]
    rcases p3 with p3 | ⟨p3, p4⟩
    · refine ⟨fun e => absurd e (by rw [p3]; decide), fun _ => ?_⟩
      refine cl_own_65 (B := 0) hT w ht (by omega) za (by omega) (h _ (zz_own za (by omega)) ?_)
      rw [hs, p3]; rfl
    · have zb := (zz_le (t := sm_b (T t)) w (cl_tr_r hR) (by omega)).1
      have eb : ak_o (T t).2.2.2.1 = nI (sm_b (T t)) := by rw [p3]; rfl
      rw [eb, nI_clamp (by omega), hS _ p4, nI_l (by omega)]
      refine ⟨fun _ => ⟨hin, vp_in_nI (by omega) (by omega), ?_⟩, fun e => absurd (nI_pos' (by omega)) e⟩
      refine cl_own_65 hT w ht (by omega) za zb (h _ (zz_own za zb) ?_)
      rw [hs, p3]; rfl
theorem cl_ownCost {K : Int64 → wd_Z → wd_M → wd_L → Prop} (hT : tx_T M T N) (w : sm_wf T tc nt N) (hr : ∀ k, k < nt → k < 6 ∧ tr k ≤ 24) (ht : t < N) (hS : ∀ s, s ≤ t → M 13 s = nI (sm_zs T tr s)) (hC : ∀ s, s < t → M 12 s = nI (sm_zc T tr s))
    (h : ∀ n, n ≤ 2000000000000 → sm_cut n = sm_zc T tr t → K (lN n) z M L) : wRunL (d + 1, 0, 0) mX1_ownCost [.ref 3, .int (nI t)] z M L K := by
  have hN := hT.2.1
  have hw := (w t ht).1
  have k20 := sm_k20 hw
  have hin : vp_in (nI t) 120 := vp_in_nI (by omega) (by omega)
  obtain ⟨t4, t5, t6, t7, t8, -⟩ := hT.2.2 t ht
  have ek : ∀ j, j ≤ 20 → (nI (sm_k (T t)) = nI j ↔ sm_k (T t) = j) := fun j hj => nI_eq (by omega) (by omega)
  have zt := (zz_le w hr ht).1
  have hc := zz_c (tr := tr) w ht
  refine fX1_ownCost_e ⟨hin, ?_⟩
  rw [nI_clamp (by omega), t4, t6, t7]
  refine ⟨fun q => wQl_i ?_, fun q0 => ⟨hin, fun q => wQl_i ?_, fun q1 => ⟨hin, fun q => ⟨hin, wQl_i ?_⟩, fun q2 => ?_⟩⟩⟩
  · refine h 1 (by omega) ?_
    rw [hc]; unfold sm_ownc
    rw [if_pos (by have := (ek 0 (by omega)).mp q; omega)]
  · refine h 1 (by omega) ?_
    rw [hc]; unfold sm_ownc
    rw [if_pos (by have := (ek 1 (by omega)).mp q; omega)]
  · have q := (ek 11 (by omega)).mp q
    rw [hS t (Nat.le_refl _), nI_l (by omega), lN_1]
    refine h _ (by omega) ?_
    rw [hc]; unfold sm_ownc
    rw [if_neg (by omega), if_pos q]
  · have q0 : sm_k (T t) ≠ 0 := fun p => q0 ((ek 0 (by omega)).mpr p)
    have q1 : sm_k (T t) ≠ 1 := fun p => q1 ((ek 1 (by omega)).mpr p)
    have q2 : sm_k (T t) ≠ 11 := fun p => q2 ((ek 11 (by omega)).mpr p)
    obtain ⟨p1, p2, p3⟩ := ap_parts hw (by omega) q2
    have za := zz_le (t := sm_a (T t)) w hr (by omega)
    have ea : ak_o (T t).2.2.1 = nI (sm_a (T t)) := by rw [p1]; rfl
    rw [ea, nI_clamp (by omega)]
    refine ⟨hin, vp_in_nI (by omega) (by omega), hin, ?_⟩
    have own : sm_ownc (T t) (sm_zs T tr t) (sm_zs T tr (sm_a (T t))) (sm_zc T tr (sm_a (T t))) (sm_p2 (T t).2.2.2.1 (sm_zc T tr)) = 1 + sm_zc T tr (sm_a (T t)) + (if sm_inside (sm_k (T t)) then (sm_zs T tr (sm_a (T t)) + 1) * sm_p2 (T t).2.2.2.1 (sm_zc T tr) else if sm_k (T t) = 15 then sm_p2 (T t).2.2.2.1 (sm_zc T tr) + sm_zs T tr t else sm_p2 (T t).2.2.2.1 (sm_zc T tr)) := by
      unfold sm_ownc; rw [if_neg (by omega), if_neg q2]
    rw [own] at hc
    have l1 : (1 : Int64) = lN 1 := rfl
    have l0 : (0 : Int64) = lN 0 := rfl
    rw [hC _ p2, nI_l (by omega), l1, lN_add]
    have eS : ∀ s, s ≤ t → (M 13 s).toInt64 = lN (sm_zs T tr s) := fun s hs => by rw [hS s hs, nI_l (by have := (zz_le (t := s) w hr (by omega)).1; omega)]
    rcases p3 with p3 | ⟨p3, p4⟩
    · rw [p3] at hc
      refine ⟨fun e => absurd e (by rw [p3]; decide), fun _ => ⟨hin, ?_⟩⟩
      refine cl_isInside k20 ⟨fun e => ⟨hin, ?_⟩, fun e => ⟨hin, ?_⟩⟩
      · have hi : ¬ sm_inside (sm_k (T t)) = true := fun q => by rw [if_pos q] at e; exact absurd e (by decide)
        rw [if_neg hi] at hc
        rw [t4, eS t (Nat.le_refl _), l0, lN_add, lN_add, lN_add]
        refine ⟨fun q => ⟨hin, wQl_i (h _ (by omega) ?_)⟩, fun q => wQl_i (h _ (by omega) ?_)⟩
        · rw [if_pos ((ek 15 (by omega)).mp q)] at hc
          exact hc.symm
        · rw [if_neg (fun p => q ((ek 15 (by omega)).mpr p))] at hc
          exact hc.symm
      · have hi : sm_inside (sm_k (T t)) = true := by
          cases q : sm_inside (sm_k (T t)) with
          | true => rfl
          | false => rw [q] at e; exact absurd rfl e
        rw [if_pos hi] at hc
        rw [t6, ea, nI_clamp (by omega), eS _ (by omega), lN_add, l0, lN_mul, lN_add]
        exact ⟨vp_in_nI (by omega) (by omega), wQl_i (h _ (by omega) hc.symm)⟩
    · have zb := (zz_le (t := sm_b (T t)) w hr (by omega)).2
      have eb : ak_o (T t).2.2.2.1 = nI (sm_b (T t)) := by rw [p3]; rfl
      rw [p3] at hc
      rw [eb, nI_clamp (by omega), hC _ p4, nI_l (by omega)]
      refine ⟨fun _ => ⟨hin, vp_in_nI (by omega) (by omega), hin, ?_⟩, fun e => absurd (nI_pos' (by omega)) e⟩
      refine cl_isInside k20 ⟨fun e => ⟨hin, ?_⟩, fun e => ⟨hin, ?_⟩⟩
      · have hi : ¬ sm_inside (sm_k (T t)) = true := fun q => by rw [if_pos q] at e; exact absurd e (by decide)
        rw [if_neg hi] at hc
        rw [t4, eS t (Nat.le_refl _), lN_add, lN_add, lN_add]
        refine ⟨fun q => ⟨hin, wQl_i (h _ (by omega) ?_)⟩, fun q => wQl_i (h _ (by omega) ?_)⟩
        · rw [if_pos ((ek 15 (by omega)).mp q)] at hc
          exact hc.symm
        · rw [if_neg (fun p => q ((ek 15 (by omega)).mpr p))] at hc
          exact hc.symm
      · have hi : sm_inside (sm_k (T t)) = true := by
          cases q : sm_inside (sm_k (T t)) with
          | true => rfl
          | false => rw [q] at e; exact absurd rfl e
        rw [if_pos hi] at hc
        have hm := zz_mul (a := sm_zs T tr (sm_a (T t)) + 1) (b := sm_zc T tr (sm_b (T t))) (by omega) (by omega)
        rw [t6, ea, nI_clamp (by omega), eS _ (by omega), lN_add, lN_mul, lN_add]
        exact ⟨vp_in_nI (by omega) (by omega), wQl_i (h _ (by omega) hc.symm)⟩
theorem cl_cost_2 {K : Int32 → wd_Z → wd_M → wd_L → Prop} {M0 : wd_M} (hT : tx_T M0 T N) (w : sm_wf T tc nt N) (hR : cl_tr z M0 nt tr) (ht : t < N) (hK : ∀ M', ak_fr 12 13 M0 M' → M' 13 t = nI (sm_zs T tr t) → K (nI (sm_zc T tr t)) z M' L) : ∀ (m k : Nat) (M : wd_M), k + m = t + 1 → ak_fr 12 13 M0 M → (∀ s, s < k → M 13 s = nI (sm_zs T tr s) ∧ M 12 s = nI (sm_zc T tr s)) → wRun (d + 2, 0, 0) mX1_cost 2 [some (.ref 3), some (.int (nI t)), some (.int (nI k))] [] z M L (wQi K)
  | 0, k, M, hk, hf, hs => by
    have hN := hT.2.1
    refine fX1_cost_2 ⟨fun _ => ⟨vp_in_nI (by omega) (by omega), wQi_i ?_⟩, fun h => absurd (nI_lt (by omega) (by omega)) h⟩
    rw [nI_clamp (by omega), (hs t (by omega)).2]
    exact hK M hf (hs t (by omega)).1
  | m + 1, k, M, hk, hf, hs => by
    have hN := hT.2.1
    have hkN : k < N := by omega
    have k20 := sm_k20 (w k hkN).1
    have hT' : tx_T M T N := tx_T_fr hT fun c h1 h2 => hf c (by omega)
    have hR' : cl_tr z M nt tr := ⟨hR.1, hR.2.1, fun j hj => by rw [hf _ (by omega)]; exact hR.2.2 j hj⟩
    have hin : vp_in (nI k) 120 := vp_in_nI (by omega) (by omega)
    have t4 := (hT'.2.2 k hkN).1
    refine fX1_cost_2 ⟨fun h => absurd h (nI_nlt (by omega) (by omega)), fun _ => ⟨hin, ?_⟩⟩
    have go : ∀ M1 : wd_M, ak_fr 12 13 M0 M1 → (∀ s, s ≤ k → M1 13 s = nI (sm_zs T tr s)) → (∀ s, s < k → M1 12 s = nI (sm_zc T tr s)) → wRunL (d + 1, 0, 0) mX1_ownCost [.ref 3, .int (nI k)] z M1 L (fun v12 z9 M10 L11 => wRunI (d + 1, 0, 0) mX1_cut [.long v12] z9 M10 L11 (fun v16 z13 M14 L15 => (vp_in (nI k) 120 ∧ wRun (d + 2, 0, 0) mX1_cost 2 [some (.ref 3), some (.int (nI t)), some (.int ((nI k) + 1))] [] z13 (am_up2 M14 12 (nI k).toNatClampNeg v16) L15 (wQi K)))) := fun M1 f1 s1 c1 => by
      refine cl_ownCost (tx_T_fr hT fun c h1 h2 => f1 c (by omega)) w (cl_tr_r hR) hkN s1 c1 fun n hn en => ?_
      refine cl_cut hn ⟨hin, ?_⟩
      rw [en, nI_1, nI_clamp (by omega)]
      refine cl_cost_2 hT w hR ht hK m (k + 1) _ (by omega) (ak_fr_up f1 (by omega) (by omega)) fun s hs => ?_
      refine ⟨by rw [ak_up_cell (by omega)]; exact s1 s (by omega), ?_⟩
      by_cases e : s = k
      · rw [e, ak_up_same]
      · rw [ak_up_ne e]; exact c1 s (by omega)
    rw [nI_clamp (show k < 2 ^ 31 by omega)]
    rw [nI_clamp (show k < 2 ^ 31 by omega)] at go
    have e11 : ((11 : Int32) ≤ M 4 k) ↔ 11 ≤ sm_k (T k) := by rw [t4]; exact nI_leI (a := 11) (by omega) (by omega)
    have st : ∀ v, v = sm_zs T tr k → ∀ s, s ≤ k → am_up2 M 13 k (nI v) 13 s = nI (sm_zs T tr s) := fun v hv s hs' => by
      by_cases e : s = k
      · rw [e, ak_up_same, hv]
      · rw [ak_up_ne e]; exact (hs s (by omega)).1
    refine ⟨fun q => ?_, fun q => ?_⟩
    · rw [e11] at q
      refine cl_ownSize hT' w hR' hkN q (fun s h => (hs s h).1) fun n hn en => ?_
      refine cl_cut hn ⟨hin, ?_⟩
      exact go _ (ak_fr_up hf (by omega) (by omega)) (st _ en) fun s h => by rw [ak_up_cell (by omega)]; exact (hs s h).2
    · rw [e11] at q
      refine cl_cut (n := 0) (by omega) ⟨hin, ?_⟩
      exact go _ (ak_fr_up hf (by omega) (by omega)) (st _ (by rw [zz_s0 w hkN (by omega)]; rfl)) fun s h => by rw [ak_up_cell (by omega)]; exact (hs s h).2
theorem cl_cost {K : Int32 → wd_Z → wd_M → wd_L → Prop} (hd : 2 ≤ d) (hT : tx_T M T N) (w : sm_wf T tc nt N) (hR : cl_tr z M nt tr) (ht : t < N) (hK : ∀ M', ak_fr 12 13 M M' → M' 13 t = nI (sm_zs T tr t) → K (nI (sm_zc T tr t)) z M' L) : wRunI (d, 0, 0) mX1_cost [.ref 3, .int (nI t)] z M L K := by
  obtain ⟨d, rfl⟩ : ∃ e, d = e + 2 := ⟨d - 2, by omega⟩
  exact fX1_cost_e (cl_cost_2 hT w hR ht hK (t + 1) 0 M (by omega) ak_fr_refl (fun s h => by omega))
theorem cl_size {K : Int32 → wd_Z → wd_M → wd_L → Prop} (hd : 3 ≤ d) (hT : tx_T M T N) (w : sm_wf T tc nt N) (hR : cl_tr z M nt tr) (ht : t < N) (hK : ∀ M', ak_fr 12 13 M M' → K (nI (sm_zs T tr t)) z M' L) : wRunI (d, 0, 0) mX1_size [.ref 3, .int (nI t)] z M L K := by
  have hN := hT.2.1
  obtain ⟨d, rfl, hd⟩ := ak_deep hd
  refine fX1_size_e (cl_cost (by omega) hT w hR ht fun M' f e => ⟨vp_in_nI (by omega) (by omega), wQi_i ?_⟩)
  rw [nI_clamp (by omega), e]
  exact hK M' f
end CZ
