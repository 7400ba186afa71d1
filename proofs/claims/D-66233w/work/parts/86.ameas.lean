/-! CALLS of ApplyFreeModel: sizes and costs -/
theorem akL_same {L : wd_L} {c i : Nat} {v : Int64} : am_upL L c i v c i = v := by simp [am_upL, am_upC, vp_updL]
theorem akL_ne {L : wd_L} {c i j : Nat} {v : Int64} (h : j ≠ i) : am_upL L c i v c j = L c j := by simp [am_upL, am_upC, vp_updL, h]
theorem akL_cell {L : wd_L} {c i c' : Nat} {v : Int64} (h : c' ≠ c) : am_upL L c i v c' = L c' := by simp [am_upL, am_upC, h]
section MZ
variable {d : Nat} {z : wd_Z} {L : wd_L} {M : wd_M} {T : Nat → sm_T} {N : Nat} {tc : Nat → Nat} {nt : Nat} {tr : Nat → Nat} {t : Nat}
theorem mm_sizeOf {K : Int64 → wd_Z → wd_M → wd_L → Prop} (hT : my_tt M T N) (w : sm_wf T tc nt N) (hr : ∀ k, k < nt → k < 6 ∧ tr k ≤ 24) (ht : t < N) (hk : 11 < sm_k (T t)) (hS : ∀ s, s < t → L 662 s = lN (sm_zs T tr s))
    (h : ∀ n, n ≤ 2000000000000 → sm_cut n = sm_zs T tr t → K (lN n) z M L) : wRunL (d, 0, 0) mX8_sizeOf [.ref 650, .int (nI t)] z M L K := by
  have hN := hT.2.1
  have hw := (w t ht).1
  have k20 := sm_k20 hw
  have hin : vp_in (nI t) 120 := vp_in_nI (by omega) (by omega)
  obtain ⟨m4, m5, m6, m7, m8, m9, -⟩ := hT.2.2 t ht
  obtain ⟨p1, p2, p3⟩ := ap_parts hw (by omega) (by omega)
  have za := (zz_le (t := sm_a (T t)) w hr (by omega)).1
  have cl : (nI t).toNatClampNeg = t := nI_clamp (by omega)
  have e7 : M 657 t = nI (sm_a (T t)) := by
    rw [m7]; unfold my_1
    rw [if_neg (by omega), if_neg (by omega), if_neg (by omega)]
  have ina : vp_in (nI (sm_a (T t))) 120 := vp_in_nI (by omega) (by omega)
  have cla : (nI (sm_a (T t))).toNatClampNeg = sm_a (T t) := nI_clamp (by omega)
  have e8 : (sm_k (T t) = 15 ∨ sm_k (T t) = 16 ∨ sm_k (T t) = 17) → M 658 t = nI (sm_b (T t)) := fun q => by
    rw [m8]; unfold my_2
    rw [if_neg (by omega), if_neg (by omega), if_pos (by omega)]
  have e9 : (sm_k (T t) = 16 ∨ sm_k (T t) = 17) → M 659 t = nI (sm_o (T t)) := fun q => by
    rw [m9]; unfold my_3
    rw [if_neg (by omega), if_neg (by omega), if_neg (by omega), if_pos (by omega)]
  have two : (sm_k (T t) = 15 ∨ sm_k (T t) = 16 ∨ sm_k (T t) = 17) → (T t).2.2.2.1 = some (sm_b (T t)) ∧ sm_b (T t) < t := fun q => by
    rcases q with q | q | q
    · have := sm_wf15 hw q; exact ⟨this.2.1.1, this.2.1.2.1⟩
    · have := sm_wf16 hw q; exact ⟨this.2.1.1, this.2.1.2.1⟩
    · have := sm_wf17 hw q; exact ⟨this.2.1.1, this.2.1.2.1⟩
  have ek : ∀ j, j ≤ 20 → (nI (sm_k (T t)) = nI j ↔ sm_k (T t) = j) := fun j hj => nI_eq (by omega) (by omega)
  have o5 : (sm_k (T t) = 16 ∨ sm_k (T t) = 17) → sm_o (T t) ≤ 3 := fun q => by
    rcases q with q | q
    · exact (sm_wf16 hw q).2.2.1
    · have := (sm_wf17 hw q).2.2.1; omega
  have eo : (sm_k (T t) = 16 ∨ sm_k (T t) = 17) → ∀ j, j ≤ 20 → (nI (sm_o (T t)) = nI j ↔ sm_o (T t) = j) := fun q j hj => nI_eq (by have := o5 q; omega) (by omega)
  have hs := zz_s (tr := tr) w ht hk
  have fin : ∀ n, n = sm_own (T t) (sm_zs T tr (sm_a (T t))) (sm_p2 (T t).2.2.2.1 (sm_zs T tr)) → K (lN n) z M L := fun n e => by
    refine h n ?_ (by rw [e]; exact hs.symm)
    rw [e]
    refine zz_own za (zz_p2 (b := sm_b (T t)) (by rcases p3 with q | q; exact Or.inl q; exact Or.inr q.1) ?_)
    exact (zz_le (t := sm_b (T t)) w hr (by have := ap_ab hw; omega)).1
  have h43 : sm_k (T t) = 15 ∨ sm_k (T t) = 16 ∧ sm_o (T t) = 0 → wRun (d, 0, 0) mX8_sizeOf 43 [some (.ref 650), some (.int (nI t)), some (.long (lN (sm_zs T tr (sm_a (T t))))), none] [] z M L (wQl K) := fun q => by
    obtain ⟨b1, b2⟩ := two (by omega)
    refine fX8_sizeOf_43 ?_
    rw [cl, e8 (by omega), nI_clamp (by omega), hS _ b2, lN_mul]
    refine ⟨hin, vp_in_nI (by omega) (by omega), wQl_i (fin _ ?_)⟩
    rw [b1]; unfold sm_own
    rcases q with q | ⟨q, q'⟩
    · rw [if_pos q]; rfl
    · rw [if_neg (by omega), if_pos q, if_pos q']; rfl
  have h203 : ∀ n, n = sm_own (T t) (sm_zs T tr (sm_a (T t))) (sm_p2 (T t).2.2.2.1 (sm_zs T tr)) → wRun (d, 0, 0) mX8_sizeOf 203 [none, none, none, none] [.long (lN n)] z M L (wQl K) := fun n e => fX8_sizeOf_203 (wQl_i (fin n e))
  have h146 : sm_k (T t) ≠ 15 → (sm_k (T t) = 16 → 2 ≤ sm_o (T t)) → (sm_k (T t) = 17 → sm_o (T t) ≠ 0) → wRun (d, 0, 0) mX8_sizeOf 146 [some (.ref 650), some (.int (nI t)), some (.long (lN (sm_zs T tr (sm_a (T t))))), none] [] z M L (wQl K) := fun q1 q2 q3 => by
    refine fX8_sizeOf_146 ?_
    rw [cl, m4]
    refine ⟨hin, fun q => ?_, fun q => ⟨hin, fun r => ⟨hin, ?_⟩, fun r => fX8_sizeOf_202 (h203 _ ?_)⟩⟩
    · have q := (ek 20 (by omega)).mp q
      have own : sm_own (T t) (sm_zs T tr (sm_a (T t))) (sm_p2 (T t).2.2.2.1 (sm_zs T tr)) = max 1 (sm_zs T tr (sm_a (T t))) := by
        unfold sm_own
        rw [if_neg (by omega), if_neg (by omega), if_neg (by omega), if_neg (by omega), if_pos q]
      have e0 : (lg_cmp (lN (sm_zs T tr (sm_a (T t)))) 0 = 0) ↔ sm_zs T tr (sm_a (T t)) = 0 := by rw [lg_cmp_eq]; exact pk_lEQ (b := 0) (by omega) (by omega)
      rw [own] at fin
      refine ⟨fun e => fX8_sizeOf_168 (wQl_i (fin 1 ?_)), fun e => fX8_sizeOf_168 (wQl_i (fin _ ?_))⟩
      · rw [e0.mp e]; rfl
      · rw [e0] at e
        rw [Nat.max_eq_right (by omega)]
    · have r := (ek 19 (by omega)).mp r
      obtain ⟨-, -, -, -, n, n1, n2, n3⟩ := sm_wf19 hw r
      have m8' : M 658 t = nI n := by
        rw [m8]; unfold my_2
        rw [if_neg (by omega), if_neg (by omega), if_neg (by omega), if_pos (by omega), n3]
      have own : sm_own (T t) (sm_zs T tr (sm_a (T t))) (sm_p2 (T t).2.2.2.1 (sm_zs T tr)) = min (sm_zs T tr (sm_a (T t))) n := by
        unfold sm_own
        rw [if_neg (by omega), if_neg (by omega), if_neg (by omega), if_pos r, n3, nI_clamp (by omega)]
      rw [own] at h203
      have e0 : (lg_cmp (lN (sm_zs T tr (sm_a (T t)))) (lN n) ≤ 0) ↔ sm_zs T tr (sm_a (T t)) ≤ n := by rw [lg_cmp_le]; exact pk_lLE (by omega) (by omega)
      rw [m8', nI_l (by omega), e0]
      exact ⟨fun e => fX8_sizeOf_202 (h203 _ (by rw [Nat.min_eq_left e])), fun e => ⟨hin, h203 _ (by rw [Nat.min_eq_right (by omega)])⟩⟩
    · have q : sm_k (T t) ≠ 20 := fun p => q ((ek 20 (by omega)).mpr p)
      have r : sm_k (T t) ≠ 19 := fun p => r ((ek 19 (by omega)).mpr p)
      unfold sm_own
      rw [if_neg (by omega)]
      by_cases c : sm_k (T t) = 16
      · have := q2 c
        rw [if_pos c, if_neg (by omega), if_neg (by omega)]
      · rw [if_neg c]
        by_cases c' : sm_k (T t) = 17
        · rw [if_pos c', if_neg (q3 c')]
        · rw [if_neg c', if_neg r, if_neg q]
  have h112 : sm_k (T t) ≠ 15 → (sm_k (T t) = 16 → 2 ≤ sm_o (T t)) → wRun (d, 0, 0) mX8_sizeOf 112 [some (.ref 650), some (.int (nI t)), some (.long (lN (sm_zs T tr (sm_a (T t))))), none] [] z M L (wQl K) := fun q1 q2 => by
    refine fX8_sizeOf_112 ?_
    rw [cl, m4]
    refine ⟨hin, fun q => ⟨hin, ?_⟩, fun q => h146 q1 q2 (fun p => absurd ((ek 17 (by omega)).mpr p) q)⟩
    have q := (ek 17 (by omega)).mp q
    obtain ⟨b1, b2⟩ := two (by omega)
    rw [e9 (by omega), e8 (by omega), nI_clamp (by omega), hS _ b2, lN_add]
    refine ⟨fun e => ⟨hin, vp_in_nI (by omega) (by omega), wQl_i (fin _ ?_)⟩, fun e => h146 q1 q2 (fun _ p => e ((eo (by omega) 0 (by omega)).mpr p))⟩
    rw [b1]; unfold sm_own
    rw [if_neg (by omega), if_neg (by omega), if_pos q, if_pos ((eo (by omega) 0 (by omega)).mp e)]; rfl
  have h57 : sm_k (T t) ≠ 15 → (sm_k (T t) = 16 → sm_o (T t) ≠ 0) → wRun (d, 0, 0) mX8_sizeOf 57 [some (.ref 650), some (.int (nI t)), some (.long (lN (sm_zs T tr (sm_a (T t))))), none] [] z M L (wQl K) := fun q1 q2 => by
    refine fX8_sizeOf_57 ?_
    rw [cl, m4]
    refine ⟨hin, fun q => ⟨hin, ?_⟩, fun q => h112 q1 (fun p => absurd ((ek 16 (by omega)).mpr p) q)⟩
    have q := (ek 16 (by omega)).mp q
    have q2 := q2 q
    obtain ⟨b1, b2⟩ := two (by omega)
    have zb := (zz_le (t := sm_b (T t)) w hr (by omega)).1
    rw [e9 (by omega), e8 (by omega), nI_clamp (by omega), hS _ b2]
    refine ⟨fun e => ⟨hin, vp_in_nI (by omega) (by omega), ?_⟩, fun e => h112 q1 (fun _ => ?_)⟩
    · have own : sm_own (T t) (sm_zs T tr (sm_a (T t))) (sm_p2 (T t).2.2.2.1 (sm_zs T tr)) = sm_zs T tr (sm_a (T t)) * max 1 (sm_zs T tr (sm_b (T t))) := by
        rw [b1]; unfold sm_own
        rw [if_neg (by omega), if_pos q, if_neg q2, if_pos ((eo (by omega) 1 (by omega)).mp e)]; rfl
      have e0 : (lg_cmp (lN (sm_zs T tr (sm_b (T t)))) 0 = 0) ↔ sm_zs T tr (sm_b (T t)) = 0 := by rw [lg_cmp_eq]; exact pk_lEQ (b := 0) (by omega) (by omega)
      rw [own] at fin
      refine ⟨fun e => fX8_sizeOf_110 (wQl_i ?_), fun e => ⟨hin, vp_in_nI (by omega) (by omega), fX8_sizeOf_110 (wQl_i ?_)⟩⟩
      · rw [show (1 : Int64) = lN 1 from rfl, lN_mul]
        refine fin _ ?_
        rw [e0.mp e]; rfl
      · rw [e0] at e
        rw [lN_mul]
        refine fin _ ?_
        rw [Nat.max_eq_right (by omega)]
    · have n1 : sm_o (T t) ≠ 1 := fun p => e ((eo (by omega) 1 (by omega)).mpr p)
      omega
  refine fX8_sizeOf_e ?_
  rw [cl, e7, cla, m4, hS _ p2]
  refine ⟨hin, ina, hin, fun q => h43 (Or.inl ((ek 15 (by omega)).mp q)), fun q => ⟨hin, fun r => ⟨hin, ?_⟩, fun r => h57 (fun p => q ((ek 15 (by omega)).mpr p)) (fun p => absurd ((ek 16 (by omega)).mpr p) r)⟩⟩
  have r := (ek 16 (by omega)).mp r
  rw [e9 (by omega)]
  exact ⟨fun e => h43 (Or.inr ⟨r, (eo (by omega) 0 (by omega)).mp e⟩), fun e => h57 (by omega) (fun _ p => e ((eo (by omega) 0 (by omega)).mpr p))⟩
theorem mm_costOf {K : Int64 → wd_Z → wd_M → wd_L → Prop} (hT : my_tt M T N) (w : sm_wf T tc nt N) (hr : ∀ k, k < nt → k < 6 ∧ tr k ≤ 24) (ht : t < N) (hk : sm_k (T t) ≠ 11) (hS : ∀ s, s ≤ t → L 662 s = lN (sm_zs T tr s)) (hC : ∀ s, s < t → L 663 s = lN (sm_zc T tr s))
    (h : ∀ n, n ≤ 2000000000000 → sm_cut n = sm_zc T tr t → K (lN n) z M L) : wRunL (d, 0, 0) mX8_costOf [.ref 650, .int (nI t)] z M L K := by
  have hN := hT.2.1
  have hw := (w t ht).1
  have k20 := sm_k20 hw
  have hin : vp_in (nI t) 120 := vp_in_nI (by omega) (by omega)
  obtain ⟨m4, m5, m6, m7, m8, m9, -⟩ := hT.2.2 t ht
  have cl : (nI t).toNatClampNeg = t := nI_clamp (by omega)
  have ek : ∀ j, j ≤ 20 → (nI (sm_k (T t)) = nI j ↔ sm_k (T t) = j) := fun j hj => nI_eq (by omega) (by omega)
  have ab := ap_ab hw
  have za := zz_le (t := sm_a (T t)) w hr (by omega)
  have zb := zz_le (t := sm_b (T t)) w hr (by omega)
  have zt := zz_le (t := t) w hr ht
  have ina : vp_in (nI (sm_a (T t))) 120 := vp_in_nI (by omega) (by omega)
  have inb : vp_in (nI (sm_b (T t))) 120 := vp_in_nI (by omega) (by omega)
  have cla : (nI (sm_a (T t))).toNatClampNeg = sm_a (T t) := nI_clamp (by omega)
  have clb : (nI (sm_b (T t))).toNatClampNeg = sm_b (T t) := nI_clamp (by omega)
  have hc := zz_c (tr := tr) w ht
  have bnd : sm_ownc (T t) (sm_zs T tr t) (sm_zs T tr (sm_a (T t))) (sm_zc T tr (sm_a (T t))) (sm_p2 (T t).2.2.2.1 (sm_zc T tr)) ≤ 2000000000000 := by
    refine zz_ownc zt.1 za.1 za.2 (zz_p2 (b := sm_b (T t)) ?_ zb.2)
    by_cases q : (T t).2.2.2.1 = none
    · exact Or.inl q
    · right
      cases e : (T t).2.2.2.1 with
      | none => exact absurd e q
      | some b => show some b = some ((T t).2.2.2.1.getD 0); rw [e]; rfl
  have fin : ∀ n, n = sm_ownc (T t) (sm_zs T tr t) (sm_zs T tr (sm_a (T t))) (sm_zc T tr (sm_a (T t))) (sm_p2 (T t).2.2.2.1 (sm_zc T tr)) → K (lN n) z M L := fun n e => h n (by omega) (by rw [e]; exact hc.symm)
  have h16 : sm_k (T t) ≤ 1 → wRun (d, 0, 0) mX8_costOf 16 [none, none, none] [] z M L (wQl K) := fun q => fX8_costOf_16 (wQl_i (fin 1 (by unfold sm_ownc; rw [if_pos q])))
  have big : 1 < sm_k (T t) → (T t).2.2.1 = some (sm_a (T t)) ∧ sm_a (T t) < t ∧ ((T t).2.2.2.1 = none ∨ (T t).2.2.2.1 = some (sm_b (T t)) ∧ sm_b (T t) < t) := fun q => ap_parts hw q hk
  have own : 1 < sm_k (T t) → sm_ownc (T t) (sm_zs T tr t) (sm_zs T tr (sm_a (T t))) (sm_zc T tr (sm_a (T t))) (sm_p2 (T t).2.2.2.1 (sm_zc T tr)) = 1 + sm_zc T tr (sm_a (T t)) + (if sm_inside (sm_k (T t)) then (sm_zs T tr (sm_a (T t)) + 1) * sm_p2 (T t).2.2.2.1 (sm_zc T tr) else if sm_k (T t) = 15 then sm_p2 (T t).2.2.2.1 (sm_zc T tr) + sm_zs T tr t else sm_p2 (T t).2.2.2.1 (sm_zc T tr)) := fun q => by
    unfold sm_ownc; rw [if_neg (by omega), if_neg hk]
  have e7a : (sm_k (T t) = 3 ∨ sm_k (T t) = 6 ∨ sm_k (T t) = 8 ∨ 12 ≤ sm_k (T t)) → M 657 t = nI (sm_a (T t)) := fun q => by
    rw [m7]; unfold my_1
    rw [if_neg (by omega), if_neg (by omega), if_neg (by omega)]
  have e8a : (sm_k (T t) = 2 ∨ sm_k (T t) = 4 ∨ sm_k (T t) = 5 ∨ sm_k (T t) = 7 ∨ sm_k (T t) = 9 ∨ sm_k (T t) = 10) → M 658 t = nI (sm_a (T t)) := fun q => by
    rw [m8]; unfold my_2
    rw [if_neg (by omega), if_pos (by omega)]
  have e8b : (sm_k (T t) = 12 ∨ sm_k (T t) = 13 ∨ sm_k (T t) = 15 ∨ sm_k (T t) = 16 ∨ sm_k (T t) = 17) → M 658 t = nI (sm_b (T t)) := fun q => by
    rw [m8]; unfold my_2
    rw [if_neg (by omega), if_neg (by omega), if_pos (by omega)]
  have e9b : (sm_k (T t) = 2 ∨ sm_k (T t) = 5 ∨ sm_k (T t) = 9 ∨ sm_k (T t) = 10) → M 659 t = nI (sm_b (T t)) := fun q => by
    rw [m9]; unfold my_3
    rw [if_pos (by omega)]
  have two : (sm_k (T t) = 2 ∨ sm_k (T t) = 5 ∨ sm_k (T t) = 9 ∨ sm_k (T t) = 10 ∨ sm_k (T t) = 12 ∨ sm_k (T t) = 13 ∨ sm_k (T t) = 15 ∨ sm_k (T t) = 16 ∨ sm_k (T t) = 17) → (T t).2.2.2.1 = some (sm_b (T t)) ∧ sm_b (T t) < t := fun q => by
    rcases q with q | q | q | q | q | q | q | q | q
    · have := sm_wf2 hw q; exact ⟨this.2.1.1, this.2.1.2.1⟩
    · have := sm_wf5 hw q; exact ⟨this.2.1.1, this.2.1.2.1⟩
    · have := sm_wf9 hw q; exact ⟨this.2.1.1, this.2.1.2.1⟩
    · have := sm_wf10 hw q; exact ⟨this.2.1.1, this.2.1.2.1⟩
    · have := sm_wf12 hw q; exact ⟨this.2.1.1, this.2.1.2.1⟩
    · have := sm_wf13 hw q; exact ⟨this.2.1.1, this.2.1.2.1⟩
    · have := sm_wf15 hw q; exact ⟨this.2.1.1, this.2.1.2.1⟩
    · have := sm_wf16 hw q; exact ⟨this.2.1.1, this.2.1.2.1⟩
    · have := sm_wf17 hw q; exact ⟨this.2.1.1, this.2.1.2.1⟩
  have ins : ∀ k, (k = 12 ∨ k = 13 ∨ k = 16) → sm_inside k = true := fun k q => by rcases q with rfl | rfl | rfl <;> rfl
  have nin : ∀ k, k ≠ 12 → k ≠ 13 → k ≠ 16 → ¬ sm_inside k = true := fun k q1 q2 q3 => by unfold sm_inside; simp [q1, q2, q3]
  have h36 : (sm_k (T t) = 12 ∨ sm_k (T t) = 13 ∨ sm_k (T t) = 16) → wRun (d, 0, 0) mX8_costOf 36 [some (.ref 650), some (.int (nI t)), none] [] z M L (wQl K) := fun q => by
    obtain ⟨b1, b2⟩ := two (by omega)
    obtain ⟨-, a2, -⟩ := big (by omega)
    refine fX8_costOf_36 ?_
    rw [cl, e7a (by omega), e8b (by omega), cla, clb, hC _ a2, hC _ b2, hS _ (by omega), lN_1, lN_1, lN_mul, lN_add]
    refine ⟨hin, ina, hin, inb, hin, ina, wQl_i (fin _ ?_)⟩
    rw [own (by omega), if_pos (ins _ q), b1]
    show _ = 1 + sm_zc T tr (sm_a (T t)) + (sm_zs T tr (sm_a (T t)) + 1) * sm_zc T tr (sm_b (T t))
    rw [Nat.mul_comm (sm_zc T tr (sm_b (T t))), Nat.add_comm 1]
  have h169 : (sm_k (T t) = 2 ∨ sm_k (T t) = 5 ∨ sm_k (T t) = 9 ∨ sm_k (T t) = 10) → wRun (d, 0, 0) mX8_costOf 169 [some (.ref 650), some (.int (nI t)), none] [] z M L (wQl K) := fun q => by
    obtain ⟨b1, b2⟩ := two (by omega)
    obtain ⟨-, a2, -⟩ := big (by omega)
    refine fX8_costOf_169 ?_
    rw [cl, e8a (by omega), e9b q, cla, clb, hC _ a2, hC _ b2, lN_add, lN_1]
    refine ⟨hin, ina, hin, inb, wQl_i (fin _ ?_)⟩
    rw [own (by omega), if_neg (nin _ (by omega) (by omega) (by omega)), if_neg (by omega), b1]
    show _ = 1 + sm_zc T tr (sm_a (T t)) + sm_zc T tr (sm_b (T t))
    omega
  have ne : ∀ j, j ≤ 20 → ¬ nI (sm_k (T t)) = nI j → sm_k (T t) ≠ j := fun j hj q p => q ((ek j hj).mpr p)
  refine fX8_costOf_e ?_
  rw [cl, m4]
  refine ⟨hin, fun q => h16 (by have := (ek 0 (by omega)).mp q; omega), fun q0 => ⟨fun q => h16 (by have := (ek 1 (by omega)).mp q; omega), fun q1 => ⟨fun q => h36 (Or.inl ((ek 12 (by omega)).mp q)), fun q12 => ⟨fun q => h36 (Or.inr (Or.inl ((ek 13 (by omega)).mp q))), fun q13 => ⟨fun q => h36 (Or.inr (Or.inr ((ek 16 (by omega)).mp q))), fun q16 => ?_⟩⟩⟩⟩⟩
  have n0 := ne 0 (by omega) q0
  have n1 := ne 1 (by omega) q1
  have n12 := ne 12 (by omega) q12
  have n13 := ne 13 (by omega) q13
  have n16 := ne 16 (by omega) q16
  obtain ⟨-, a2, p3⟩ := big (by omega)
  have own := own (by omega)
  rw [if_neg (nin _ n12 n13 n16)] at own
  refine ⟨fun q => ?_, fun q15 => ⟨fun q => ?_, fun q17 => ⟨fun q => h169 (Or.inl ((ek 2 (by omega)).mp q)), fun q2 => ⟨fun q => h169 (Or.inr (Or.inl ((ek 5 (by omega)).mp q))), fun q5 => ⟨fun q => h169 (Or.inr (Or.inr (Or.inl ((ek 9 (by omega)).mp q)))), fun q9 => ⟨fun q => h169 (Or.inr (Or.inr (Or.inr ((ek 10 (by omega)).mp q)))), fun q10 => ⟨fun q => ?_, fun q7 => ⟨fun q => ?_, fun q4 => ?_⟩⟩⟩⟩⟩⟩⟩⟩
  · have q := (ek 15 (by omega)).mp q
    obtain ⟨b1, b2⟩ := two (by omega)
    rw [e7a (by omega), e8b (by omega), cla, clb, hC _ a2, hC _ b2, hS t (Nat.le_refl _), lN_add, lN_1, lN_add]
    refine ⟨hin, ina, hin, inb, hin, wQl_i (fin _ ?_)⟩
    rw [own, if_pos q, b1]
    show _ = 1 + sm_zc T tr (sm_a (T t)) + (sm_zc T tr (sm_b (T t)) + sm_zs T tr t)
    omega
  · have q := (ek 17 (by omega)).mp q
    obtain ⟨b1, b2⟩ := two (by omega)
    rw [e7a (by omega), e8b (by omega), cla, clb, hC _ a2, hC _ b2, lN_add, lN_1]
    refine ⟨hin, ina, hin, inb, wQl_i (fin _ ?_)⟩
    rw [own, if_neg (by omega), b1]
    show _ = 1 + sm_zc T tr (sm_a (T t)) + sm_zc T tr (sm_b (T t))
    omega
  · have q := (ek 7 (by omega)).mp q
    have w7 := sm_wf7 hw q
    have e7o : M 657 t = nI (sm_o (T t)) := by
      rw [m7]; unfold my_1
      rw [if_neg (by omega), if_neg (by omega), if_pos (by omega)]
    have e9 : M 659 t = if sm_o (T t) = 2 then nI (sm_a (T t)) else nI (sm_b (T t)) := by
      rw [m9]; unfold my_3
      rw [if_neg (by omega), if_neg (by omega), if_pos (by omega)]
    rw [e8a (by omega), cla, hC _ a2, e7o]
    rw [if_neg (by omega)] at own
    refine ⟨hin, ina, hin, ?_⟩
    rcases w7.2 with ⟨o2, b, -⟩ | ⟨o2, b, -⟩
    · have b2 := b.2.1
      have eo : ¬ nI (sm_o (T t)) = 2 := fun p => by have := (nI_eq (b := 2) (by omega) (by omega)).mp p; omega
      rw [e9, if_neg (by omega), clb, hC _ b2]
      refine ⟨fun p => absurd p eo, fun _ => ⟨hin, inb, fX8_costOf_237 (wQl_i ?_)⟩⟩
      rw [lN_add, lN_1]
      refine fin _ ?_
      rw [own, b.1]
      show _ = 1 + sm_zc T tr (sm_a (T t)) + sm_zc T tr (sm_b (T t))
      omega
    · refine ⟨fun _ => fX8_costOf_237 (wQl_i ?_), fun p => absurd (by rw [o2]; rfl) p⟩
      rw [show (0 : Int64) = lN 0 from rfl, lN_add, lN_1]
      refine fin _ ?_
      have b : (T t).2.2.2.1 = none := b
      rw [own, b]
      show _ = 1 + sm_zc T tr (sm_a (T t)) + 0
      omega
  · have q := (ek 4 (by omega)).mp q
    have b : (T t).2.2.2.1 = none := (sm_wf4 hw q).2.1
    rw [e8a (by omega), cla, hC _ a2, lN_1]
    refine ⟨hin, ina, fX8_costOf_275 (wQl_i (fin _ ?_))⟩
    rw [own, if_neg (by omega), b]
    show _ = 1 + sm_zc T tr (sm_a (T t)) + 0
    omega
  · have n15 := ne 15 (by omega) q15
    have n17 := ne 17 (by omega) q17
    have n2 := ne 2 (by omega) q2
    have n5 := ne 5 (by omega) q5
    have n9 := ne 9 (by omega) q9
    have n10 := ne 10 (by omega) q10
    have n7 := ne 7 (by omega) q7
    have n4 := ne 4 (by omega) q4
    have b : (T t).2.2.2.1 = none := by
      rcases sm_split k20 with k | k | k | k | k | k | k | k | k | k | k | k | k | k | k | k | k | k | k | k | k
      iterate 3 omega
      · exact (sm_wf3 hw k).2.1
      · omega
      · omega
      · exact (sm_wf6 hw k).2.1
      · omega
      · exact (sm_wf8 hw k).2.1
      iterate 5 omega
      · exact (sm_wf14 hw k).2.1
      iterate 3 omega
      · exact (sm_wf18 hw k).2.1
      · exact (sm_wf19 hw k).2.1
      · exact (sm_wf20 hw k).2.1
    rw [e7a (by omega), cla, hC _ a2, lN_1]
    refine ⟨hin, ina, fX8_costOf_275 (wQl_i (fin _ ?_))⟩
    rw [own, if_neg n15, b]
    show _ = 1 + sm_zc T tr (sm_a (T t)) + 0
    omega
theorem mm_meas_2 {V : wd_Z → wd_M → wd_L → Prop} (hT : my_tt M T N) (w : sm_wf T tc nt N) (hr : ∀ k, k < nt → k < 6 ∧ tr k ≤ 24 ∧ M 652 k = nI (tr k)) (hV : ∀ L', (∀ s, s < N → L' 662 s = lN (sm_zs T tr s) ∧ L' 663 s = lN (sm_zc T tr s)) → V z M L') : ∀ (m k : Nat) (L : wd_L), k + m = N → (∀ s, s < k → L 662 s = lN (sm_zs T tr s) ∧ L 663 s = lN (sm_zc T tr s)) → wRun (d + 1, 0, 0) mX8_measure 2 [some (.ref 650), some (.int (nI k))] [] z M L (wQv V)
  | 0, k, L, hk, hs => by
    have hN := hT.2.1
    refine fX8_measure_2 ⟨fun _ => wQv_i (hV L fun s h => hs s (by omega)), fun h => absurd ?_ h⟩
    rw [hT.1]; exact nI_le (by omega) (by omega)
  | m + 1, k, L, hk, hs => by
    have hN := hT.2.1
    have hkN : k < N := by omega
    have hw := (w k hkN).1
    have k20 := sm_k20 hw
    have hr' : ∀ k, k < nt → k < 6 ∧ tr k ≤ 24 := fun k q => ⟨(hr k q).1, (hr k q).2.1⟩
    have hin : vp_in (nI k) 120 := vp_in_nI (by omega) (by omega)
    obtain ⟨m4, m5, m6, m7, -⟩ := hT.2.2 k hkN
    refine fX8_measure_2 ⟨fun h => absurd (by rw [← hT.1]; exact h) (nI_ge hkN (by omega)), fun _ => ⟨hin, ?_⟩⟩
    have go : ∀ L1 : wd_L, sm_k (T k) ≠ 11 → (∀ s, s ≤ k → L1 662 s = lN (sm_zs T tr s)) → (∀ s, s < k → L1 663 s = lN (sm_zc T tr s)) → wRunL (d, 0, 0) mX8_costOf [.ref 650, .int (nI k)] z M L1 (fun v4 z1 M2 L3 => wRunL (d, 0, 0) mX8_cut [.long v4] z1 M2 L3 (fun v8 z5 M6 L7 => (vp_in (nI k) 120 ∧ wRun (d + 1, 0, 0) mX8_measure 2 [some (.ref 650), some (.int ((nI k) + 1))] [] z5 M6 (am_upL L7 663 (nI k).toNatClampNeg v8) (wQv V)))) := fun L1 q s1 c1 => by
      refine mm_costOf hT w hr' hkN q s1 c1 fun n hn en => ?_
      refine mm_cut hn ⟨hin, ?_⟩
      rw [en, nI_1, nI_clamp (by omega)]
      refine mm_meas_2 hT w hr hV m (k + 1) _ (by omega) fun s hs => ?_
      refine ⟨by rw [akL_cell (by omega)]; exact s1 s (by omega), ?_⟩
      by_cases e : s = k
      · rw [e, akL_same]
      · rw [akL_ne e]; exact c1 s (by omega)
    rw [nI_clamp (show k < 2 ^ 31 by omega)]
    rw [nI_clamp (show k < 2 ^ 31 by omega)] at go
    have e11 : (M 654 k = 11) ↔ sm_k (T k) = 11 := by rw [m4]; exact nI_eq (b := 11) (by omega) (by omega)
    have e2 : (M 655 k = 2) ↔ 11 ≤ sm_k (T k) := by
      rw [m5, ← lw_sort2]
      refine nI_eq (b := 2) ?_ (by omega)
      unfold sm_sort
      split
      · omega
      · split <;> omega
    have st : ∀ v, v = sm_zs T tr k → ∀ s, s ≤ k → am_upL L 662 k (lN v) 662 s = lN (sm_zs T tr s) := fun v hv s hs' => by
      by_cases e : s = k
      · rw [e, akL_same, hv]
      · rw [akL_ne e]; exact (hs s (by omega)).1
    refine ⟨fun q => ?_, fun q => ⟨hin, fun r => ?_, fun r => ⟨hin, ?_⟩⟩⟩
    · have q := e11.mp q
      obtain ⟨-, -, -, j, h1, h2, h3⟩ := sm_wf11 hw q
      obtain ⟨j6, j24, jr⟩ := hr j h1
      have e7 : M 657 k = nI j := by
        rw [m7]; unfold my_1
        rw [if_pos (by omega), h2]
      have hs' : sm_zs T tr k = tr j := by rw [zz_s11 w hkN q, h2, nI_clamp (by omega)]
      have hc' : sm_zc T tr k = tr j + 1 := by
        rw [zz_c w hkN]
        unfold sm_ownc
        rw [if_neg (by omega), if_pos q, hs']
        unfold sm_cut
        rw [if_neg (by omega)]
      rw [e7, nI_clamp (by omega), jr, nI_l (by omega), akL_same, lN_1, nI_1]
      refine ⟨hin, vp_in_nI (by omega) (by omega), hin, hin, hin, ?_⟩
      refine mm_meas_2 hT w hr hV m (k + 1) _ (by omega) fun s hs1 => ?_
      by_cases e : s = k
      · rw [e, akL_same, akL_cell (by omega), akL_same, hs', hc']; exact ⟨rfl, rfl⟩
      · exact ⟨by rw [akL_cell (by omega), akL_ne e]; exact (hs s (by omega)).1, by rw [akL_ne e, akL_cell (by omega)]; exact (hs s (by omega)).2⟩
    · have q' : sm_k (T k) ≠ 11 := fun p => q (e11.mpr p)
      rw [e2] at r
      refine mm_sizeOf hT w hr' hkN (by omega) (fun s h => (hs s h).1) fun n hn en => ?_
      refine mm_cut hn ⟨hin, ?_⟩
      exact go _ q' (st _ en) fun s h => by rw [akL_cell (by omega)]; exact (hs s h).2
    · have q' : sm_k (T k) ≠ 11 := fun p => q (e11.mpr p)
      rw [e2] at r
      exact go _ q' (st 0 (by rw [zz_s0 w hkN (by omega)])) fun s h => by rw [akL_cell (by omega)]; exact (hs s h).2
theorem mm_measure {V : wd_Z → wd_M → wd_L → Prop} (hd : 1 ≤ d) (hT : my_tt M T N) (w : sm_wf T tc nt N) (hr : ∀ k, k < nt → k < 6 ∧ tr k ≤ 24 ∧ M 652 k = nI (tr k)) (hV : ∀ L', (∀ s, s < N → L' 662 s = lN (sm_zs T tr s) ∧ L' 663 s = lN (sm_zc T tr s)) → V z M L') : wRunV (d, 0, 0) mX8_measure [.ref 650] z M L V := by
  obtain ⟨d, rfl, hd⟩ := ak_deep hd
  exact fX8_measure_e (mm_meas_2 hT w hr hV N 0 L (by omega) (fun s h => by omega))
end MZ
