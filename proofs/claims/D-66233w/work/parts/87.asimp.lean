/-! CALLS that tell: forget, count, cell, told; tables of ApplyFreeModel -/
def an_C (M : wd_M) (AR : List ay_Row) (AW : Nat) : Prop := M 1 7 = nI AR.length ∧ M 1 8 = nI AW ∧ sl_at (M 649) 0 AR.flatten
def an_M (M : wd_M) (AR : List ay_Row) (AW : Nat) : Prop := M 650 15 = nI AR.length ∧ M 650 16 = nI AW ∧ sl_at (M 664) 0 AR.flatten
def an_W (AR : List ay_Row) (AW : Nat) : Prop := sl_W AW AR ∧ AR.length ≤ 3000 ∧ AW ≤ 8
def an_v (AR : List ay_Row) (AW : Nat) (x1 x2 : Int32) : Int64 := if ¬ (x1 < 0 ∨ AR.length ≤ x1.toNatClampNeg) ∧ ¬ (x2 < 0 ∨ AW ≤ x2.toNatClampNeg) then (AR.flatten.getD (x1.toNatClampNeg * AW + x2.toNatClampNeg) 0).toInt64 else 1099511627776
theorem an_ix {n w i j : Nat} (hi : i < n) (hj : j < w) : i * w + j < n * w := by
  have : (i + 1) * w ≤ n * w := Nat.mul_le_mul_right _ hi
  rw [Nat.add_mul, Nat.one_mul] at this
  omega
section SI
variable {d : Nat} {z : wd_Z} {L : wd_L} {M : wd_M} {x1 x2 : Int32}
theorem cc_cell {K : Int64 → wd_Z → wd_M → wd_L → Prop} {AR : List ay_Row} {AW : Nat} (hA : an_C M AR AW) (hW : an_W AR AW) (h : K (an_v AR AW x1 x2) z M L) : wRunL (d, 0, 0) mX0_cell [.ref 1, .int x1, .int x2] z M L K := by
  obtain ⟨a1, a2, a3⟩ := hA
  obtain ⟨w1, w2, w3⟩ := hW
  have no : ¬ (vp_in x1 AR.length ∧ vp_in x2 AW) → K 1099511627776 z M L := fun q => by
    have e : an_v AR AW x1 x2 = 1099511627776 := if_neg q
    rw [e] at h; exact h
  refine fX0_cell_e ?_
  rw [a1, a2]
  refine ⟨fun q => wQl_i (no fun p => p.1 (Or.inl q)), fun q => ⟨fun q' => wQl_i (no fun p => ?_), fun q' => ⟨fun r => wQl_i (no fun p => p.2 (Or.inl r)), fun r => ⟨fun r' => ?_, fun r' => wQl_i (no fun p => r' ?_)⟩⟩⟩⟩
  · obtain ⟨j, hj, rfl⟩ := vp_in_of p.1 (by omega)
    exact absurd q' (nI_ge hj (by omega))
  · have i1 := cl_vp (by omega) q q'
    have i2 : vp_in x2 AW := cl_vp (by omega) r (fun p => by rw [sm_i_lt] at r'; rw [sm_i_le] at p; omega)
    have ev : an_v AR AW x1 x2 = (AR.flatten.getD (x1.toNatClampNeg * AW + x2.toNatClampNeg) 0).toInt64 := if_pos ⟨i1, i2⟩
    rw [ev] at h
    obtain ⟨i, hi, rfl⟩ := vp_in_of i1 (by omega)
    obtain ⟨j, hj, rfl⟩ := vp_in_of i2 (by omega)
    have lt := an_ix hi hj
    have l8 : AR.length * AW ≤ 3000 * 8 := Nat.mul_le_mul w2 w3
    rw [nI_clamp (by omega), nI_clamp (by omega)] at h
    rw [pk_mul, nI_add, nI_clamp (by omega)]
    refine ⟨vp_in_nI (by omega) (by omega), wQl_i ?_⟩
    have := sl_getD a3 (i := i * AW + j) (by rw [sl_flen w1]; exact lt)
    rw [Nat.zero_add] at this
    rw [this]; exact h
  · obtain ⟨j, hj, rfl⟩ := vp_in_of p.2 (by omega)
    exact nI_lt hj (by omega)
theorem mc_cell {K : Int64 → wd_Z → wd_M → wd_L → Prop} {AR : List ay_Row} {AW : Nat} (hd : 1 ≤ d) (hA : an_M M AR AW) (hW : an_W AR AW) (h : K (an_v AR AW x1 x2) z M L) : wRunL (d, 0, 0) mX8_cell [.ref 650, .int x1, .int x2] z M L K := by
  obtain ⟨d, rfl, hd⟩ := ak_deep hd
  obtain ⟨a1, a2, a3⟩ := hA
  obtain ⟨w1, w2, w3⟩ := hW
  have no : ¬ (vp_in x1 AR.length ∧ vp_in x2 AW) → K 1099511627776 z M L := fun q => by
    have e : an_v AR AW x1 x2 = 1099511627776 := if_neg q
    rw [e] at h; exact h
  refine fX8_cell_e (mm_isIn (mm_m1 a1 (by omega)) (fun i1 => ⟨fun e => absurd e (by decide), fun _ => ?_⟩) (fun q => ⟨fun _ => wQl_i (no fun p => q p.1), fun e => absurd rfl e⟩))
  refine mm_isIn (mm_m1 a2 (by omega)) (fun i2 => ⟨fun e => absurd e (by decide), fun _ => ?_⟩) (fun q => ⟨fun _ => wQl_i (no fun p => q p.2), fun e => absurd rfl e⟩)
  have ev : an_v AR AW x1 x2 = (AR.flatten.getD (x1.toNatClampNeg * AW + x2.toNatClampNeg) 0).toInt64 := if_pos ⟨i1, i2⟩
  rw [ev] at h
  obtain ⟨i, hi, rfl⟩ := vp_in_of i1 (by omega)
  obtain ⟨j, hj, rfl⟩ := vp_in_of i2 (by omega)
  have lt := an_ix hi hj
  have l8 : AR.length * AW ≤ 3000 * 8 := Nat.mul_le_mul w2 w3
  rw [nI_clamp (by omega), nI_clamp (by omega)] at h
  rw [a2, pk_mul, nI_add, Nat.mul_comm AW i, nI_clamp (by omega)]
  refine ⟨vp_in_nI (by omega) (by omega), wQl_i ?_⟩
  have := sl_getD a3 (i := i * AW + j) (by rw [sl_flen w1]; exact lt)
  rw [Nat.zero_add] at this
  rw [this]; exact h
variable {K : Int32 → wd_Z → wd_M → wd_L → Prop}
def an_n (nt N a w : Nat) (x1 : Int32) : Int32 := if x1 = 0 then nI nt else if x1 = 1 then nI N else if x1 = 2 then nI a else if x1 = 3 then nI w else -1
theorem cc_count {nt N a w : Nat} (h0 : M 1 1 = nI nt) (h1 : M 3 11 = nI N) (h2 : M 1 7 = nI a) (h3 : M 1 8 = nI w) (h : K (an_n nt N a w x1) z M L) : wRunI (d, 0, 0) mX0_count [.ref 1, .int x1] z M L K := by
  have e : ∀ c : Int32, (x1 = c) ↔ x1.toInt = c.toInt := fun c => sm_i_eq
  unfold an_n at h
  have n : ∀ (c : Int32) (j : Int), c.toInt = j → x1.toInt ≠ j → ¬ x1 = c := fun c j h1 h2 h3 => h2 (by rw [h3]; exact h1)
  refine fX0_count_e ?_
  rw [h0, h1, h2, h3]
  refine ⟨fun q => wQi_i ?_, fun q => wQi_i ?_, fun q => wQi_i ?_, fun q => wQi_i ?_, fun q => wQi_i ?_, trivial⟩
  · rw [if_neg (n 0 0 rfl (by omega)), if_neg (n 1 1 rfl (by omega)), if_neg (n 2 2 rfl (by omega)), if_neg (n 3 3 rfl (by omega))] at h; exact h
  · rw [if_pos ((e 0).mpr q)] at h; exact h
  · rw [if_neg (n 0 0 rfl (by omega)), if_pos ((e 1).mpr q)] at h; exact h
  · rw [if_neg (n 0 0 rfl (by omega)), if_neg (n 1 1 rfl (by omega)), if_pos ((e 2).mpr q)] at h; exact h
  · rw [if_neg (n 0 0 rfl (by omega)), if_neg (n 1 1 rfl (by omega)), if_neg (n 2 2 rfl (by omega)), if_pos ((e 3).mpr q)] at h; exact h
theorem mc_count {nt N a w : Nat} (h0 : M 650 0 = nI nt) (h1 : M 650 4 = nI N) (h2 : M 650 15 = nI a) (h3 : M 650 16 = nI w) (h : K (an_n nt N a w x1) z M L) : wRunI (d, 0, 0) mX8_count [.ref 650, .int x1] z M L K := by
  unfold an_n at h
  refine fX8_count_e ?_
  rw [h0, h1, h2, h3]
  refine ⟨fun q => wQi_i ?_, fun q0 => ⟨fun q => wQi_i ?_, fun q1 => ⟨fun q => wQi_i ?_, fun q2 => ⟨fun q => wQi_i ?_, fun q3 => wQi_i ?_⟩⟩⟩⟩
  · rw [if_pos q] at h; exact h
  · rw [if_neg q0, if_pos q] at h; exact h
  · rw [if_neg q0, if_neg q1, if_pos q] at h; exact h
  · rw [if_neg q0, if_neg q1, if_neg q2, if_pos q] at h; exact h
  · rw [if_neg q0, if_neg q1, if_neg q2, if_neg q3] at h; exact h
section TD
variable {T : Nat → sm_T} {N : Nat} {tc : Nat → Nat} {nt : Nat} {tr : Nat → Nat}
def td_v (T : Nat → sm_T) (tr : Nat → Nat) (t w : Nat) : Int32 := if w = 0 then nI (sm_sort (sm_k (T t))) else if w = 1 then nI (sm_w (T t)) else if w = 2 then nI (sm_zc T tr t) else if w = 7 then nI (sm_zs T tr t) else nI (sm_l (T t) >>> (8 * (w - 3)) % 256)
theorem cc_told (hd : 5 ≤ d) (hT : tx_T M T N) (w : sm_wf T tc nt N) (hR : cl_tr z M nt tr) (h1 : vp_in x1 N ∧ vp_in x2 8 → ∀ M', ak_fr 12 13 M M' → K (td_v T tr x1.toNatClampNeg x2.toNatClampNeg) z M' L) (h0 : ¬ (vp_in x1 N ∧ vp_in x2 8) → K (-1) z M L) : wRunI (d, 0, 0) mX0_told [.ref 1, .int x1, .int x2] z M L K := by
  obtain ⟨d, rfl, hd⟩ := ak_deep hd
  have hN := hT.2.1
  refine fX0_told_e ?_
  rw [hT.1]
  refine ⟨fun q => wQi_i (h0 fun p => p.1 (Or.inl q)), fun q => ⟨fun q' => wQi_i (h0 fun p => ?_), fun q' => ?_⟩⟩
  · obtain ⟨j, hj, rfl⟩ := vp_in_of p.1 (by omega)
    exact absurd q' (nI_ge hj (by omega))
  · have i1 := cl_vp (by omega) q q'
    refine cl_isIn (n := 8) (by decide) (fun i2 => ⟨fun e => absurd e (by decide), fun _ => ?_⟩) (fun i2 => ⟨fun _ => wQi_i (h0 fun p => i2 p.2), fun e => absurd rfl e⟩)
    have h1 := h1 ⟨i1, i2⟩
    obtain ⟨t, ht, rfl⟩ := vp_in_of i1 (by omega)
    obtain ⟨c, hc, rfl⟩ := vp_in_of i2 (by omega)
    have hin : vp_in (nI t) 120 := vp_in_nI (by omega) (by omega)
    have hw := w t ht
    have l32 := hw.2.2.1
    rw [nI_clamp (by omega), nI_clamp (by omega)] at h1
    rw [nI_toInt (show c < 2 ^ 31 by omega), nI_clamp (show t < 2 ^ 31 by omega)]
    obtain ⟨t4, -, -, -, -, -, t10, t11⟩ := hT.2.2 t ht
    have lk : 3 ≤ c → c ≤ 6 → (((M 11 t).toUInt32 >>> (Int32.toUInt32 ((nI c - 3) * 8) &&& Int32.toUInt32 31)).toInt32) &&& 255 = nI (sm_l (T t) >>> (8 * (c - 3)) % 256) := fun c1 c2 => by
      have sh : ∀ c, c < 7 → 3 ≤ c → (((nI c - 3) * 8).toUInt32 &&& Int32.toUInt32 31).toBitVec.toNat % 32 = 8 * (c - 3) := by decide
      have dv : sm_l (T t) / 2 ^ (8 * (c - 3)) ≤ sm_l (T t) := Nat.div_le_self _ _
      rw [t11, pk_ushrN l32 _ (8 * (c - 3)) (sh c (by omega) c1), pk_andN (by omega) (m := 255) 8 (by decide), Nat.shiftRight_eq_div_pow]
    have cs : ∀ v, v = td_v T tr t c → K v z M L := fun v e => by rw [e]; exact h1 M ak_fr_refl
    have td : 3 ≤ c → c ≤ 6 → nI (sm_l (T t) >>> (8 * (c - 3)) % 256) = td_v T tr t c := fun c1 c2 => by
      unfold td_v
      rw [if_neg (by omega), if_neg (by omega), if_neg (by omega), if_neg (by omega)]
    refine ⟨fun e => by omega, fun e => ⟨hin, ?_⟩, fun e => ⟨hin, wQi_i (cs _ ?_)⟩, fun e => ?_, fun e => ⟨hin, wQi_i (cs _ ?_)⟩, fun e => ⟨hin, wQi_i (cs _ ?_)⟩, fun e => ⟨hin, wQi_i (cs _ ?_)⟩, fun e => ⟨hin, wQi_i (cs _ ?_)⟩, fun e => ?_, trivial⟩
    · rw [t4]
      refine cl_sort (sm_k20 hw.1) (wQi_i (cs _ ?_))
      unfold td_v; rw [if_pos (by omega)]
    · rw [t10]; unfold td_v; rw [if_neg (by omega), if_pos (by omega)]
    · refine cl_cost (by omega) hT w hR ht fun M' f _ => wQi_i ?_
      have := h1 M' f
      unfold td_v at this
      rw [if_neg (by omega), if_neg (by omega), if_pos (by omega)] at this; exact this
    · rw [lk (by omega) (by omega), td (by omega) (by omega)]
    · rw [lk (by omega) (by omega), td (by omega) (by omega)]
    · rw [lk (by omega) (by omega), td (by omega) (by omega)]
    · rw [lk (by omega) (by omega), td (by omega) (by omega)]
    · refine cl_size (by omega) hT w hR ht fun M' f => wQi_i ?_
      have := h1 M' f
      unfold td_v at this
      rw [if_neg (by omega), if_neg (by omega), if_neg (by omega), if_pos (by omega)] at this; exact this
theorem mc_told (hd : 5 ≤ d) (hT : my_tt M T N) (w : sm_wf T tc nt N) (hr : ∀ k, k < nt → k < 6 ∧ tr k ≤ 24 ∧ M 652 k = nI (tr k)) (h1 : vp_in x1 N ∧ vp_in x2 8 → ∀ L', K (td_v T tr x1.toNatClampNeg x2.toNatClampNeg) z M L') (h0 : ¬ (vp_in x1 N ∧ vp_in x2 8) → K (-1) z M L) : wRunI (d, 0, 0) mX8_told [.ref 650, .int x1, .int x2] z M L K := by
  obtain ⟨d, rfl, hd⟩ := ak_deep hd
  have hN := hT.2.1
  refine fX8_told_e (mm_isIn (mm_m1 hT.1 (by omega)) (fun i1 => ⟨fun e => absurd e (by decide), fun _ => ?_⟩) (fun q => ⟨fun _ => wQi_i (h0 fun p => q p.1), fun e => absurd rfl e⟩))
  refine mm_isIn (n := 8) (by decide) (fun i2 => ⟨fun e => absurd e (by decide), fun _ => ?_⟩) (fun q => ⟨fun _ => wQi_i (h0 fun p => q p.2), fun e => absurd rfl e⟩)
  have h1 := h1 ⟨i1, i2⟩
  obtain ⟨t, ht, rfl⟩ := vp_in_of i1 (by omega)
  obtain ⟨c, hc, rfl⟩ := vp_in_of i2 (by omega)
  have hin : vp_in (nI t) 120 := vp_in_nI (by omega) (by omega)
  rw [nI_clamp (by omega), nI_clamp (by omega)] at h1
  have ec : ∀ j, j < 10 → (nI c = nI j ↔ c = j) := fun j hj => nI_eq (by omega) (by omega)
  refine mm_measure (by omega) hT w hr fun L' hL => ?_
  have h1 := h1 L'
  obtain ⟨m4, m5, m6, -, -, -, -, m61⟩ := hT.2.2 t ht
  unfold td_v at h1
  rw [nI_clamp (show t < 2 ^ 31 by omega), (hL t ht).1, (hL t ht).2, lN_i, lN_i, m5, m6]
  have le2 : ((2 : Int32) ≤ nI c) ↔ 2 ≤ c := nI_leI (a := 2) (by omega) (by omega)
  refine ⟨fun q => ⟨fun e => ⟨hin, wQi_i ?_⟩, fun e2 => ⟨fun e => ⟨hin, wQi_i ?_⟩, fun e7 => ?_⟩⟩, fun q => ⟨fun e => ⟨hin, wQi_i ?_⟩, fun e => ⟨hin, wQi_i ?_⟩⟩⟩
  · have e := (ec 2 (by omega)).mp e
    rw [if_neg (by omega), if_neg (by omega), if_pos e] at h1; exact h1
  · have e := (ec 7 (by omega)).mp e
    rw [if_neg (by omega), if_neg (by omega), if_neg (by omega), if_pos e] at h1; exact h1
  · rw [le2] at q
    have e2 : c ≠ 2 := fun p => e2 ((ec 2 (by omega)).mpr p)
    have e7 : c ≠ 7 := fun p => e7 ((ec 7 (by omega)).mpr p)
    rw [if_neg (by omega), if_neg (by omega), if_neg (by omega), if_neg (by omega)] at h1
    rw [mm_4k, ak_n3, pk_sub (by omega), nI_clamp (by omega)]
    refine ⟨vp_in_nI (by omega) (by omega), wQi_i ?_⟩
    rw [show 4 * t + c - 3 = 4 * t + (c - 3) by omega, m61 (c - 3) (by omega)]
    exact h1
  · have e := (ec 0 (by omega)).mp e
    rw [if_pos e] at h1; exact h1
  · rw [le2] at q
    have e : c ≠ 0 := fun p => e ((ec 0 (by omega)).mpr p)
    rw [if_neg e, if_pos (by omega)] at h1; exact h1
end TD
/-! tables of ApplyFreeModel -/
def mt_G (M : wd_M) (tc : Nat → Nat) (tb : Nat → List ay_Row) (nt : Nat) : Prop := M 650 0 = nI nt ∧ nt ≤ 6 ∧ (∀ k, k < nt → my_tab M k (tc k) (tb k)) ∧ ∀ k, nt ≤ k → k < 6 → M 652 k = 0
def tb_set (tb : Nat → List ay_Row) (k : Nat) (R : List ay_Row) : Nat → List ay_Row := fun j => if j = k then R else tb j
def tc_set (tc : Nat → Nat) (k c : Nat) : Nat → Nat := fun j => if j = k then c else tc j
def tb_row (c : Nat) (x2 x3 x4 x5 : Int32) : ay_Row := [x2, x3, x4, x5].take c
section TB
variable {tc : Nat → Nat} {tb : Nat → List ay_Row} {nt : Nat} {x3 x4 x5 : Int32}
theorem tc_new {k c : Nat} : tc_set tc k c k = c := by unfold tc_set; rw [if_pos rfl]
theorem tc_old {k j c : Nat} (h : j ≠ k) : tc_set tc k c j = tc j := by unfold tc_set; rw [if_neg h]
theorem tb_new {k : Nat} {R : List ay_Row} : tb_set tb k R k = R := by unfold tb_set; rw [if_pos rfl]
theorem tb_old {k j : Nat} {R : List ay_Row} (h : j ≠ k) : tb_set tb k R j = tb j := by unfold tb_set; rw [if_neg h]
/-- what the model's tables leave -/
def mt_fr (M M' : wd_M) : Prop := (∀ c, (c < 650 ∨ 653 < c) → M' c = M c) ∧ ∀ i, i ≠ 0 → M' 650 i = M 650 i
theorem mc_table (hd : 1 ≤ d) (hG : mt_G M tc tb nt) (h1 : nt < 6 ∧ vp_in x1 5 ∧ x1 ≠ 0 → ∀ M', mt_G M' (tc_set tc nt x1.toNatClampNeg) (tb_set tb nt []) (nt + 1) → mt_fr M M' → K (nI nt) z M' L) (h0 : ¬ (nt < 6 ∧ vp_in x1 5 ∧ x1 ≠ 0) → K (-1) z M L) : wRunI (d, 0, 0) mX8_table [.ref 650, .int x1] z M L K := by
  obtain ⟨d, rfl, hd⟩ := ak_deep hd
  obtain ⟨g0, g1, g2, g3⟩ := hG
  have e6 : (M 650 0 = 6) ↔ nt = 6 := by rw [g0]; exact nI_eq (b := 6) (by omega) (by omega)
  refine fX8_table_e ⟨fun q => wQi_i (h0 fun p => by have := e6.mp q; omega), fun q => ?_⟩
  rw [e6] at q
  refine mm_isIn1 (n := 5) (by decide) (fun i1 => ⟨fun e => absurd e (by decide), fun _ => ?_⟩) (fun i1 => ⟨fun _ => wQi_i (h0 fun p => i1 p.2), fun e => absurd rfl e⟩)
  obtain ⟨c0, c1⟩ := ap_nI i1.1 (by omega)
  rw [ak_up_cell (c' := 650) (c := 651) (by omega), g0, nI_clamp (by omega), nI_1, ak_up_same, nI_pred]
  refine ⟨vp_in_nI (by omega) (by omega), wQi_i (h1 ⟨by omega, i1⟩ _ ⟨ak_up_same, by omega, fun k hk => ?_, fun k h1 h2 => ?_⟩ ⟨fun c hc => ?_, fun i hi => ?_⟩)⟩
  · by_cases e : k = nt
    · subst e
      rw [tc_new, tb_new]
      refine ⟨?_, ?_, Nat.zero_le _, sl_W_nil, by omega, fun r row h => by simp at h⟩
      · rw [ak_up_cell (by omega), ak_up_same, ← c0]
      · rw [ak_up_cell (by omega), ak_up_cell (by omega)]
        exact g3 k (Nat.le_refl _) (by omega)
    · obtain ⟨k1, k2, k3, k4, k5, k6⟩ := g2 k (by omega)
      rw [tc_old e, tb_old e]
      refine ⟨?_, ?_, k3, k4, k5, fun r row h => ?_⟩
      · rw [ak_up_cell (by omega), ak_up_ne e]; exact k1
      · rw [ak_up_cell (by omega), ak_up_cell (by omega)]; exact k2
      · rw [ak_up_cell (by omega), ak_up_cell (by omega)]; exact k6 r row h
  · rw [ak_up_cell (by omega), ak_up_cell (by omega)]; exact g3 k (by omega) h2
  · rw [ak_up_cell (by omega), ak_up_cell (by omega)]
  · rw [ak_up_ne hi, ak_up_cell (by omega)]
theorem mc_row (hd : 1 ≤ d) (hG : mt_G M tc tb nt) (h1 : vp_in x1 nt ∧ (tb x1.toNatClampNeg).length < 24 → ∀ M', mt_G M' tc (tb_set tb x1.toNatClampNeg (tb x1.toNatClampNeg ++ [tb_row (tc x1.toNatClampNeg) x2 x3 x4 x5])) nt → mt_fr M M' → K (nI ((tb x1.toNatClampNeg).length + 1)) z M' L) (h0 : ¬ (vp_in x1 nt ∧ (tb x1.toNatClampNeg).length < 24) → K (-1) z M L) : wRunI (d, 0, 0) mX8_row [.ref 650, .int x1, .int x2, .int x3, .int x4, .int x5] z M L K := by
  obtain ⟨d, rfl, hd⟩ := ak_deep hd
  obtain ⟨g0, g1, g2, g3⟩ := hG
  refine fX8_row_e (mm_isIn (mm_m1 g0 (by omega)) (fun i1 => ⟨fun e => absurd e (by decide), fun _ => ?_⟩) (fun i1 => ⟨fun _ => wQi_i (h0 fun p => i1 p.1), fun e => absurd rfl e⟩))
  obtain ⟨k, hk, rfl⟩ := vp_in_of i1 (by omega)
  have hin : vp_in (nI k) 6 := vp_in_nI (by omega) (by omega)
  rw [nI_clamp (by omega)] at h1 h0
  obtain ⟨k1, k2, k3, k4, k5, k6⟩ := g2 k hk
  have e24 : (M 652 k = 24) ↔ (tb k).length = 24 := by rw [k2]; exact nI_eq (b := 24) (by omega) (by omega)
  rw [nI_clamp (by omega)]
  refine ⟨hin, fun q => wQi_i (h0 fun p => by have := e24.mp q; omega), fun q => ?_⟩
  rw [e24] at q
  have at_ : 96 * nI k + 4 * M 652 k = nI (96 * k + 4 * (tb k).length) := by rw [k2, ak_n96, ak_n4, pk_mul, pk_mul, nI_add]
  rw [at_, ak_n1, ak_n2, ak_n3, nI_add, nI_add, nI_add, nI_clamp (by omega), nI_clamp (by omega), nI_clamp (by omega), nI_clamp (by omega)]
  rw [ak_up_cell (c' := 652) (c := 653) (by omega), ak_up_cell (c' := 652) (c := 653) (by omega), ak_up_cell (c' := 652) (c := 653) (by omega), ak_up_cell (c' := 652) (c := 653) (by omega), ak_up_same, k2, nI_add]
  refine ⟨hin, vp_in_nI (by omega) (by omega), vp_in_nI (by omega) (by omega), vp_in_nI (by omega) (by omega), vp_in_nI (by omega) (by omega), hin, hin, hin, wQi_i (h1 ⟨i1, by omega⟩ _ ⟨?_, g1, fun j hj => ?_, fun j j1 j2 => ?_⟩ ⟨fun c hc => ?_, fun i hi => ?_⟩)⟩
  · rw [ak_up_cell (by omega), ak_up_cell (by omega), ak_up_cell (by omega), ak_up_cell (by omega), ak_up_cell (by omega)]; exact g0
  · have c51 : ∀ (v v1 v2 v3 v4 : Int32) (i i1 i2 i3 i4 : Nat), am_up2 (am_up2 (am_up2 (am_up2 (am_up2 M 653 i1 v1) 653 i2 v2) 653 i3 v3) 653 i4 v4) 652 i v 651 = M 651 := fun _ _ _ _ _ _ _ _ _ _ => by
      rw [ak_up_cell (by omega), ak_up_cell (by omega), ak_up_cell (by omega), ak_up_cell (by omega), ak_up_cell (by omega)]
    by_cases e : j = k
    · subst e
      rw [tb_new]
      refine ⟨by rw [c51]; exact k1, by rw [ak_up_same, List.length_append]; rfl, by rw [List.length_append]; show _ + 1 ≤ 24; omega, ?_, k5, fun r row h => ?_⟩
      · rw [sl_W_app]
        refine ⟨k4, fun r hr => ?_⟩
        rw [List.mem_singleton] at hr
        rw [hr]; unfold tb_row
        rw [List.length_take]
        show min _ 4 = _
        omega
      · rw [ak_up_cell (by omega), ak_up_own, ak_up_own, ak_up_own, ak_up_own]
        by_cases er : r < (tb j).length
        · rw [List.getElem?_append_left er] at h
          have hl := sl_W_at k4 h
          refine sl_upd (sl_upd (sl_upd (sl_upd (k6 r row h) ?_) ?_) ?_) ?_ <;> omega
        · have rl := (List.getElem?_eq_some_iff.mp h).1
          rw [List.length_append] at rl
          have rl : r < (tb j).length + 1 := rl
          have er : r = (tb j).length := by omega
          subst er
          rw [List.getElem?_append_right (Nat.le_refl _), Nat.sub_self] at h
          have h : some (tb_row (tc j) x2 x3 x4 x5) = some row := h
          cases h
          unfold tb_row
          have full : sl_at (upd (upd (upd (upd (M 653) (96 * j + 4 * (tb j).length) x2) (96 * j + 4 * (tb j).length + 1) x3) (96 * j + 4 * (tb j).length + 2) x4) (96 * j + 4 * (tb j).length + 3) x5) (96 * j + 4 * (tb j).length) [x2, x3, x4, x5] := by
            rw [sl_cons, sl_cons, sl_cons, sl_one]
            refine ⟨?_, ?_, ?_, ?_⟩ <;> simp [upd]
          intro i v hi
          refine full i v ?_
          rw [List.getElem?_take] at hi
          split at hi
          · exact hi
          · cases hi
    · obtain ⟨j1, j2, j3, j4, j5, j6⟩ := g2 j hj
      rw [tb_old e]
      refine ⟨by rw [c51]; exact j1, by rw [ak_up_ne e, ak_up_cell (by omega), ak_up_cell (by omega), ak_up_cell (by omega), ak_up_cell (by omega)]; exact j2, j3, j4, j5, fun r row h => ?_⟩
      have hl := sl_W_at j4 h
      have rl := (List.getElem?_eq_some_iff.mp h).1
      rw [ak_up_cell (by omega), ak_up_own, ak_up_own, ak_up_own, ak_up_own]
      refine sl_upd (sl_upd (sl_upd (sl_upd (j6 r row h) ?_) ?_) ?_) ?_ <;> omega
  · rw [ak_up_ne (by omega), ak_up_cell (by omega), ak_up_cell (by omega), ak_up_cell (by omega), ak_up_cell (by omega)]; exact g3 j j1 j2
  · rw [ak_up_cell (by omega), ak_up_cell (by omega), ak_up_cell (by omega), ak_up_cell (by omega), ak_up_cell (by omega)]
  · rw [ak_up_cell (by omega), ak_up_cell (by omega), ak_up_cell (by omega), ak_up_cell (by omega), ak_up_cell (by omega)]
theorem mc_empty (hd : 1 ≤ d) (hG : mt_G M tc tb nt) (h1 : vp_in x1 nt → ∀ M', mt_G M' tc (tb_set tb x1.toNatClampNeg []) nt → mt_fr M M' → K (nI (tb x1.toNatClampNeg).length) z M' L) (h0 : ¬ vp_in x1 nt → K (-1) z M L) : wRunI (d, 0, 0) mX8_empty [.ref 650, .int x1] z M L K := by
  obtain ⟨d, rfl, hd⟩ := ak_deep hd
  obtain ⟨g0, g1, g2, g3⟩ := hG
  refine fX8_empty_e (mm_isIn (mm_m1 g0 (by omega)) (fun i1 => ⟨fun e => absurd e (by decide), fun _ => ?_⟩) (fun i1 => ⟨fun _ => wQi_i (h0 i1), fun e => absurd rfl e⟩))
  have h1 := h1 i1
  obtain ⟨k, hk, rfl⟩ := vp_in_of i1 (by omega)
  have hin : vp_in (nI k) 6 := vp_in_nI (by omega) (by omega)
  rw [nI_clamp (by omega)] at h1
  rw [nI_clamp (by omega), (g2 k hk).2.1]
  refine ⟨hin, hin, wQi_i (h1 _ ⟨by rw [ak_up_cell (by omega)]; exact g0, g1, fun j hj => ?_, fun j j1 j2 => by rw [ak_up_ne (by omega)]; exact g3 j j1 j2⟩ ⟨fun c hc => ak_up_cell (by omega), fun i hi => by rw [ak_up_cell (by omega)]⟩)⟩
  obtain ⟨j1, j2, j3, j4, j5, j6⟩ := g2 j hj
  by_cases e : j = k
  · subst e
    rw [tb_new]
    exact ⟨by rw [ak_up_cell (by omega)]; exact j1, by rw [ak_up_same]; rfl, Nat.zero_le _, sl_W_nil, j5, fun r row h => by simp at h⟩
  · rw [tb_old e]
    exact ⟨by rw [ak_up_cell (by omega)]; exact j1, by rw [ak_up_ne e]; exact j2, j3, j4, j5, fun r row h => by rw [ak_up_cell (by omega)]; exact j6 r row h⟩
end TB
end SI
