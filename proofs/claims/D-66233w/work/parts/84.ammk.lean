/-! CALLS of ApplyFreeModel that make a term -/
section MC
variable {d : Nat} {z : wd_Z} {L : wd_L} {M : wd_M} {K : Int32 → wd_Z → wd_M → wd_L → Prop} {T : Nat → sm_T} {N : Nat} {tc : Nat → Nat} {nt : Nat} {x1 x2 x3 x4 : Int32}
theorem mm_room (hT : my_tt M T N) : M 650 4 = 120 ↔ ¬ N < 120 := by
  have hN := hT.2.1
  rw [hT.1]
  refine (nI_eq (b := 120) (by omega) (by omega)).trans ?_
  omega
theorem mc_constant (hd : 5 ≤ d) (hT : my_tt M T N) (h1 : N < 120 → mm_N K z M L T N (tm_constant x1)) (h0 : ¬ N < 120 → K (-1) z M L) : wRunI (d, 0, 0) mX8_constant [.ref 650, .int x1] z M L K := by
  obtain ⟨d, rfl, hd⟩ := ak_deep hd
  refine fX8_constant_e ⟨fun e => wQi_i (h0 ((mm_room hT).mp e)), fun e => ?_⟩
  rw [mm_room hT, Decidable.not_not] at e
  exact mm_make (τ := tm_constant x1) hT e rfl rfl rfl rfl rfl rfl rfl fun M' t f => wQi_i (h1 e M' t f)
theorem mc_column (hd : 5 ≤ d) (hT : my_tt M T N) (h1 : ok_column N x1 x2 → mm_N K z M L T N (tm_column x1 x2)) (h0 : ¬ ok_column N x1 x2 → K (-1) z M L) : wRunI (d, 0, 0) mX8_column [.ref 650, .int x1, .int x2] z M L K := by
  obtain ⟨d, rfl, hd⟩ := ak_deep hd
  refine fX8_column_e ⟨fun e => wQi_i (h0 fun q => (mm_room hT).mp e q.1), fun e => ?_⟩
  rw [mm_room hT, Decidable.not_not] at e
  refine mm_isIn (n := 4) (by decide) (fun b => ⟨fun e => absurd e (by decide), fun _ => ?_⟩) (fun b => ⟨fun _ => wQi_i (h0 fun q => b q.2.1), fun e => absurd rfl e⟩)
  refine mm_isIn (n := 8) (by decide) (fun c => ⟨fun e => absurd e (by decide), fun _ => ?_⟩) (fun c => ⟨fun _ => wQi_i (h0 fun q => c q.2.2), fun e => absurd rfl e⟩)
  have h1 := h1 ⟨e, b, c⟩
  obtain ⟨i, hi, rfl⟩ := vp_in_of b (by omega)
  obtain ⟨j, hj, rfl⟩ := vp_in_of c (by omega)
  have ei : (8 * i + j) / 8 = i := by omega
  have ej : (8 * i + j) % 8 = j := by omega
  unfold tm_column at h1
  rw [nI_clamp (by omega), nI_clamp (by omega)] at h1
  refine mm_make (τ := (1, 0, none, none, nI (8 * i + j), 0, 0, 2 ^ (8 * i + j))) hT e rfl rfl rfl ?_ ?_ rfl rfl fun M' t f => ?_
  · show nI i = nI ((nI (8 * i + j)).toNatClampNeg / 8)
    rw [nI_clamp (by omega), ei]
  · show nI j = nI ((nI (8 * i + j)).toNatClampNeg % 8)
    rw [nI_clamp (by omega), ej]
  · rw [mm_4k, nI_clamp (by omega)]
    refine ⟨vp_in_nI (by omega) (by omega), wQi_i (h1 _ ?_ ?_)⟩
    · have sh : ∀ k, k < 8 → (1 : Int32) <<< (nI k &&& 31) = nI (2 ^ k) := by decide
      have hl : ∀ i j : Fin 8, i.val < 4 → ∀ q : Fin 4, nI (2 ^ (8 * i.val + j.val) >>> (8 * q.val) % 256) = if q.val = i.val then nI (2 ^ j.val) else 0 := by decide +kernel
      refine mm_tt_eq (τ := mm_l (1, 0, none, none, nI (8 * i + j), 0, 0, 2 ^ (8 * i + j)) 0) (l := 2 ^ (8 * i + j)) (k := 4) t (by omega) ⟨fun c hc => ak_up_cell hc, fun q hq => ak_up_ne (by omega)⟩ fun q hq => ?_
      have hh : nI (2 ^ (8 * i + j) >>> (8 * q) % 256) = if q = i then nI (2 ^ j) else 0 := hl ⟨i, by omega⟩ ⟨j, hj⟩ hi ⟨q, hq⟩
      rw [hh]
      by_cases eq : q = i
      · rw [if_pos eq, eq, ak_up_same, sh j hj]
      · rw [if_neg eq, ak_up_ne (by omega)]
        have := ((mm_tm_new).mp (t.2.2 N (by omega))).2.2.2.2.2.2.2 q hq
        rw [this]
        show nI (0 >>> (8 * q) % 256) = 0
        rw [Nat.zero_shiftRight]; rfl
    · exact mm_fr_trans f ⟨fun c hc => ak_up_cell (by omega), fun i hi => by rw [ak_up_cell (by omega)]⟩
theorem mc_two {n k s1 s2 : Nat} (hT : my_tt M T N) (h : ok_op T N n s1 s2 x1 x2 x3) (hn : n < 100) : x1 = nI x1.toNatClampNeg ∧ x2 = nI x2.toNatClampNeg ∧ x3 = nI x3.toNatClampNeg ∧ x2.toNatClampNeg < N ∧ x3.toNatClampNeg < N := by
  obtain ⟨o0, o1⟩ := ap_nI h.2 (by omega)
  obtain ⟨a0, a1⟩ := ap_is_lt h.1.2.1 hT.2.1
  obtain ⟨b0, b1⟩ := ap_is_lt h.1.2.2 hT.2.1
  exact ⟨o0, a0, b0, a1, b1⟩
theorem mc_reckon (hd : 5 ≤ d) (hT : my_tt M T N) (w : sm_wf T tc nt N) (h1 : ok_op T N 3 0 0 x1 x2 x3 → mm_N K z M L T N (tm_2 T 2 x1.toNatClampNeg x2 x3 0)) (h0 : ¬ ok_op T N 3 0 0 x1 x2 x3 → K (-1) z M L) : wRunI (d, 0, 0) mX8_reckon [.ref 650, .int x1, .int x2, .int x3] z M L K := by
  obtain ⟨d, rfl, hd⟩ := ak_deep hd
  refine fX8_reckon_e ⟨fun e => wQi_i (h0 fun q => (mm_room hT).mp e q.1.1), fun e => ?_⟩
  rw [mm_room hT, Decidable.not_not] at e
  refine mm_isIn (n := 3) (by decide) (fun o => ⟨fun e => absurd e (by decide), fun _ => ?_⟩) (fun b => ⟨fun _ => wQi_i (h0 fun q => b q.2), fun e => absurd rfl e⟩)
  refine mm_is (by omega) hT w rfl (by decide) (fun a => ⟨fun e => absurd e (by decide), fun _ => ?_⟩) (fun b => ⟨fun _ => wQi_i (h0 fun q => b q.1.2.1), fun e => absurd rfl e⟩)
  refine mm_is (by omega) hT w rfl (by decide) (fun b => ⟨fun e => absurd e (by decide), fun _ => ?_⟩) (fun b => ⟨fun _ => wQi_i (h0 fun q => b q.1.2.2), fun e => absurd rfl e⟩)
  have ok : ok_op T N 3 0 0 x1 x2 x3 := ⟨⟨e, a, b⟩, o⟩
  obtain ⟨o0, a0, b0, a1, b1⟩ := mc_two (k := 0) hT ok (by omega)
  exact mm_mk2 hT e a1 b1 (by rfl) a0 b0 (h1 ok) rfl rfl rfl o0 a0 b0 rfl
theorem mc_compare (hd : 5 ≤ d) (hT : my_tt M T N) (w : sm_wf T tc nt N) (h1 : ok_op T N 5 0 0 x1 x2 x3 → mm_N K z M L T N (tm_2 T 5 x1.toNatClampNeg x2 x3 0)) (h0 : ¬ ok_op T N 5 0 0 x1 x2 x3 → K (-1) z M L) : wRunI (d, 0, 0) mX8_compare [.ref 650, .int x1, .int x2, .int x3] z M L K := by
  obtain ⟨d, rfl, hd⟩ := ak_deep hd
  refine fX8_compare_e ⟨fun e => wQi_i (h0 fun q => (mm_room hT).mp e q.1.1), fun e => ?_⟩
  rw [mm_room hT, Decidable.not_not] at e
  refine mm_isIn (n := 5) (by decide) (fun o => ⟨fun e => absurd e (by decide), fun _ => ?_⟩) (fun b => ⟨fun _ => wQi_i (h0 fun q => b q.2), fun e => absurd rfl e⟩)
  refine mm_is (by omega) hT w rfl (by decide) (fun a => ⟨fun e => absurd e (by decide), fun _ => ?_⟩) (fun b => ⟨fun _ => wQi_i (h0 fun q => b q.1.2.1), fun e => absurd rfl e⟩)
  refine mm_is (by omega) hT w rfl (by decide) (fun b => ⟨fun e => absurd e (by decide), fun _ => ?_⟩) (fun b => ⟨fun _ => wQi_i (h0 fun q => b q.1.2.2), fun e => absurd rfl e⟩)
  have ok : ok_op T N 5 0 0 x1 x2 x3 := ⟨⟨e, a, b⟩, o⟩
  obtain ⟨o0, a0, b0, a1, b1⟩ := mc_two (k := 0) hT ok (by omega)
  exact mm_mk2 hT e a1 b1 (by rfl) a0 b0 (h1 ok) rfl rfl rfl o0 a0 b0 rfl
theorem mc_number (hd : 5 ≤ d) (hT : my_tt M T N) (w : sm_wf T tc nt N) (h1 : ok_one T N 1 x1 → mm_N K z M L T N (tm_1 T 3 0 x1 0 0 0)) (h0 : ¬ ok_one T N 1 x1 → K (-1) z M L) : wRunI (d, 0, 0) mX8_number [.ref 650, .int x1] z M L K := by
  obtain ⟨d, rfl, hd⟩ := ak_deep hd
  refine fX8_number_e ⟨fun e => wQi_i (h0 fun q => (mm_room hT).mp e q.1), fun e => ?_⟩
  rw [mm_room hT, Decidable.not_not] at e
  refine mm_is (by omega) hT w rfl (by decide) (fun a => ⟨fun e => absurd e (by decide), fun _ => ?_⟩) (fun b => ⟨fun _ => wQi_i (h0 fun q => b q.2), fun e => absurd rfl e⟩)
  obtain ⟨a0, a1⟩ := ap_is_lt a hT.2.1
  exact mm_mk1 hT e a1 (by rfl) a0 (h1 ⟨e, a⟩) rfl rfl rfl a0 rfl rfl rfl
theorem mc_isNothing (hd : 5 ≤ d) (hT : my_tt M T N) (w : sm_wf T tc nt N) (h1 : ok_one T N 0 x1 → mm_N K z M L T N (tm_1 T 6 0 x1 0 0 0)) (h0 : ¬ ok_one T N 0 x1 → K (-1) z M L) : wRunI (d, 0, 0) mX8_isNothing [.ref 650, .int x1] z M L K := by
  obtain ⟨d, rfl, hd⟩ := ak_deep hd
  refine fX8_isNothing_e ⟨fun e => wQi_i (h0 fun q => (mm_room hT).mp e q.1), fun e => ?_⟩
  rw [mm_room hT, Decidable.not_not] at e
  refine mm_is (by omega) hT w rfl (by decide) (fun a => ⟨fun e => absurd e (by decide), fun _ => ?_⟩) (fun b => ⟨fun _ => wQi_i (h0 fun q => b q.2), fun e => absurd rfl e⟩)
  obtain ⟨a0, a1⟩ := ap_is_lt a hT.2.1
  exact mm_mk1 hT e a1 (by rfl) a0 (h1 ⟨e, a⟩) rfl rfl rfl a0 rfl rfl rfl
theorem mc_has (hd : 5 ≤ d) (hT : my_tt M T N) (w : sm_wf T tc nt N) (h1 : ok_one T N 2 x1 → mm_N K z M L T N (tm_1 T 8 0 x1 0 0 0)) (h0 : ¬ ok_one T N 2 x1 → K (-1) z M L) : wRunI (d, 0, 0) mX8_has [.ref 650, .int x1] z M L K := by
  obtain ⟨d, rfl, hd⟩ := ak_deep hd
  refine fX8_has_e ⟨fun e => wQi_i (h0 fun q => (mm_room hT).mp e q.1), fun e => ?_⟩
  rw [mm_room hT, Decidable.not_not] at e
  refine mm_is (by omega) hT w rfl (by decide) (fun a => ⟨fun e => absurd e (by decide), fun _ => ?_⟩) (fun b => ⟨fun _ => wQi_i (h0 fun q => b q.2), fun e => absurd rfl e⟩)
  obtain ⟨a0, a1⟩ := ap_is_lt a hT.2.1
  exact mm_mk1 hT e a1 (by rfl) a0 (h1 ⟨e, a⟩) rfl rfl rfl a0 rfl rfl rfl
theorem mc_fold (hd : 5 ≤ d) (hT : my_tt M T N) (w : sm_wf T tc nt N) (h1 : ok_fold T N x1 x2 x3 → mm_N K z M L T N (tm_1 T 4 x1.toNatClampNeg x2 0 x3.toNatClampNeg 0)) (h0 : ¬ ok_fold T N x1 x2 x3 → K (-1) z M L) : wRunI (d, 0, 0) mX8_fold [.ref 650, .int x1, .int x2, .int x3] z M L K := by
  obtain ⟨d, rfl, hd⟩ := ak_deep hd
  refine fX8_fold_e ⟨fun e => wQi_i (h0 fun q => (mm_room hT).mp e q.1.1), fun e => ?_⟩
  rw [mm_room hT, Decidable.not_not] at e
  refine mm_isIn (n := 6) (by decide) (fun o => ⟨fun e => absurd e (by decide), fun _ => ?_⟩) (fun b => ⟨fun _ => wQi_i (h0 fun q => b q.2.1), fun e => absurd rfl e⟩)
  refine mm_is (by omega) hT w rfl (by decide) (fun a => ⟨fun e => absurd e (by decide), fun _ => ?_⟩) (fun b => ⟨fun _ => wQi_i (h0 fun q => b q.1.2), fun e => absurd rfl e⟩)
  obtain ⟨a0, a1⟩ := ap_is_lt a hT.2.1
  obtain ⟨o0, o1⟩ := ap_nI o (by omega)
  have w8 := (w _ a1).2.1
  refine ⟨by rw [a0]; exact vp_in_nI (by omega) (by omega), ?_⟩
  refine mm_isIn (mm_m1 (mm_w hT a1) (by omega)) (fun c => ⟨fun e => absurd e (by decide), fun _ => ?_⟩) (fun b => ⟨fun _ => wQi_i (h0 fun q => b q.2.2), fun e => absurd rfl e⟩)
  obtain ⟨c0, c1⟩ := ap_nI c (by omega)
  exact mm_mk1 hT e a1 (by rfl) a0 (h1 ⟨⟨e, a⟩, o, c⟩) rfl rfl rfl o0 a0 c0 rfl
theorem mc_logic (hd : 5 ≤ d) (hT : my_tt M T N) (w : sm_wf T tc nt N) (h1 : ok_logic T N x1 x2 x3 → mm_N K z M L T N (tm_logic T x1 x2 x3)) (h0 : ¬ ok_logic T N x1 x2 x3 → K (-1) z M L) : wRunI (d, 0, 0) mX8_logic [.ref 650, .int x1, .int x2, .int x3] z M L K := by
  obtain ⟨d, rfl, hd⟩ := ak_deep hd
  refine fX8_logic_e ⟨fun e => wQi_i (h0 fun q => (mm_room hT).mp e q.2.1.1), fun e => ?_⟩
  rw [mm_room hT, Decidable.not_not] at e
  refine mm_isIn (n := 3) (by decide) (fun o => ⟨fun e => absurd e (by decide), fun _ => ?_⟩) (fun b => ⟨fun _ => wQi_i (h0 fun q => b q.1), fun e => absurd rfl e⟩)
  refine mm_is (by omega) hT w rfl (by decide) (fun a => ⟨fun e => absurd e (by decide), fun _ => ?_⟩) (fun b => ⟨fun _ => wQi_i (h0 fun q => b q.2.1.2), fun e => absurd rfl e⟩)
  obtain ⟨a0, a1⟩ := ap_is_lt a hT.2.1
  obtain ⟨o0, o1⟩ := ap_nI o (by omega)
  have e2 : (x1 = 2) ↔ x1.toNatClampNeg = 2 := by
    constructor
    · intro q; rw [q]; rfl
    · intro q; rw [o0, q]; rfl
  refine ⟨fun h2 => ⟨fun _ => ?_, fun q => absurd h2 q⟩, fun h2 => ?_⟩
  · have h2' := e2.mp h2
    have h1 := h1 ⟨o, ⟨e, a⟩, fun q => by omega⟩
    unfold tm_logic at h1
    rw [if_neg (by omega)] at h1
    refine mm_make (τ := tm_1 T 7 x1.toNatClampNeg x2 0 0 0) hT e rfl rfl rfl o0 a0 (by show x2 = (if x1.toNatClampNeg = 2 then nI x2.toNatClampNeg else nI 0); rw [if_pos h2']; exact a0) rfl fun M1 t1 f1 => ?_
    refine mm_as t1 a1 rfl a0 fun M2 t2 f2 => ⟨fun _ => wQi_i (h1 M2 ?_ (mm_fr_trans f1 f2)), fun q => absurd h2 q⟩
    rw [Nat.zero_or] at t2; exact t2
  · have n2 : x1.toNatClampNeg ≠ 2 := fun q => h2 (e2.mpr q)
    have h2' : x1.toNatClampNeg < 2 := by omega
    refine mm_is (by omega) hT w rfl (by decide) (fun b => ⟨fun e => absurd e (by decide), fun _ => ⟨fun q => absurd q h2, fun _ => ?_⟩⟩) (fun b => ⟨fun _ => wQi_i (h0 fun q => b (q.2.2 h2')), fun e => absurd rfl e⟩)
    obtain ⟨b0, b1⟩ := ap_is_lt b hT.2.1
    have h1 := h1 ⟨o, ⟨e, a⟩, fun _ => b⟩
    unfold tm_logic at h1
    rw [if_pos h2'] at h1
    refine mm_make (τ := tm_2 T 7 x1.toNatClampNeg x2 x3 0) hT e rfl rfl rfl o0 a0 (by show x3 = (if x1.toNatClampNeg = 2 then nI x2.toNatClampNeg else nI x3.toNatClampNeg); rw [if_neg (by omega)]; exact b0) rfl fun M1 t1 f1 => ?_
    refine mm_as t1 a1 rfl a0 fun M2 t2 f2 => ⟨fun q => absurd q h2, fun _ => ?_⟩
    refine mm_as t2 b1 rfl b0 fun M3 t3 f3 => wQi_i (h1 M3 ?_ (mm_fr_trans (mm_fr_trans f1 f2) f3))
    rw [Nat.zero_or] at t3; exact t3
theorem mm_quant {x1 x2 x3 x4 : Int32} {k : Nat} (hd : 4 ≤ d) (hT : my_tt M T N) (w : sm_wf T tc nt N) (hk : k = 9 ∨ k = 10) (e1 : x1 = nI k) (h1 : ok_quant T N x2 x3 x4 → mm_N K z M L T N (tm_2 T k x2.toNatClampNeg x3 x4 0)) (h0 : ¬ ok_quant T N x2 x3 x4 → K (-1) z M L) : wRunI (d, 0, 0) mX8_quantity [.ref 650, .int x1, .int x2, .int x3, .int x4] z M L K := by
  obtain ⟨d, rfl, hd⟩ := ak_deep hd
  refine fX8_quantity_e ⟨fun e => wQi_i (h0 fun q => (mm_room hT).mp e q.1.1.1), fun e => ?_⟩
  rw [mm_room hT, Decidable.not_not] at e
  refine mm_isIn (n := 5) (by decide) (fun o => ⟨fun e => absurd e (by decide), fun _ => ?_⟩) (fun b => ⟨fun _ => wQi_i (h0 fun q => b q.1.2), fun e => absurd rfl e⟩)
  refine mm_is (by omega) hT w rfl (by decide) (fun a => ⟨fun e => absurd e (by decide), fun _ => ?_⟩) (fun b => ⟨fun _ => wQi_i (h0 fun q => b q.1.1.2.1), fun e => absurd rfl e⟩)
  refine mm_is (by omega) hT w rfl (by decide) (fun b => ⟨fun e => absurd e (by decide), fun _ => ?_⟩) (fun b => ⟨fun _ => wQi_i (h0 fun q => b q.1.1.2.2), fun e => absurd rfl e⟩)
  have ok : ok_op T N 5 0 2 x2 x3 x4 := ⟨⟨e, a, b⟩, o⟩
  obtain ⟨o0, a0, b0, a1, b1⟩ := mc_two (k := 0) hT ok (by omega)
  have w8 := (w _ b1).2.1
  have ew : (M 656 x4.toNatClampNeg = 1) ↔ sm_w (T x4.toNatClampNeg) = 1 := by rw [mm_w hT b1]; exact nI_eq (b := 1) (by omega) (by omega)
  refine ⟨by rw [b0]; exact vp_in_nI (by omega) (by omega), fun c => ?_, fun c => wQi_i (h0 fun q => c (ew.mpr q.2))⟩
  rcases hk with rfl | rfl
  · exact mm_mk2 hT e a1 b1 (by rfl) a0 b0 (h1 ⟨ok, ew.mp c⟩) e1 rfl rfl o0 a0 b0 rfl
  · exact mm_mk2 hT e a1 b1 (by rfl) a0 b0 (h1 ⟨ok, ew.mp c⟩) e1 rfl rfl o0 a0 b0 rfl
theorem mc_some (hd : 5 ≤ d) (hT : my_tt M T N) (w : sm_wf T tc nt N) (h1 : ok_quant T N x1 x2 x3 → mm_N K z M L T N (tm_2 T 9 x1.toNatClampNeg x2 x3 0)) (h0 : ¬ ok_quant T N x1 x2 x3 → K (-1) z M L) : wRunI (d, 0, 0) mX8_some [.ref 650, .int x1, .int x2, .int x3] z M L K := by
  obtain ⟨d, rfl, hd⟩ := ak_deep hd
  exact fX8_some_e (mm_quant (by omega) hT w (Or.inl rfl) rfl (fun q M' t f => wQi_i (h1 q M' t f)) (fun q => wQi_i (h0 q)))
theorem mc_each (hd : 5 ≤ d) (hT : my_tt M T N) (w : sm_wf T tc nt N) (h1 : ok_quant T N x1 x2 x3 → mm_N K z M L T N (tm_2 T 10 x1.toNatClampNeg x2 x3 0)) (h0 : ¬ ok_quant T N x1 x2 x3 → K (-1) z M L) : wRunI (d, 0, 0) mX8_each [.ref 650, .int x1, .int x2, .int x3] z M L K := by
  obtain ⟨d, rfl, hd⟩ := ak_deep hd
  exact fX8_each_e (mm_quant (by omega) hT w (Or.inr rfl) rfl (fun q M' t f => wQi_i (h1 q M' t f)) (fun q => wQi_i (h0 q)))
theorem mc_scan (hd : 5 ≤ d) (hT : my_tt M T N) (hn : nt ≤ 6) (h0t : M 650 0 = nI nt) (hc : ∀ k, k < nt → M 651 k = nI (tc k)) (h1 : ok_scan N nt x1 → mm_N K z M L T N (tm_scan tc x1)) (h0 : ¬ ok_scan N nt x1 → K (-1) z M L) : wRunI (d, 0, 0) mX8_scan [.ref 650, .int x1] z M L K := by
  obtain ⟨d, rfl, hd⟩ := ak_deep hd
  refine fX8_scan_e ⟨fun e => wQi_i (h0 fun q => (mm_room hT).mp e q.1), fun e => ?_⟩
  rw [mm_room hT, Decidable.not_not] at e
  refine mm_isIn (mm_m1 h0t (by omega)) (fun o => ⟨fun e => absurd e (by decide), fun _ => ?_⟩) (fun b => ⟨fun _ => wQi_i (h0 fun q => b q.2), fun e => absurd rfl e⟩)
  obtain ⟨o0, o1⟩ := ap_nI o (by omega)
  refine ⟨by rw [o0]; exact vp_in_nI (by omega) (by omega), ?_⟩
  exact mm_make (τ := tm_scan tc x1) hT e rfl rfl (hc _ o1) rfl rfl rfl rfl fun M' t f => wQi_i (h1 ⟨e, o⟩ M' t f)
theorem mc_filter (hd : 5 ≤ d) (hT : my_tt M T N) (w : sm_wf T tc nt N) (h1 : ok_filter T N x1 x2 → mm_N K z M L T N (tm_i T 12 0 x1 x2 (sm_w (T x1.toNatClampNeg)))) (h0 : ¬ ok_filter T N x1 x2 → K (-1) z M L) : wRunI (d, 0, 0) mX8_filter [.ref 650, .int x1, .int x2] z M L K := by
  obtain ⟨d, rfl, hd⟩ := ak_deep hd
  refine fX8_filter_e ⟨fun e => wQi_i (h0 fun q => (mm_room hT).mp e q.1.1), fun e => ?_⟩
  rw [mm_room hT, Decidable.not_not] at e
  refine mm_is (by omega) hT w rfl (by decide) (fun a => ⟨fun e => absurd e (by decide), fun _ => ?_⟩) (fun b => ⟨fun _ => wQi_i (h0 fun q => b q.1.2.1), fun e => absurd rfl e⟩)
  refine mm_is (by omega) hT w rfl (by decide) (fun b => ⟨fun e => absurd e (by decide), fun _ => ?_⟩) (fun b => ⟨fun _ => wQi_i (h0 fun q => b q.1.2.2), fun e => absurd rfl e⟩)
  refine mm_fits hT w a.1 b.1 (fun c => ⟨fun e => absurd e (by decide), fun _ => ?_⟩) (fun b => ⟨fun _ => wQi_i (h0 fun q => b q.2), fun e => absurd rfl e⟩)
  obtain ⟨a0, a1⟩ := ap_is_lt a hT.2.1
  obtain ⟨b0, b1⟩ := ap_is_lt b hT.2.1
  refine ⟨by rw [a0]; exact vp_in_nI (by omega) (by omega), ?_⟩
  exact mm_mki hT e a1 b1 (w _ b1).2.2.1 (by rfl) a0 b0 (h1 ⟨⟨e, a, b⟩, c⟩) rfl rfl (mm_w hT a1) a0 b0 rfl rfl
theorem mc_more (hd : 5 ≤ d) (hT : my_tt M T N) (w : sm_wf T tc nt N) (h1 : ok_more T N x1 x2 → mm_N K z M L T N (tm_i T 13 0 x1 x2 (sm_w (T x1.toNatClampNeg) + 1))) (h0 : ¬ ok_more T N x1 x2 → K (-1) z M L) : wRunI (d, 0, 0) mX8_more [.ref 650, .int x1, .int x2] z M L K := by
  obtain ⟨d, rfl, hd⟩ := ak_deep hd
  refine fX8_more_e ⟨fun e => wQi_i (h0 fun q => (mm_room hT).mp e q.1.1), fun e => ?_⟩
  rw [mm_room hT, Decidable.not_not] at e
  refine mm_is (by omega) hT w rfl (by decide) (fun a => ⟨fun e => absurd e (by decide), fun _ => ?_⟩) (fun b => ⟨fun _ => wQi_i (h0 fun q => b q.1.2.1), fun e => absurd rfl e⟩)
  refine mm_is (by omega) hT w rfl (by decide) (fun b => ⟨fun e => absurd e (by decide), fun _ => ?_⟩) (fun b => ⟨fun _ => wQi_i (h0 fun q => b q.1.2.2), fun e => absurd rfl e⟩)
  refine mm_fits hT w a.1 b.1 (fun c => ⟨fun e => absurd e (by decide), fun _ => ?_⟩) (fun b => ⟨fun _ => wQi_i (h0 fun q => b q.2.1), fun e => absurd rfl e⟩)
  obtain ⟨a0, a1⟩ := ap_is_lt a hT.2.1
  obtain ⟨b0, b1⟩ := ap_is_lt b hT.2.1
  have w8 := (w _ a1).2.1
  have ew : (M 656 x1.toNatClampNeg = 8) ↔ sm_w (T x1.toNatClampNeg) = 8 := by rw [mm_w hT a1]; exact nI_eq (b := 8) (by omega) (by omega)
  have hin : vp_in x1 120 := by rw [a0]; exact vp_in_nI (by omega) (by omega)
  refine ⟨hin, fun q => wQi_i (h0 fun p => ?_), fun q => ⟨hin, ?_⟩⟩
  · have := p.2.2; have := ew.mp q; omega
  · rw [ew] at q
    exact mm_mki hT e a1 b1 (w _ b1).2.2.1 (by rfl) a0 b0 (h1 ⟨⟨e, a, b⟩, c, by omega⟩) rfl rfl (by rw [mm_w hT a1, nI_1]; rfl) a0 b0 rfl rfl
theorem mm_only (hT : my_tt M T N) (w : sm_wf T tc nt N) (e : N < 120) (a : ap_is T N x1 2) (hn : vp_in x3 9 ∧ x3 ≠ 0) (h1 : ok_only T N x1 x2 x3 → mm_N K z M L T N (tm_1 T 14 0 x1 x2 x3.toNatClampNeg x3.toNatClampNeg)) (h0 : ¬ ok_only T N x1 x2 x3 → K (-1) z M L) : ∀ (m k : Nat), k + m = x3.toNatClampNeg → (∀ j, j < k → sm_col x2 j < sm_w (T x1.toNatClampNeg)) → wRun (d + 1, 0, 0) mX8_only 33 [some (.ref 650), some (.int x1), some (.int x2), some (.int x3), some (.int (nI k))] [] z M L (wQi K) := by
  obtain ⟨n0, n1⟩ := ap_nI hn.1 (by omega)
  obtain ⟨a0, a1⟩ := ap_is_lt a hT.2.1
  have w8 := (w _ a1).2.1
  have lek : ∀ k, k ≤ x3.toNatClampNeg → (x3 ≤ nI k ↔ x3.toNatClampNeg ≤ k) := fun k hk => by
    generalize x3.toNatClampNeg = j at n0 n1 hk
    rw [n0]; exact nI_leI (by omega) (by omega)
  intro m
  induction m with
  | zero =>
    intro k hk hc
    refine fX8_only_33 ⟨fun _ => ?_, fun h => absurd ((lek k (by omega)).mpr (by omega)) h⟩
    exact mm_mk1 hT e a1 (by rfl) a0 (h1 ⟨⟨e, a⟩, hn, fun j hj => hc j (by omega)⟩) rfl rfl n0 a0 rfl rfl rfl
  | succ m ih =>
    intro k hk hc
    have l16 : sm_col x2 k < 16 := by
      unfold sm_col
      obtain ⟨j, hj, e⟩ := pk_andE (x2 >>> (nI (4 * k) &&& 31)) (m := 15) 4 (by decide)
      rw [e, nI_clamp (by omega)]; omega
    have ec : ((x2 >>> ((4 * nI k) &&& 31)) &&& 15) = nI (sm_col x2 k) := by
      unfold sm_col
      rw [ak_n4, pk_mul]
      obtain ⟨j, hj, e⟩ := pk_andE (x2 >>> (nI (4 * k) &&& 31)) (m := 15) 4 (by decide)
      rw [e, nI_clamp (by omega)]
    refine fX8_only_33 ⟨fun h => absurd ((lek k (by omega)).mp h) (by omega), fun _ => ⟨by rw [a0]; exact vp_in_nI (by omega) (by omega), ?_⟩⟩
    rw [ec, mm_w hT a1, nI_ltI (by omega) (by omega), nI_1]
    refine ⟨fun c => ih (k + 1) (by omega) fun j hj => ?_, fun c => wQi_i (h0 fun q => c (q.2.2 k (by omega)))⟩
    by_cases q : j = k
    · rw [q]; exact c
    · exact hc j (by omega)
theorem mc_only (hd : 5 ≤ d) (hT : my_tt M T N) (w : sm_wf T tc nt N) (h1 : ok_only T N x1 x2 x3 → mm_N K z M L T N (tm_1 T 14 0 x1 x2 x3.toNatClampNeg x3.toNatClampNeg)) (h0 : ¬ ok_only T N x1 x2 x3 → K (-1) z M L) : wRunI (d, 0, 0) mX8_only [.ref 650, .int x1, .int x2, .int x3] z M L K := by
  obtain ⟨d, rfl, hd⟩ := ak_deep hd
  refine fX8_only_e ⟨fun e => wQi_i (h0 fun q => (mm_room hT).mp e q.1.1), fun e => ?_⟩
  rw [mm_room hT, Decidable.not_not] at e
  refine mm_is (by omega) hT w rfl (by decide) (fun a => ⟨fun e => absurd e (by decide), fun _ => ?_⟩) (fun b => ⟨fun _ => wQi_i (h0 fun q => b q.1.2), fun e => absurd rfl e⟩)
  refine mm_isIn1 (n := 9) (by decide) (fun b => ⟨fun e => absurd e (by decide), fun _ => ?_⟩) (fun b => ⟨fun _ => wQi_i (h0 fun q => b q.2.1), fun e => absurd rfl e⟩)
  exact mm_only hT w e a b h1 h0 _ 0 (Nat.zero_add _) (fun j hj => by omega)
theorem mc_pairs (hd : 5 ≤ d) (hT : my_tt M T N) (w : sm_wf T tc nt N) (h1 : ok_pairs T N x1 x2 → mm_N K z M L T N (tm_2 T 15 0 x1 x2 (sm_w (T x1.toNatClampNeg) + sm_w (T x2.toNatClampNeg)))) (h0 : ¬ ok_pairs T N x1 x2 → K (-1) z M L) : wRunI (d, 0, 0) mX8_pairs [.ref 650, .int x1, .int x2] z M L K := by
  obtain ⟨d, rfl, hd⟩ := ak_deep hd
  refine fX8_pairs_e ⟨fun e => wQi_i (h0 fun q => (mm_room hT).mp e q.1.1), fun e => ?_⟩
  rw [mm_room hT, Decidable.not_not] at e
  refine mm_is (by omega) hT w rfl (by decide) (fun a => ⟨fun e => absurd e (by decide), fun _ => ?_⟩) (fun b => ⟨fun _ => wQi_i (h0 fun q => b q.1.2.1), fun e => absurd rfl e⟩)
  refine mm_is (by omega) hT w rfl (by decide) (fun b => ⟨fun e => absurd e (by decide), fun _ => ?_⟩) (fun b => ⟨fun _ => wQi_i (h0 fun q => b q.1.2.2), fun e => absurd rfl e⟩)
  obtain ⟨a0, a1⟩ := ap_is_lt a hT.2.1
  obtain ⟨b0, b1⟩ := ap_is_lt b hT.2.1
  have wa := (w _ a1).2.1
  have wb := (w _ b1).2.1
  have in1 : vp_in x1 120 := by rw [a0]; exact vp_in_nI (by omega) (by omega)
  have in2 : vp_in x2 120 := by rw [b0]; exact vp_in_nI (by omega) (by omega)
  have es : M 656 x1.toNatClampNeg + M 656 x2.toNatClampNeg = nI (sm_w (T x1.toNatClampNeg) + sm_w (T x2.toNatClampNeg)) := by rw [mm_w hT a1, mm_w hT b1, nI_add]
  refine ⟨in1, in2, ?_⟩
  rw [es, ak_n8, nI_leI (by omega) (by omega)]
  refine ⟨fun c => ⟨in1, in2, ?_⟩, fun c => wQi_i (h0 fun q => c q.2)⟩
  exact mm_mk2 hT e a1 b1 (by rfl) a0 b0 (h1 ⟨⟨e, a, b⟩, c⟩) rfl rfl rfl a0 b0 rfl rfl
theorem mc_apply (hd : 5 ≤ d) (hT : my_tt M T N) (w : sm_wf T tc nt N) (h1 : ok_apply T N x1 x2 x3 → mm_N K z M L T N (tm_apply T x1 x2 x3)) (h0 : ¬ ok_apply T N x1 x2 x3 → K (-1) z M L) : wRunI (d, 0, 0) mX8_apply [.ref 650, .int x1, .int x2, .int x3] z M L K := by
  obtain ⟨d, rfl, hd⟩ := ak_deep hd
  refine fX8_apply_e ⟨fun e => fX8_apply_68 (wQi_i (h0 fun q => (mm_room hT).mp e q.1.1.1)), fun e => ?_⟩
  rw [mm_room hT, Decidable.not_not] at e
  refine mm_isIn (n := 4) (by decide) (fun o => ⟨fun e => absurd e (by decide), fun _ => ?_⟩) (fun b => ⟨fun _ => fX8_apply_68 (wQi_i (h0 fun q => b q.1.2)), fun e => absurd rfl e⟩)
  refine mm_is (by omega) hT w rfl (by decide) (fun a => ⟨fun e => absurd e (by decide), fun _ => ?_⟩) (fun b => ⟨fun _ => fX8_apply_68 (wQi_i (h0 fun q => b q.1.1.2.1)), fun e => absurd rfl e⟩)
  refine mm_is (by omega) hT w rfl (by decide) (fun b => ⟨fun e => absurd e (by decide), fun _ => ?_⟩) (fun b => ⟨fun _ => fX8_apply_68 (wQi_i (h0 fun q => b q.1.1.2.2)), fun e => absurd rfl e⟩)
  refine mm_fits hT w a.1 b.1 (fun c => ⟨fun e => absurd e (by decide), fun _ => ?_⟩) (fun b => ⟨fun _ => fX8_apply_68 (wQi_i (h0 fun q => b q.2.1)), fun e => absurd rfl e⟩)
  have ok : ok_op T N 4 2 2 x1 x2 x3 := ⟨⟨e, a, b⟩, o⟩
  obtain ⟨o0, a0, b0, a1, b1⟩ := mc_two (k := 0) hT ok (by omega)
  have wa := (w _ a1).2.1
  have wb := (w _ b1).2.1
  have in2 : vp_in x2 120 := by rw [a0]; exact vp_in_nI (by omega) (by omega)
  have in3 : vp_in x3 120 := by rw [b0]; exact vp_in_nI (by omega) (by omega)
  have le2 : ((2 : Int32) ≤ x1) ↔ 2 ≤ x1.toNatClampNeg := cl_le (c := 2) o (by omega) (by omega)
  have es : M 656 x2.toNatClampNeg + M 656 x3.toNatClampNeg = nI (sm_w (T x2.toNatClampNeg) + sm_w (T x3.toNatClampNeg)) := by rw [mm_w hT a1, mm_w hT b1, nI_add]
  refine ⟨fun h2 => fX8_apply_70 ⟨fun _ => ⟨in2, fX8_apply_101 ?_⟩, fun q => absurd h2 q⟩, fun h2 => ⟨in2, in3, ?_⟩⟩
  · rw [le2] at h2
    have h1 := h1 ⟨ok, c, fun q => by omega⟩
    unfold tm_apply at h1
    rw [if_neg (by omega)] at h1
    exact mm_mki hT e a1 b1 (w _ b1).2.2.1 (by rfl) a0 b0 h1 rfl rfl (mm_w hT a1) a0 b0 o0 rfl
  · have h2' := h2
    rw [le2] at h2'
    rw [es, ak_n8, nI_leI (by omega) (by omega)]
    refine ⟨fun n => fX8_apply_70 ⟨fun q => absurd q h2, fun _ => ⟨in2, in3, fX8_apply_101 ?_⟩⟩, fun n => fX8_apply_68 (wQi_i (h0 fun q => n (q.2.2 (by omega))))⟩
    have h1 := h1 ⟨ok, c, fun _ => n⟩
    unfold tm_apply at h1
    rw [if_pos (by omega)] at h1
    exact mm_mki hT e a1 b1 (w _ b1).2.2.1 (by rfl) a0 b0 h1 rfl rfl es a0 b0 o0 rfl
theorem mc_both (hd : 5 ≤ d) (hT : my_tt M T N) (w : sm_wf T tc nt N) (h1 : ok_both T N x1 x2 x3 → mm_N K z M L T N (tm_2 T 17 x1.toNatClampNeg x2 x3 (sm_w (T x2.toNatClampNeg)))) (h0 : ¬ ok_both T N x1 x2 x3 → K (-1) z M L) : wRunI (d, 0, 0) mX8_both [.ref 650, .int x1, .int x2, .int x3] z M L K := by
  obtain ⟨d, rfl, hd⟩ := ak_deep hd
  refine fX8_both_e ⟨fun e => wQi_i (h0 fun q => (mm_room hT).mp e q.1.1.1), fun e => ?_⟩
  rw [mm_room hT, Decidable.not_not] at e
  refine mm_isIn (n := 3) (by decide) (fun o => ⟨fun e => absurd e (by decide), fun _ => ?_⟩) (fun b => ⟨fun _ => wQi_i (h0 fun q => b q.1.2), fun e => absurd rfl e⟩)
  refine mm_is (by omega) hT w rfl (by decide) (fun a => ⟨fun e => absurd e (by decide), fun _ => ?_⟩) (fun b => ⟨fun _ => wQi_i (h0 fun q => b q.1.1.2.1), fun e => absurd rfl e⟩)
  refine mm_is (by omega) hT w rfl (by decide) (fun b => ⟨fun e => absurd e (by decide), fun _ => ?_⟩) (fun b => ⟨fun _ => wQi_i (h0 fun q => b q.1.1.2.2), fun e => absurd rfl e⟩)
  have ok : ok_op T N 3 2 2 x1 x2 x3 := ⟨⟨e, a, b⟩, o⟩
  obtain ⟨o0, a0, b0, a1, b1⟩ := mc_two (k := 0) hT ok (by omega)
  have wa := (w _ a1).2.1
  have wb := (w _ b1).2.1
  have in2 : vp_in x2 120 := by rw [a0]; exact vp_in_nI (by omega) (by omega)
  have in3 : vp_in x3 120 := by rw [b0]; exact vp_in_nI (by omega) (by omega)
  have ew : (M 656 x2.toNatClampNeg = M 656 x3.toNatClampNeg) ↔ sm_w (T x2.toNatClampNeg) = sm_w (T x3.toNatClampNeg) := by rw [mm_w hT a1, mm_w hT b1]; exact nI_eq (by omega) (by omega)
  refine ⟨in2, in3, fun c => ⟨in2, ?_⟩, fun c => wQi_i (h0 fun q => c (ew.mpr q.2))⟩
  exact mm_mk2 hT e a1 b1 (by rfl) a0 b0 (h1 ⟨ok, ew.mp c⟩) rfl rfl (mm_w hT a1) a0 b0 o0 rfl
theorem mc_once (hd : 5 ≤ d) (hT : my_tt M T N) (w : sm_wf T tc nt N) (h1 : ok_one T N 2 x1 → mm_N K z M L T N (tm_1 T 18 0 x1 0 0 (sm_w (T x1.toNatClampNeg)))) (h0 : ¬ ok_one T N 2 x1 → K (-1) z M L) : wRunI (d, 0, 0) mX8_once [.ref 650, .int x1] z M L K := by
  obtain ⟨d, rfl, hd⟩ := ak_deep hd
  refine fX8_once_e ⟨fun e => wQi_i (h0 fun q => (mm_room hT).mp e q.1), fun e => ?_⟩
  rw [mm_room hT, Decidable.not_not] at e
  refine mm_is (by omega) hT w rfl (by decide) (fun a => ⟨fun e => absurd e (by decide), fun _ => ?_⟩) (fun b => ⟨fun _ => wQi_i (h0 fun q => b q.2), fun e => absurd rfl e⟩)
  obtain ⟨a0, a1⟩ := ap_is_lt a hT.2.1
  refine ⟨by rw [a0]; exact vp_in_nI (by omega) (by omega), ?_⟩
  exact mm_mk1 hT e a1 (by rfl) a0 (h1 ⟨e, a⟩) rfl rfl (mm_w hT a1) a0 rfl rfl rfl
theorem mc_first (hd : 5 ≤ d) (hT : my_tt M T N) (w : sm_wf T tc nt N) (h1 : ok_first T N x1 x2 → mm_N K z M L T N (tm_1 T 19 0 x1 x2 0 (sm_w (T x1.toNatClampNeg)))) (h0 : ¬ ok_first T N x1 x2 → K (-1) z M L) : wRunI (d, 0, 0) mX8_first [.ref 650, .int x1, .int x2] z M L K := by
  obtain ⟨d, rfl, hd⟩ := ak_deep hd
  refine fX8_first_e ⟨fun e => wQi_i (h0 fun q => (mm_room hT).mp e q.1.1), fun e => ?_⟩
  rw [mm_room hT, Decidable.not_not] at e
  refine mm_is (by omega) hT w rfl (by decide) (fun a => ⟨fun e => absurd e (by decide), fun _ => ?_⟩) (fun b => ⟨fun _ => wQi_i (h0 fun q => b q.1.2), fun e => absurd rfl e⟩)
  refine mm_isIn1 (n := 25) (by decide) (fun b => ⟨fun e => absurd e (by decide), fun _ => ?_⟩) (fun b => ⟨fun _ => wQi_i (h0 fun q => b q.2), fun e => absurd rfl e⟩)
  obtain ⟨a0, a1⟩ := ap_is_lt a hT.2.1
  refine ⟨by rw [a0]; exact vp_in_nI (by omega) (by omega), ?_⟩
  exact mm_mk1 hT e a1 (by rfl) a0 (h1 ⟨⟨e, a⟩, b⟩) rfl rfl (mm_w hT a1) a0 rfl rfl rfl
theorem mm_ksS (x : Int32) (k : Nat) : ((List.range (k + 1)).filter (sm_bit x)).length = ((List.range k).filter (sm_bit x)).length + if sm_bit x k then 1 else 0 := by
  rw [List.range_succ, List.filter_append, List.length_append, List.filter_cons]
  split <;> rfl
theorem mm_bits_4 {x : Int32} (h : K (nI (sm_ks x).length) z M L) : ∀ (m k : Nat), k + m = 8 → wRun (d, 0, 0) mX8_bits 4 [some (.int x), some (.int (nI ((List.range k).filter (sm_bit x)).length)), some (.int (nI k))] [] z M L (wQi K)
  | 0, k, hk => by
    have ek : k = 8 := by omega
    subst ek
    exact fX8_bits_4 ⟨fun _ => wQi_i h, fun q => absurd (by decide) q⟩
  | m + 1, k, hk => by
    refine fX8_bits_4 ⟨fun q => absurd q (nI_ge (a := k) (b := 8) (by omega) (by omega)), fun _ => ?_⟩
    have e : nI ((List.range k).filter (sm_bit x)).length + (x >>> (nI k &&& 31) &&& 1) = nI ((List.range (k + 1)).filter (sm_bit x)).length := by
      rw [mm_ksS]
      cases hb : sm_bit x k with
      | false =>
        rw [my_bit0.mpr hb, ak_n0, nI_add]; rfl
      | true =>
        have : x >>> (nI k &&& 31) &&& 1 = 1 := by
          rcases my_bit01 (x >>> (nI k &&& 31)) with q | q
          · rw [my_bit0.mp q] at hb; cases hb
          · exact q
        rw [this, ak_n1, nI_add]; rfl
    rw [e, nI_1]
    exact mm_bits_4 h m (k + 1) (by omega)
theorem mm_bits {x : Int32} (h : K (nI (sm_ks x).length) z M L) : wRunI (d, 0, 0) mX8_bits [.int x] z M L K := fX8_bits_e (mm_bits_4 h 8 0 rfl)
theorem mm_pow {x : Int32} {w : Nat} (hw : w ≤ 8) (hx : ¬ x < 0) : (x >>> (nI w &&& 31) = 0) ↔ vp_in x (2 ^ w) := by
  obtain ⟨j, hj, rfl⟩ := nI_of hx
  have sh : ∀ w, w ≤ 8 → ((nI w &&& 31).toBitVec.smod 32).toNat = w := by decide
  have p8 : 2 ^ w ≤ 2 ^ 8 := Nat.pow_le_pow_right (by omega) hw
  have p0 : 0 < 2 ^ w := Nat.pow_pos (by omega)
  have dl : j / 2 ^ w ≤ j := Nat.div_le_self _ _
  rw [pk_shrN hj _ _ (sh w hw)]
  refine (nI_eq (b := 0) (by omega) (by omega)).trans ?_
  rw [Nat.div_eq_zero_iff, vp_in_iff, nI_toInt hj]
  omega
theorem mc_groups (hd : 5 ≤ d) (hT : my_tt M T N) (w : sm_wf T tc nt N) (h1 : ok_groups T N x1 x2 x3 x4 → mm_N K z M L T N (tm_groups T x1 x2 x3 x4)) (h0 : ¬ ok_groups T N x1 x2 x3 x4 → K (-1) z M L) : wRunI (d, 0, 0) mX8_groups [.ref 650, .int x1, .int x2, .int x3, .int x4] z M L K := by
  obtain ⟨d, rfl, hd⟩ := ak_deep hd
  refine fX8_groups_e ⟨fun e => wQi_i (h0 fun q => (mm_room hT).mp e q.1.1), fun e => ?_⟩
  rw [mm_room hT, Decidable.not_not] at e
  refine mm_is (by omega) hT w rfl (by decide) (fun a => ⟨fun e => absurd e (by decide), fun _ => ?_⟩) (fun b => ⟨fun _ => wQi_i (h0 fun q => b q.1.2), fun e => absurd rfl e⟩)
  refine mm_isIn (n := 6) (by decide) (fun o => ⟨fun e => absurd e (by decide), fun _ => ?_⟩) (fun b => ⟨fun _ => wQi_i (h0 fun q => b q.2.1), fun e => absurd rfl e⟩)
  obtain ⟨a0, a1⟩ := ap_is_lt a hT.2.1
  have w8 := (w _ a1).2.1
  have p8 : 2 ^ sm_w (T x1.toNatClampNeg) ≤ 2 ^ 8 := Nat.pow_le_pow_right (by omega) w8
  have in1 : vp_in x1 120 := by rw [a0]; exact vp_in_nI (by omega) (by omega)
  obtain ⟨o0, o1⟩ := ap_nI o (by omega)
  refine ⟨in1, ?_⟩
  refine mm_isIn (mm_m1 (mm_w hT a1) (by omega)) (fun c => ⟨fun e => absurd e (by decide), fun _ => ?_⟩) (fun b => ⟨fun _ => wQi_i (h0 fun q => b q.2.2.1), fun e => absurd rfl e⟩)
  obtain ⟨c0, c1⟩ := ap_nI c (by omega)
  refine ⟨fun n => wQi_i (h0 fun q => q.2.2.2.1 (Or.inl n)), fun n => ⟨in1, ?_⟩⟩
  rw [mm_w hT a1, mm_pow w8 n]
  refine ⟨fun g => ?_, fun g => wQi_i (h0 fun q => g q.2.2.2.1)⟩
  obtain ⟨g0, g1⟩ := ap_nI g (by omega)
  have e5 : (x2 = 255) ↔ x2.toNatClampNeg = 255 := by
    constructor
    · intro q; rw [q]; rfl
    · intro q; rw [g0, q]; rfl
  refine ⟨fun q => wQi_i (h0 fun p => p.2.2.2.2 (e5.mp q)), fun q => mm_bits ?_⟩
  rw [e5] at q
  exact mm_mk1 (τ := tm_groups T x1 x2 x3 x4) hT e a1 (by rfl) a0 (h1 ⟨⟨e, a⟩, o, c, g, q⟩) rfl rfl (nI_1 _) a0 rfl o0 c0
end MC
