/-! CALLS of ApplyFree: row, empty; the cells of an answer -/
def ct_G (z : wd_Z) (M : wd_M) (tc : Nat → Nat) (tb : Nat → List ay_Row) (nt : Nat) : Prop := z.2.1 = nt ∧ nt ≤ 6 ∧ M 1 1 = nI nt ∧ ∀ k, k < nt → tb_T z M k (tc k) (tb k) ∧ 1 ≤ tc k ∧ tc k ≤ 4
section RW
variable {d : Nat} {z : wd_Z} {L : wd_L} {M : wd_M} {K : Int32 → wd_Z → wd_M → wd_L → Prop} {tc : Nat → Nat} {tb : Nat → List ay_Row} {nt : Nat} {x1 x2 x3 x4 x5 : Int32}
theorem tb_T_mv {M' : wd_M} {k c : Nat} {R : List ay_Row} (h : tb_T z M k c R) (e1 : M' (667 + 2 * k) = M (667 + 2 * k)) (e2 : M' (668 + 2 * k) = M (668 + 2 * k)) : tb_T z M' k c R := by
  unfold tb_T at *; rw [e1, e2]; exact h
theorem ct_G_mv {M' : wd_M} (h : ct_G z M tc tb nt) (e1 : M' 1 1 = M 1 1) (e2 : ∀ c, 667 ≤ c → M' c = M c) : ct_G z M' tc tb nt := by
  obtain ⟨h1, h2, h3, h4⟩ := h
  exact ⟨h1, h2, by rw [e1]; exact h3, fun k hk => ⟨tb_T_fr (h4 k hk).1 e2, (h4 k hk).2⟩⟩
theorem ct_G_tr (h : ct_G z M tc tb nt) : cl_tr z M nt (fun k => (tb k).length) := ⟨h.1, h.2.1, fun k hk => by
  obtain ⟨h1, h2, h3, h4, h5, h6, h7⟩ := (h.2.2.2 k hk).1
  exact ⟨h4, h6⟩⟩
theorem cl_row_35 {M0 : wd_M} {k c : Nat} {R : List ay_Row} (hk : k < 6) (hT : tb_T z M0 k c R) (hc : c ≤ 4) (hR : R.length < 24)
    (hK : ∀ M', (∀ a, a ≠ 667 + 2 * k → a ≠ 668 + 2 * k → M' a = M0 a) → tb_T z M' k c (R ++ [tb_row c x2 x3 x4 x5]) → K (nI (R.length + 1)) z M' L) :
    ∀ (m i : Nat) (M : wd_M), i + m = c → (∀ a, a ≠ 668 + 2 * k → M a = M0 a) → sl_at (M (668 + 2 * k)) 0 (R.flatten ++ tb_row i x2 x3 x4 x5) → wRun (d + 1, 0, 0) mX0_row 35 [none, none, some (.int x2), some (.int x3), some (.int x4), some (.int x5), some (.ref (667 + 2 * k)), some (.int (nI i))] [] z M L (wQi K)
  | 0, i, M, hi, he, hs => by
    obtain ⟨t1, t2, t3, t4, t5, t6, t7⟩ := hT
    have ty := tb_typ t1
    have ei : i = c := by omega
    subst ei
    have m0 : M (667 + 2 * k) = M0 (667 + 2 * k) := he _ (by omega)
    refine fX0_row_35 (am_gd_i (by rw [ty]; rfl) ⟨fun _ => am_gd_i (by rw [ty]; rfl) (am_gd_i (by rw [ty]; rfl) (am_gd_i (by rw [ty]; rfl) (wQi_i ?_))), fun h => absurd (by rw [m0, t3]; exact nI_le (Nat.le_refl _) (by omega)) h⟩)
    rw [ak_up_same, m0, t4, nI_1]
    refine hK _ (fun a h1 h2 => by rw [ak_up_cell h1]; exact he a h2) ⟨t1, t2, ?_, ?_, ?_, ?_, ?_⟩
    · rw [ak_up_ne (by omega), m0]; exact t3
    · rw [ak_up_same, List.length_append]; rfl
    · rw [sl_W_app]
      refine ⟨t5, fun r hr => ?_⟩
      rw [List.mem_singleton] at hr
      rw [hr]; unfold tb_row
      rw [List.length_take]
      show min _ 4 = _
      omega
    · rw [List.length_append]; show _ + 1 ≤ 24; omega
    · rw [ak_up_cell (by omega), List.flatten_append]
      show sl_at _ 0 (R.flatten ++ (tb_row i x2 x3 x4 x5 ++ []))
      rw [List.append_nil]; exact hs
  | m + 1, i, M, hi, he, hs => by
    obtain ⟨t1, t2, t3, t4, t5, t6, t7⟩ := id hT
    have ty := tb_typ t1
    have m0 : M (667 + 2 * k) = M0 (667 + 2 * k) := he _ (by omega)
    have cm : R.length * c ≤ 23 * 4 := Nat.mul_le_mul (by omega) hc
    have c24 : R.length * c + c ≤ c * 24 := by
      have : (R.length + 1) * c ≤ 24 * c := Nat.mul_le_mul_right _ (by omega)
      rw [Nat.add_mul, Nat.one_mul] at this
      omega
    have ix : M (667 + 2 * k) 2 * M (667 + 2 * k) 0 + nI i = nI (R.length * c + i) := by rw [m0, t3, t4, pk_mul, nI_add]
    have ar : wd_typ z (667 + 2 * k + 1) = .inr (0, c * 24) := by rw [tb_arr t1, t2]
    have ec : ∀ j, j < 10 → (nI i = nI j ↔ i = j) := fun j hj => nI_eq (by omega) (by omega)
    have go : ∀ v, [x2, x3, x4, x5][i]? = some v → am_gd (am_isA (wd_typ z (667 + 2 * k + 1)) 0) ((vp_in (M (667 + 2 * k) 2 * M (667 + 2 * k) 0 + nI i) (am_len (wd_typ z (667 + 2 * k + 1))) ∧ wRun (d + 1, 0, 0) mX0_row 35 [none, none, some (.int x2), some (.int x3), some (.int x4), some (.int x5), some (.ref (667 + 2 * k)), some (.int (nI i + 1))] [] z (am_up2 M (667 + 2 * k + 1) ((M (667 + 2 * k) 2 * M (667 + 2 * k) 0 + nI i).toNatClampNeg) v) L (wQi K))) := fun v hv => by
      rw [ix, ar, nI_clamp (by omega), nI_1]
      refine am_gd_i rfl ⟨vp_in_nI (by show _ < c * 24; omega) (by show c * 24 < _; omega), ?_⟩
      refine cl_row_35 hk hT hc hR hK m (i + 1) _ (by omega) (fun a ha => by rw [ak_up_cell (by omega)]; exact he a ha) ?_
      have et : tb_row (i + 1) x2 x3 x4 x5 = tb_row i x2 x3 x4 x5 ++ [v] := sl_take hv
      have ln : (R.flatten ++ tb_row i x2 x3 x4 x5).length = R.length * c + i := by
        rw [List.length_append, sl_flen t5]
        unfold tb_row
        rw [List.length_take]
        show _ + min _ 4 = _
        omega
      rw [show 668 + 2 * k = 667 + 2 * k + 1 by omega] at hs ⊢
      rw [ak_up_own, et, ← List.append_assoc, sl_app, ln]
      refine ⟨sl_upd hs (by rw [ln]; omega), ?_⟩
      rw [sl_one, Nat.zero_add]; exact pk_us
    refine fX0_row_35 (am_gd_i (by rw [ty]; rfl) ⟨fun h => absurd h (by rw [m0, t3]; exact nI_ge (by omega) (by omega)), fun _ => am_gd_i (by rw [ty]; rfl) (am_bR_i (tb_cel t1) (am_gd_i (by rw [ty]; rfl) (am_gd_i (by rw [ty]; rfl) ?_)))⟩)
    refine ⟨fun q => go x2 ?_, fun q0 => ⟨fun q => go x3 ?_, fun q1 => ⟨fun q => go x4 ?_, fun q2 => go x5 ?_⟩⟩⟩
    · rw [(ec 0 (by omega)).mp q]; rfl
    · rw [(ec 1 (by omega)).mp q]; rfl
    · rw [(ec 2 (by omega)).mp q]; rfl
    · have n0 : i ≠ 0 := fun p => q0 ((ec 0 (by omega)).mpr p)
      have n1 : i ≠ 1 := fun p => q1 ((ec 1 (by omega)).mpr p)
      have n2 : i ≠ 2 := fun p => q2 ((ec 2 (by omega)).mpr p)
      rw [show i = 3 by omega]; rfl
/-- what the tables of ApplyFree leave -/
def ct_fr (M M' : wd_M) : Prop := ∀ c, c < 667 → M' c = M c
theorem cc_row (hd : 1 ≤ d) (hG : ct_G z M tc tb nt) (h1 : vp_in x1 nt ∧ (tb x1.toNatClampNeg).length < 24 → ∀ M', ct_G z M' tc (tb_set tb x1.toNatClampNeg (tb x1.toNatClampNeg ++ [tb_row (tc x1.toNatClampNeg) x2 x3 x4 x5])) nt → ct_fr M M' → K (nI ((tb x1.toNatClampNeg).length + 1)) z M' L) (h0 : ¬ (vp_in x1 nt ∧ (tb x1.toNatClampNeg).length < 24) → K (-1) z M L) : wRunI (d, 0, 0) mX0_row [.ref 1, .int x1, .int x2, .int x3, .int x4, .int x5] z M L K := by
  obtain ⟨d, rfl, hd⟩ := ak_deep hd
  obtain ⟨g0, g1, g2, g3⟩ := hG
  refine fX0_row_e (cl_isTable g1 g2 (fun i1 => ⟨fun e => absurd e (by decide), fun _ => ?_⟩) (fun i1 => ⟨fun _ => wQi_i (h0 fun p => i1 p.1), fun e => absurd rfl e⟩))
  obtain ⟨k, hk, rfl⟩ := vp_in_of i1 (by omega)
  have hin : vp_in (nI k) 6 := vp_in_nI (by omega) (by omega)
  rw [nI_clamp (by omega)] at h1 h0
  obtain ⟨tT, tc1, tc4⟩ := g3 k hk
  obtain ⟨t1, t2, t3, t4, t5, t6, t7⟩ := id tT
  rw [nI_clamp (by omega)]
  refine ⟨hin, am_bR_i (tb_ref t1) (am_gd_i (by rw [tb_typ t1]; rfl) ?_)⟩
  have e24 : (M (667 + 2 * k) 2 = 24) ↔ (tb k).length = 24 := by rw [t4]; exact nI_eq (b := 24) (by omega) (by omega)
  refine ⟨fun q => wQi_i (h0 fun p => by have := e24.mp q; omega), fun q => ⟨hin, am_bR_i (tb_ref t1) ?_⟩⟩
  rw [e24] at q
  refine cl_row_35 (by omega) tT tc4 (by omega) (fun M' f t => h1 ⟨i1, by omega⟩ M' ⟨g0, g1, ?_, fun j hj => ?_⟩ fun c hc => f c (by omega) (by omega)) (tc k) 0 M (by omega) (fun _ _ => rfl) ?_
  · rw [f 1 (by omega) (by omega)]; exact g2
  · by_cases e : j = k
    · subst e
      rw [tb_new]; exact ⟨t, tc1, tc4⟩
    · rw [tb_old e]
      refine ⟨tb_T_mv (g3 j hj).1 (f _ (by omega) (by omega)) (f _ (by omega) (by omega)), (g3 j hj).2⟩
  · show sl_at _ 0 ((tb k).flatten ++ [])
    rw [List.append_nil]; exact t7
theorem cc_empty (hd : 1 ≤ d) (hG : ct_G z M tc tb nt) (h1 : vp_in x1 nt → ∀ M', ct_G z M' tc (tb_set tb x1.toNatClampNeg []) nt → ct_fr M M' → K (nI (tb x1.toNatClampNeg).length) z M' L) (h0 : ¬ vp_in x1 nt → K (-1) z M L) : wRunI (d, 0, 0) mX0_empty [.ref 1, .int x1] z M L K := by
  obtain ⟨d, rfl, hd⟩ := ak_deep hd
  obtain ⟨g0, g1, g2, g3⟩ := hG
  refine fX0_empty_e (cl_isTable g1 g2 (fun i1 => ⟨fun e => absurd e (by decide), fun _ => ?_⟩) (fun i1 => ⟨fun _ => wQi_i (h0 i1), fun e => absurd rfl e⟩))
  have h1 := h1 i1
  obtain ⟨k, hk, rfl⟩ := vp_in_of i1 (by omega)
  have hin : vp_in (nI k) 6 := vp_in_nI (by omega) (by omega)
  rw [nI_clamp (by omega)] at h1
  obtain ⟨tT, tc1, tc4⟩ := g3 k hk
  obtain ⟨t1, t2, t3, t4, t5, t6, t7⟩ := id tT
  rw [nI_clamp (by omega)]
  refine ⟨hin, am_bR_i (tb_ref t1) (am_gd_i (by rw [tb_typ t1]; rfl) ⟨hin, am_bR_i (tb_ref t1) (am_gd_i (by rw [tb_typ t1]; rfl) (wQi_i ?_))⟩)⟩
  rw [t4]
  refine h1 _ ⟨g0, g1, by rw [ak_up_cell (by omega)]; exact g2, fun j hj => ?_⟩ fun c hc => ak_up_cell (by omega)
  by_cases e : j = k
  · subst e
    rw [tb_new]
    exact ⟨⟨t1, t2, by rw [ak_up_ne (by omega)]; exact t3, by rw [ak_up_same]; rfl, sl_W_nil, Nat.zero_le _, sl_nil⟩, tc1, tc4⟩
  · rw [tb_old e]
    exact ⟨tb_T_mv (g3 j hj).1 (ak_up_cell (by omega)) (ak_up_cell (by omega)), (g3 j hj).2⟩
/-! the answer is copied -/
theorem cl_cell5 {l p w i j : Nat} {R AR : List ay_Row} {od : List Nat} (hB : xe_B M l p w R) (hp : p + R.length * w ≤ 600000) (hR : R.length ≤ 8192) (ho : sl_at (M 646) 0 (xe_nl od)) (hs : xe_srt R od) (hA : AR = sm_srt R) (hi : i < R.length) (hj : j < w) (h : K ((AR.getD i []).getD j 0) z M L) : wRunI (d, 0, 0) mX5_cell [.ref 628, .int (nI l), .int (nI i), .int (nI j)] z M L K := by
  obtain ⟨b1, b2, b3, b4, b5, b6⟩ := hB
  obtain ⟨s1, s2⟩ := hs
  have ol : od.length = R.length := by rw [s1.length_eq, List.length_range]
  obtain ⟨q, hq⟩ := sl_idx (R := od) (k := i) (by omega)
  have qR : q < R.length := List.mem_range.mp (s1.mem_iff.mp (List.mem_of_getElem? hq))
  have m46 : M 646 i = nI q := by
    have := ho i (nI q) (by unfold xe_nl; rw [List.getElem?_map, hq]; rfl)
    rw [Nat.zero_add] at this; exact this
  obtain ⟨row, hrow⟩ := sl_idx (R := R) (k := q) qR
  have eA : AR.getD i [] = row := by
    rw [hA, ← s2, List.getD_eq_getElem?_getD, List.getElem?_map, hq]
    show R.getD q [] = row
    rw [List.getD_eq_getElem?_getD, hrow]; rfl
  rw [eA] at h
  have lt := an_ix qR hj
  have cel := sl_fcell b6 b5 hrow hj
  refine fX5_cell_e ?_
  rw [nI_clamp (by omega), nI_clamp (by omega), b2, b4, m46, pk_mul, nI_add, nI_add, nI_clamp (by omega), cel]
  exact ⟨vp_in_nI (by omega) (by omega), vp_in_nI (by omega) (by omega), vp_in_nI (by omega) (by omega), vp_in_nI (by omega) (by omega), wQi_i h⟩
theorem cl_copy_109 {M0 : wd_M} {l p w i : Nat} {R AR : List ay_Row} {od : List Nat} (hB : xe_B M0 l p w R) (hp : p + R.length * w ≤ 600000) (hR : R.length ≤ 3000) (hw : w ≤ 8) (ho : sl_at (M0 646) 0 (xe_nl od)) (hs : xe_srt R od) (hA : AR = sm_srt R) (h17 : M0 1 7 = nI R.length) (h18 : M0 1 8 = nI w) (hi : i < R.length)
    (hQ : ∀ M', (∀ c, c ≠ 649 → M' c = M0 c) → sl_at (M' 649) 0 (AR.take (i + 1)).flatten → wRun (d + 1, 0, 0) mX0_run 98 [some (.ref 1), none, some (.int (nI l)), some (.int (nI (i + 1))), none] [] z M' L (wQi K)) :
    ∀ (m j : Nat) (M : wd_M), j + m = w → (∀ c, c ≠ 649 → M c = M0 c) → sl_at (M 649) 0 ((AR.take i).flatten ++ (AR.getD i []).take j) → wRun (d + 1, 0, 0) mX0_run 109 [some (.ref 1), none, some (.int (nI l)), some (.int (nI i)), some (.int (nI j))] [] z M L (wQi K)
  | 0, j, M, hj, he, hsl => by
    have ej : j = w := by omega
    subst ej
    have m8 : M 1 8 = nI j := by rw [he 1 (by omega)]; exact h18
    have Al : AR.length = R.length := by rw [hA, (sm_srt_perm R).length_eq]
    have AW : sl_W j AR := by rw [hA]; exact sl_W_sub hB.2.2.2.2.1 fun r hr => (sm_srt_perm R).mem_iff.mp hr
    obtain ⟨row, hrow⟩ := sl_idx (R := AR) (k := i) (by omega)
    refine fX0_run_109 ⟨fun _ => ?_, fun h => absurd (by rw [m8]; exact nI_le (Nat.le_refl _) (by omega)) h⟩
    rw [nI_1]
    refine hQ M he ?_
    have eg : AR.getD i [] = row := by rw [List.getD_eq_getElem?_getD, hrow]; rfl
    have tk : row.take j = row := List.take_of_length_le (by rw [sl_W_at AW hrow]; exact Nat.le_refl _)
    rw [eg, tk] at hsl
    rw [sl_take hrow, List.flatten_append]
    show sl_at _ 0 ((AR.take i).flatten ++ (row ++ []))
    rw [List.append_nil]; exact hsl
  | m + 1, j, M, hj, he, hsl => by
    have m8 : M 1 8 = nI w := by rw [he 1 (by omega)]; exact h18
    have Al : AR.length = R.length := by rw [hA, (sm_srt_perm R).length_eq]
    have AW : sl_W w AR := by rw [hA]; exact sl_W_sub hB.2.2.2.2.1 fun r hr => (sm_srt_perm R).mem_iff.mp hr
    obtain ⟨row, hrow⟩ := sl_idx (R := AR) (k := i) (by omega)
    have eg : AR.getD i [] = row := by rw [List.getD_eq_getElem?_getD, hrow]; rfl
    have rl := sl_W_at AW hrow
    have lt := an_ix (n := R.length) (w := w) (i := i) (j := j) hi (by omega)
    have l8 : R.length * w ≤ 3000 * 8 := Nat.mul_le_mul hR hw
    have hB' : xe_B M l p w R := xe_B_mv hB (by rw [he _ (by omega)]) (by rw [he _ (by omega)]) (by rw [he _ (by omega)]) (fun i _ _ => by rw [he _ (by omega)])
    refine fX0_run_109 ⟨fun h => absurd h (by rw [m8]; exact nI_ge (by omega) (by omega)), fun _ => ?_⟩
    refine cl_cell5 hB' hp (by omega) (by rw [he _ (by omega)]; exact ho) hs hA hi (by omega) ?_
    rw [m8, pk_mul, nI_add, nI_clamp (by omega), nI_1]
    refine ⟨vp_in_nI (by omega) (by omega), cl_copy_109 hB hp hR hw ho hs hA h17 h18 hi hQ m (j + 1) _ (by omega) (fun c hc => by rw [ak_up_cell hc]; exact he c hc) ?_⟩
    rw [eg] at hsl ⊢
    have tW : sl_W w (AR.take i) := sl_W_sub AW fun r hr => List.mem_of_mem_take hr
    have ln : ((AR.take i).flatten ++ row.take j).length = i * w + j := by
      rw [List.length_append, sl_flen tW, List.length_take, List.length_take]
      rw [show min i AR.length = i by omega, show min j row.length = j by omega]
    have hv : row[j]? = some (row.getD j 0) := by rw [List.getD_eq_getElem?_getD, List.getElem?_eq_getElem (by omega)]; rfl
    rw [sl_take hv, ← List.append_assoc, ak_up_own, sl_app, ln]
    refine ⟨sl_upd hsl (by rw [ln]; omega), ?_⟩
    rw [sl_one, Nat.zero_add]; exact pk_us
theorem cl_copy_98 {M0 : wd_M} {l p w : Nat} {R AR : List ay_Row} {od : List Nat} (hB : xe_B M0 l p w R) (hp : p + R.length * w ≤ 600000) (hR : R.length ≤ 3000) (hw : w ≤ 8) (ho : sl_at (M0 646) 0 (xe_nl od)) (hs : xe_srt R od) (hA : AR = sm_srt R) (h17 : M0 1 7 = nI R.length) (h18 : M0 1 8 = nI w)
    (hK : ∀ M', (∀ c, c ≠ 649 → M' c = M0 c) → sl_at (M' 649) 0 AR.flatten → K (nI R.length) z M' L) :
    ∀ (m i : Nat) (M : wd_M), i + m = R.length → (∀ c, c ≠ 649 → M c = M0 c) → sl_at (M 649) 0 (AR.take i).flatten → wRun (d + 1, 0, 0) mX0_run 98 [some (.ref 1), none, some (.int (nI l)), some (.int (nI i)), none] [] z M L (wQi K)
  | 0, i, M, hi, he, hsl => by
    have m7 : M 1 7 = nI R.length := by rw [he 1 (by omega)]; exact h17
    have Al : AR.length = R.length := by rw [hA, (sm_srt_perm R).length_eq]
    refine fX0_run_98 ⟨fun _ => wQi_i ?_, fun h => absurd (by rw [m7]; exact nI_le (by omega) (by omega)) h⟩
    rw [m7]
    refine hK M he ?_
    rw [List.take_of_length_le (by omega)] at hsl; exact hsl
  | m + 1, i, M, hi, he, hsl => by
    have m7 : M 1 7 = nI R.length := by rw [he 1 (by omega)]; exact h17
    refine fX0_run_98 ⟨fun h => absurd h (by rw [m7]; exact nI_ge (by omega) (by omega)), fun _ => ?_⟩
    refine cl_copy_109 hB hp hR hw ho hs hA h17 h18 (by omega) (fun M' he' hs' => cl_copy_98 hB hp hR hw ho hs hA h17 h18 hK m (i + 1) M' (by omega) he' hs') w 0 M (by omega) he ?_
    rw [List.take_zero, List.append_nil]; exact hsl
end RW
