/-! CALLS: run -/
theorem nI_z {l : Nat} (h : l < 2 ^ 32) : nI l = 0 ↔ l = 0 := by
  constructor
  · intro e
    have := pk_tn h
    rw [e] at this
    exact this.symm
  · rintro rfl; rfl
def rn_AR (T : Nat → sm_T) (tb : Nat → List ay_Row) (t : Nat) : List ay_Row := sm_srt (sm_S T tb t (fun _ => 0)).2
section RN
variable {d : Nat} {z : wd_Z} {L : wd_L} {M : wd_M} {K : Int32 → wd_Z → wd_M → wd_L → Prop} {T : Nat → sm_T} {N : Nat} {tc : Nat → Nat} {tb : Nat → List ay_Row} {nt : Nat} {tr : Nat → Nat} {x1 : Int32}
theorem rn_AW {t : Nat} (H : lw_H T tc nt N tb tr) (ht : t < N) (hs : sm_sort (sm_k (T t)) = 2) (hc : sm_zc T tr t ≤ 3000) : an_W (rn_AR T tb t) (sm_w (T t)) := by
  have sz := sm_sizes H.1 (fun k hk => ⟨(H.2 k hk).1, (H.2 k hk).2.1⟩) t ht hc hs
  unfold rn_AR
  refine ⟨sl_W_sub (sm_width H.1 (fun k hk => ⟨(H.2 k hk).1, (H.2 k hk).2.2.1⟩) t ht hs fun _ => 0) fun r hr => (sm_srt_perm _).mem_iff.mp hr, ?_, (H.1 t ht).2.1⟩
  rw [(sm_srt_perm _).length_eq]
  have := sz.2.2 fun _ => 0
  have := sz.1
  omega
theorem cl_isBag (hd : 2 ≤ d) (hT : tx_T M T N) (w : sm_wf T tc nt N) (h1 : ap_is T N x1 2 → K 1 z M L) (h0 : ¬ ap_is T N x1 2 → K 0 z M L) : wRunI (d, 0, 0) mX1_isBag [.ref 3, .int x1] z M L K := by
  obtain ⟨d, rfl, hd⟩ := ak_deep hd
  exact fX1_isBag_e (cl_is (by omega) hT w rfl (by decide) (fun a => am_gz1 (wQi_i (h1 a))) (fun a => am_gz0 (wQi_i (h0 a))))
theorem cc_run (hd : 1100 ≤ d) (H : lw_H T tc nt N tb tr) (hT : tx_T M T N) (hG : ct_G z M tc tb nt) (hall : xe_all M)
    (h1 : ¬ ap_is T N x1 2 → K (-1) z M L)
    (h2 : ap_is T N x1 2 → sm_l (T x1.toNatClampNeg) ≠ 0 → K (-2) z M L)
    (h3 : ap_is T N x1 2 → sm_l (T x1.toNatClampNeg) = 0 → 3000 < sm_zc T tr x1.toNatClampNeg → ∀ M', ak_fr 12 13 M M' → K (-3) z M' L)
    (h4 : ap_is T N x1 2 → sm_l (T x1.toNatClampNeg) = 0 → sm_zc T tr x1.toNatClampNeg ≤ 3000 → ∀ z' M', (z'.1 = z.1 ∧ z'.2.1 = z.2.1 ∧ z'.2.2.1 = z.2.2.1) → (∀ c, (c = 0 ∨ (1 < c ∧ c < 12) ∨ 649 < c) → M' c = M c) → (∀ i, i < 7 → M' 1 i = M 1 i) → xe_all M' → an_C M' (rn_AR T tb x1.toNatClampNeg) (sm_w (T x1.toNatClampNeg)) → K (nI (rn_AR T tb x1.toNatClampNeg).length) z' M' L) :
    wRunI (d, 0, 0) mX0_run [.ref 1, .int x1] z M L K := by
  obtain ⟨d, rfl, hd⟩ := ak_deep hd
  have hN := hT.2.1
  have w := H.1
  refine fX0_run_e (cl_isBag (by omega) hT w (fun a => ⟨fun e => absurd e (by decide), fun _ => ?_⟩) (fun a => ⟨fun _ => wQi_i (h1 a), fun e => absurd rfl e⟩))
  have h2 := h2 a
  have h3 := h3 a
  have h4 := h4 a
  obtain ⟨t, ht, rfl⟩ := vp_in_of a.1 (by omega)
  have hs : sm_sort (sm_k (T t)) = 2 := by have := a.2; rw [nI_clamp (by omega)] at this; exact this
  have e0 : T (nI t).toNatClampNeg = T t := by rw [nI_clamp (by omega)]
  rw [e0] at h2 h3 h4
  rw [nI_clamp (by omega)] at h3 h4
  have l32 := (w t ht).2.2.1
  rw [nI_clamp (by omega), (hT.2.2 t ht).2.2.2.2.2.2.2, nI_z l32]
  refine ⟨vp_in_nI (by omega) (by omega), fun hl => ?_, fun hl => wQi_i (h2 hl)⟩
  have hR : cl_tr z M nt tr := ⟨hG.1, hG.2.1, fun k hk => by
    have := H.2 k hk
    obtain ⟨q1, q2, q3, q4, q5, q6, q7⟩ := (hG.2.2.2 k hk).1
    rw [← this.2.1]; exact ⟨q4, q6⟩⟩
  have zc := (zz_le (t := t) w (cl_tr_r hR) ht).2
  refine cl_cost (by omega) hT w hR ht fun M1 f1 _ => ?_
  have e3 : (nI (sm_zc T tr t) ≤ 3000) ↔ sm_zc T tr t ≤ 3000 := nI_leI (b := 3000) (by omega) (by omega)
  rw [e3]
  refine ⟨fun hc => ?_, fun hc => wQi_i (h3 hl (by omega) M1 f1)⟩
  have h4 := h4 hl hc
  obtain ⟨X, R, v1, v2, v3, v4, v5, v6, v7⟩ := lw_whole H hN ht hs hl hc
  have hT1 : tx_T M1 T N := tx_T_fr hT fun c h1 h2 => f1 c (by omega)
  refine rx_whole (tr := tr) w hT1 ht (lw_sort2.mp hs) hl (by omega) hc v6 v7 fun M2 s2 f2 => ?_
  have all2 : xe_all M2 := by unfold xe_all at *; rw [f2 644 (by omega), f1 644 (by omega)]; exact hall
  have rn : xe_rn M2 tc tb nt (ex_at tc tb (cp_whole T t).2.1) (cp_whole T t).2.1 (cp_whole T t).2.2 (cp_whole T t).1 := ⟨v6, v7, v3.1, s2, cv_end v1 v2, all2⟩
  refine xe_run (by omega) rn (fun k hk => ⟨tb_T_fr (hG.2.2.2 k hk).1 fun c hc => by rw [f2 c (by omega), f1 c (by omega)], (hG.2.2.2 k hk).2.2, by have := hG.2.1; omega⟩) fun z3 M3 ez f3 all3 hB3 => ?_
  obtain ⟨p, hB, hp⟩ := hB3
  have v32 := v3.2
  unfold xe_1 at hp
  rw [v32] at hB hp
  have hB : xe_B M3 (cp_whole T t).1 p (sm_w (T t)) R := hB
  have hp : p + R.length * sm_w (T t) ≤ 600000 := hp
  have w8 := (w t ht).2.1
  have lastlt := v3.1
  refine xe_sort (by omega) hB hp (by omega) (by omega) fun M4 od so4 srt sl4 => ?_
  have hB4 : xe_B M4 (cp_whole T t).1 p (sm_w (T t)) R := xe_B_so hB so4
  have e40 : M4 640 (cp_whole T t).1 = nI R.length := hB4.2.2.1
  have e41 : M4 641 (cp_whole T t).1 = nI (sm_w (T t)) := hB4.2.2.2.1
  have inl : vp_in (nI (cp_whole T t).1) 32768 := vp_in_nI (by omega) (by omega)
  rw [nI_clamp (show (cp_whole T t).1 < 2 ^ 31 by omega), e40, ak_up_cell (c' := 641) (c := 1) (by omega), e41]
  refine ⟨inl, inl, ?_⟩
  have ear : rn_AR T tb t = sm_srt R := (sm_srt_congr (v4 fun _ => 0)).symm
  have hB5 : xe_B (am_up2 (am_up2 M4 1 7 (nI R.length)) 1 8 (nI (sm_w (T t)))) (cp_whole T t).1 p (sm_w (T t)) R := xe_B_mv hB4 (by rw [ak_up_cell (by omega), ak_up_cell (by omega)]) (by rw [ak_up_cell (by omega), ak_up_cell (by omega)]) (by rw [ak_up_cell (by omega), ak_up_cell (by omega)]) (fun i _ _ => by rw [ak_up_cell (by omega), ak_up_cell (by omega)])
  have len : (rn_AR T tb t).length = R.length := by rw [ear, (sm_srt_perm R).length_eq]
  refine cl_copy_98 hB5 hp v5 w8 (by rw [ak_up_cell (by omega), ak_up_cell (by omega)]; exact sl4) srt ear (by rw [ak_up_ne (by omega), ak_up_same]) ak_up_same (fun M' he hsl => ?_) R.length 0 _ (by omega) (fun _ _ => rfl) sl_nil
  rw [← len]
  have cell : ∀ c, c ≠ 649 → c ≠ 1 → c ≠ 646 → c ≠ 647 → M' c = M3 c := fun c c1 c2 c3 c4 => by
    rw [he c c1, ak_up_cell c2, ak_up_cell c2, so4 c c3 c4]
  refine h4 z3 M' ez (fun c hc => ?_) (fun i hi => ?_) ?_ ⟨?_, ?_, hsl⟩
  · rw [cell c (by omega) (by omega) (by omega) (by omega), f3 c (by omega), f2 c (by omega), f1 c (by omega)]
  · rw [he 1 (by omega), ak_up_ne (by omega), ak_up_ne (by omega), so4 1 (by omega) (by omega), f3 1 (by omega), f2 1 (by omega), f1 1 (by omega)]
  · unfold xe_all at *
    rw [cell 644 (by omega) (by omega) (by omega) (by omega)]; exact all3
  · rw [he 1 (by omega), ak_up_ne (by omega), ak_up_same, len]
  · rw [he 1 (by omega), ak_up_same]
theorem rn_b {l : Nat} (h : l % 256 = 0) (h' : l / 256 = 0) : l = 0 := by omega
theorem rn_l0 {l : Nat} (h : l < 2 ^ 32) (e : l >>> (8 * 0) % 256 + l >>> (8 * 1) % 256 + l >>> (8 * 2) % 256 + l >>> (8 * 3) % 256 ≤ 0) : l = 0 := by
  rw [Nat.shiftRight_eq_div_pow, Nat.shiftRight_eq_div_pow, Nat.shiftRight_eq_div_pow, Nat.shiftRight_eq_div_pow] at e
  have e0 : (2 : Nat) ^ (8 * 0) = 1 := rfl
  have e1 : (2 : Nat) ^ (8 * 1) = 256 := rfl
  have e2 : (2 : Nat) ^ (8 * 2) = 65536 := rfl
  have e3 : (2 : Nat) ^ (8 * 3) = 16777216 := rfl
  have d1 : l / 65536 = l / 256 / 256 := by rw [Nat.div_div_eq_div_mul]
  have d2 : l / 16777216 = l / 256 / 256 / 256 := by rw [Nat.div_div_eq_div_mul, Nat.div_div_eq_div_mul]
  rw [e0, e1, e2, e3, Nat.div_one, d1, d2] at e
  have t : l / 256 / 256 / 256 / 256 = 0 := by
    rw [Nat.div_div_eq_div_mul, Nat.div_div_eq_div_mul, Nat.div_div_eq_div_mul]
    exact Nat.div_eq_of_lt h
  have s0 := Nat.le_zero.mp e
  rw [Nat.add_eq_zero_iff, Nat.add_eq_zero_iff, Nat.add_eq_zero_iff] at s0
  exact rn_b s0.1.1.1 (rn_b s0.1.1.2 (rn_b s0.1.2 (rn_b s0.2 t)))
theorem mc_run (hd : 1100 ≤ d) (H : lw_H T tc nt N tb tr) (hT : my_tt M T N) (hG : mt_G M tc tb nt)
    (h1 : ¬ ap_is T N x1 2 → K (-1) z M L)
    (h2 : ap_is T N x1 2 → sm_l (T x1.toNatClampNeg) ≠ 0 → K (-2) z M L)
    (h3 : ap_is T N x1 2 → sm_l (T x1.toNatClampNeg) = 0 → 3000 < sm_zc T tr x1.toNatClampNeg → ∀ L', K (-3) z M L')
    (h4 : ap_is T N x1 2 → sm_l (T x1.toNatClampNeg) = 0 → sm_zc T tr x1.toNatClampNeg ≤ 3000 → ∀ M' L', (∀ c, (c < 650 ∨ (650 < c ∧ c < 664) ∨ 666 < c) → M' c = M c) → (∀ i, i < 15 → M' 650 i = M 650 i) → an_M M' (rn_AR T tb x1.toNatClampNeg) (sm_w (T x1.toNatClampNeg)) → K (nI (rn_AR T tb x1.toNatClampNeg).length) z M' L') :
    wRunI (d, 0, 0) mX8_run [.ref 650, .int x1] z M L K := by
  obtain ⟨d, rfl, hd⟩ := ak_deep hd
  have hN := hT.2.1
  have w := H.1
  refine fX8_run_e (mm_is (by omega) hT w rfl (by decide) (fun a => ⟨fun e => absurd e (by decide), fun _ => ?_⟩) (fun a => ⟨fun _ => wQi_i (h1 a), fun e => absurd rfl e⟩))
  have h2 := h2 a
  have h3 := h3 a
  have h4 := h4 a
  obtain ⟨t, ht, rfl⟩ := vp_in_of a.1 (by omega)
  have hs : sm_sort (sm_k (T t)) = 2 := by have := a.2; rw [nI_clamp (by omega)] at this; exact this
  have e0 : T (nI t).toNatClampNeg = T t := by rw [nI_clamp (by omega)]
  rw [e0] at h2 h3 h4
  rw [nI_clamp (by omega)] at h3 h4
  have l32 := (w t ht).2.2.1
  have m61 := (hT.2.2 t ht).2.2.2.2.2.2.2
  have m56 := (hT.2.2 t ht).2.2.1
  have bl : ∀ x : Nat, x % 256 < 256 := fun x => Nat.mod_lt _ (by omega)
  have b0 := bl (sm_l (T t) >>> (8 * 0))
  have b1 := bl (sm_l (T t) >>> (8 * 1))
  have b2 := bl (sm_l (T t) >>> (8 * 2))
  have b3 := bl (sm_l (T t) >>> (8 * 3))
  have q0 : M 661 (4 * t) = nI (sm_l (T t) >>> (8 * 0) % 256) := m61 0 (by omega)
  have e4 : 4 * nI t = nI (4 * t) := by rw [ak_n4, pk_mul]
  rw [e4, ak_n1, ak_n2, ak_n3, nI_add, nI_add, nI_add, nI_clamp (by omega), nI_clamp (by omega), nI_clamp (by omega), nI_clamp (by omega), q0, m61 1 (by omega), m61 2 (by omega), m61 3 (by omega), nI_add, nI_add, nI_add]
  have es : (nI (sm_l (T t) >>> (8 * 0) % 256 + sm_l (T t) >>> (8 * 1) % 256 + sm_l (T t) >>> (8 * 2) % 256 + sm_l (T t) >>> (8 * 3) % 256) ≤ 0) ↔ sm_l (T t) = 0 := by
    refine (nI_leI (b := 0) (by omega) (by omega)).trans ⟨fun q => rn_l0 l32 q, fun q => ?_⟩
    rw [q]; decide
  rw [es]
  refine ⟨vp_in_nI (by omega) (by omega), vp_in_nI (by omega) (by omega), vp_in_nI (by omega) (by omega), vp_in_nI (by omega) (by omega), fun hl => ?_, fun hl => wQi_i (h2 hl)⟩
  have hr : ∀ k, k < nt → k < 6 ∧ tr k ≤ 24 ∧ M 652 k = nI (tr k) := fun k hk => by
    have := H.2 k hk
    obtain ⟨q1, q2, q3, -⟩ := hG.2.2.1 k hk
    rw [← this.2.1]; exact ⟨this.1, q3, q2⟩
  have zc := (zz_le (t := t) w (fun k hk => ⟨(hr k hk).1, (hr k hk).2.1⟩) ht).2
  refine mm_measure (by omega) hT w hr fun L1 hL => ?_
  rw [nI_clamp (show t < 2 ^ 31 by omega), (hL t ht).2]
  have e3 : (lg_cmp (lN (sm_zc T tr t)) 3000 ≤ 0) ↔ sm_zc T tr t ≤ 3000 := by rw [lg_cmp_le]; exact pk_lLE (b := 3000) (by omega) (by omega)
  rw [e3]
  have hin : vp_in (nI t) 120 := vp_in_nI (by omega) (by omega)
  refine ⟨hin, fun hc => ?_, fun hc => wQi_i (h3 hl (by omega) L1)⟩
  have h4 := h4 hl hc
  have G0 : my_G M T N tc tb nt := ⟨hN, hG.2.1, hT.2.2, hG.2.2.1⟩
  have bc := ((my_all (tb := tb) w (fun k hk => ⟨(H.2 k hk).1, (H.2 k hk).2.1⟩)) t ht hc).2.2 hs
  have pre : my_pre T tc nt N tb tr t 0 0 (fun _ => 0) (am_up2 (am_up2 M 650 19 0) 650 21 0) := ⟨my_G_mv G0 fun c h1 h2 => by rw [ak_up_cell (by omega), ak_up_cell (by omega)], ⟨by rw [ak_up_ne (by omega), ak_up_same]; rfl, by rw [ak_up_same]; rfl⟩, fun k _ hb => by rw [hl] at hb; simp at hb, by omega, by omega⟩
  refine bc d z L1 _ (fun _ => 0) 0 0 _ (by omega) pre fun M2 R f2 s2 pr hA => ?_
  have sz := sm_sizes w (fun k hk => ⟨(H.2 k hk).1, (H.2 k hk).2.1⟩) t ht hc hs
  have rl : R.length ≤ 3000 := by
    rw [pr.length_eq]
    have := sz.2.2 fun _ => 0
    have := sz.1
    omega
  have w8 := (w t ht).2.1
  have w1 := (w t ht).2.2.2 (lw_sort2.mp hs)
  have l8 : sm_w (T t) * R.length ≤ 8 * 3000 := Nat.mul_le_mul w8 rl
  have m56' : M2 656 t = nI (sm_w (T t)) := by
    rw [f2.1 656 (by omega) (by omega) (by omega), ak_up_cell (by omega), ak_up_cell (by omega)]; exact m56
  rw [ak_up_cell (c' := 656) (c := 650) (by omega), m56']
  have r15 : am_up2 (am_up2 M2 650 15 (nI R.length)) 650 16 (nI (sm_w (T t))) 650 15 = nI R.length := by rw [ak_up_ne (by omega), ak_up_same]
  have r16 : am_up2 (am_up2 M2 650 15 (nI R.length)) 650 16 (nI (sm_w (T t))) 650 16 = nI (sm_w (T t)) := ak_up_same
  rw [r15, r16]
  generalize hM3 : am_up2 (am_up2 M2 650 15 (nI R.length)) 650 16 (nI (sm_w (T t))) = M3 at r15 r16 ⊢
  have A3 : my_A M3 0 (sm_w (T t)) R := by
    unfold my_A at *
    rw [← hM3, ak_up_cell (by omega), ak_up_cell (by omega)]; exact hA
  refine ⟨hin, ?_⟩
  rw [ak_n0]
  refine my_order (by omega) w1 (by omega) (by omega) A3 fun M4 R4 A4 p4 t4 f4 g4 => ?_
  have l4 : R4.length = R.length := p4.length_eq
  have e4' : R4 = sm_srt R := by
    rw [List.take_of_length_le (by omega), List.take_of_length_le (by rw [(sm_srt_perm R).length_eq]; exact Nat.le_refl _)] at t4
    exact t4
  have ear : rn_AR T tb t = R4 := by rw [e4']; exact (sm_srt_congr pr).symm
  rw [f4 650 (by omega), r15, r16, pk_mul, Nat.mul_comm R.length]
  rw [nI_clamp (show sm_w (T t) * R.length < 2 ^ 31 by omega)]
  refine ⟨by decide, by decide, nI_pos (by omega), ?_, ?_, wQi_i ?_⟩
  · show 0 + _ ≤ _; omega
  · show 0 + _ ≤ _; omega
  · have e15 : am_copy M4 665 664 ((nI 0).toNatClampNeg) ((nI 0).toNatClampNeg) (sm_w (T t) * R.length) 650 15 = nI (rn_AR T tb t).length := by rw [ak_cp_cell (by omega), f4 650 (by omega), r15, ear, l4]
    rw [e15]
    have c3 : ∀ c, c ≠ 650 → c ≠ 664 → c ≠ 665 → c ≠ 666 → am_copy M4 665 664 ((nI 0).toNatClampNeg) ((nI 0).toNatClampNeg) (sm_w (T t) * R.length) c = M c := fun c h1 h2 h3 h5 => by
      rw [ak_cp_cell h2, f4 c h3, ← hM3, ak_up_cell h1, ak_up_cell h1, f2.1 c h1 h3 h5, ak_up_cell h1, ak_up_cell h1]
    refine h4 _ L1 (fun c hc => c3 c (by omega) (by omega) (by omega) (by omega)) (fun i hi => ?_) ⟨?_, ?_, ?_⟩
    · rw [ak_cp_cell (by omega), f4 650 (by omega), ← hM3, ak_up_ne (by omega), ak_up_ne (by omega), f2.2.1 i (by omega) (by omega), ak_up_ne (by omega), ak_up_ne (by omega)]
    · rw [ak_cp_cell (by omega), f4 650 (by omega), r15, ear, l4]
    · rw [ak_cp_cell (by omega), f4 650 (by omega), r16]
    · rw [ak_cp_own, ear]
      refine sl_cpy_in A4.2 ?_
      rw [sl_flen A4.1, l4, Nat.mul_comm]
end RN
