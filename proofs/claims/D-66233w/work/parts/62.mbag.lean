/-! CONTRACTS of ApplyFreeModel: bags, one row after another -/
section MY
variable {T : Nat → sm_T} {tc : Nat → Nat} {nt N : Nat} {tb : Nat → List ay_Row} {tr : Nat → Nat} {d : Nat} {z : wd_Z} {L : wd_L}
/-- a part that is a bag, in the same rows around -/
theorem my_bag_at {t s q q1 dp : Nat} {e : sm_E} {M M1 : wd_M} {K : Int32 → wd_Z → wd_M → wd_L → Prop} (w : sm_wf T tc nt N) (hT : ∀ k, k < nt → k < 6 ∧ (tb k).length = tr k) (ht : t < N) (ih : my_IH T tc nt N tb tr t) (hpre : my_pre T tc nt N tb tr t q dp e M) (hst : s < t) (hsort : sm_sort (sm_k (T s)) = 2) (hcs : sm_zc T tr s ≤ 3000) (hl : ∀ k, (sm_l (T s)).testBit k = true → (sm_l (T t)).testBit k = true)
    (f : my_fr q dp M M1) (s1 : my_st M1 q1 dp) (hq1 : q ≤ q1) (hr : q1 + 24 * sm_zc T tr s ≤ 600000) (hd : 4 * s + 8 ≤ d)
    (hK : ∀ M2 R, my_fr q1 dp M1 M2 → my_st M2 (q1 + sm_w (T s) * R.length) dp → R.Perm (sm_S T tb s e).2 → my_A M2 q1 (sm_w (T s)) R → R.length ≤ sm_zs T tr s → sm_zs T tr s ≤ sm_zc T tr s → sm_w (T s) * R.length ≤ 8 * R.length → K (nI R.length) z M2 L) : wRunI (d, 0, 0) mX8_bag [.ref 650, .int (nI s)] z M1 L K := by
  have sz := sm_sizes w hT s (by omega) hcs hsort
  refine ((ih s hst hcs).2.2 hsort) d z L M1 e q1 dp K hd (my_pre_mv hpre f s1 hq1 hr (by omega) hl) fun M2 R g1 g2 g3 g4 => hK M2 R g1 g2 g3 g4 ?_ sz.1 (Nat.mul_le_mul_right _ (w s (by omega)).2.1)
  rw [g3.length_eq]; exact sz.2.2 e
/-- one row farther in -/
abbrev my_ent (M : wd_M) (dp p : Nat) : wd_M := am_up2 (am_up2 M 666 dp (nI p)) 650 21 (nI (dp + 1))
theorem my_in_pre {t s q q1 dp p wa : Nat} {e : sm_E} {M M1 : wd_M} {r : ay_Row} (hpre : my_pre T tc nt N tb tr t q dp e M) (f : my_fr q dp M M1) (s1 : my_st M1 q1 dp) (hq : q ≤ q1) (hr : sl_at (M1 665) p r) (hw : r.length = wa) (hp : p + wa ≤ q1) (hst : s < t) (hf : sm_l (T s) % 256 < 2 ^ wa) (hl : sm_l (T t) = sm_lA T t ||| sm_l (T s) >>> 8) (hcap : q1 + 24 * sm_zc T tr s ≤ 600000) : my_pre T tc nt N tb tr s q1 (dp + 1) (sm_enter r e) (my_ent M1 dp p) := by
  obtain ⟨hG, hS, hE, hq', hdp⟩ := hpre
  have e5 : my_ent M1 dp p 665 = M1 665 := by unfold my_ent; rw [ak_up_cell (by omega), ak_up_cell (by omega)]
  refine ⟨my_G_mv (my_G_fr hG f) fun c c1 c2 => by unfold my_ent; rw [ak_up_cell (by omega), ak_up_cell (by omega)], ⟨by unfold my_ent; rw [ak_up_ne (by omega), ak_up_cell (by omega)]; exact s1.1, by unfold my_ent; exact ak_up_same⟩, ?_, hcap, by omega⟩
  refine my_en_in (p := p) (w := wa) hE (fun i hi => by rw [e5]; exact f.2.2.1 i hi) (fun i hi => by unfold my_ent; rw [ak_up_cell (by omega), ak_up_ne (by omega)]; exact f.2.2.2 i hi) hq (by unfold my_ent; rw [ak_up_cell (by omega), ak_up_same]) (by rw [e5]; exact hr) hw hp hf fun k h8 hb => ?_
  rw [hl, Nat.testBit_or, Nat.testBit_shiftRight, show 8 + (k - 8) = k by omega, hb, Bool.or_true]
theorem my_leave {q1 q2 dp p : Nat} {M1 M2 : wd_M} (f : my_fr q1 (dp + 1) (my_ent M1 dp p) M2) (s : my_st M2 q2 (dp + 1)) : my_fr q1 dp M1 (am_up2 M2 650 21 (M2 650 21 - 1)) ∧ my_st (am_up2 M2 650 21 (M2 650 21 - 1)) q2 dp := by
  refine ⟨my_fr_21 ⟨fun c c1 c2 c3 => ?_, fun i i1 i2 => ?_, fun i hi => ?_, fun i hi => ?_⟩, by rw [ak_up_ne (by omega)]; exact s.1, ?_⟩
  · rw [f.1 c c1 c2 c3]; unfold my_ent; rw [ak_up_cell c1, ak_up_cell c3]
  · rw [f.2.1 i i1 i2]; unfold my_ent; rw [ak_up_ne i2, ak_up_cell (by omega)]
  · rw [f.2.2.1 i hi]; unfold my_ent; rw [ak_up_cell (by omega), ak_up_cell (by omega)]
  · rw [f.2.2.2 i (by omega)]; unfold my_ent; rw [ak_up_cell (by omega), ak_up_ne (by omega)]
  · rw [ak_up_same, s.2]; exact nI_pred dp
theorem my_rows_fr {q dp p w : Nat} {M M' : wd_M} {R : List ay_Row} (h : my_A M p w R) (f : my_fr q dp M M') (hq : p + w * R.length ≤ q) : my_A M' p w R := my_A_fr h fun i _ h2 => f.2.2.1 i (by omega)
/-- rows move down -/
theorem my_settle_r {q dp made w : Nat} {M0 M : wd_M} {R : List ay_Row} {K : Int32 → wd_Z → wd_M → wd_L → Prop} (hd : 2 ≤ d) (f : my_fr q dp M0 M) (h21 : M 650 21 = nI dp) (hA : my_A M made w R) (hm : q ≤ made) (hr : made + w * R.length ≤ 600000)
    (hK : ∀ M', my_fr q dp M0 M' → my_st M' (q + w * R.length) dp → my_A M' q w R → K (nI R.length) z M' L) : wRunI (d, 0, 0) mX8_settle [.ref 650, .int (nI made), .int (nI q), .int (nI R.length), .int (nI w)] z M L K := by
  have em : R.length * w = w * R.length := Nat.mul_comm _ _
  refine my_settle hd (by omega) (by omega) ?_
  rw [em]
  refine hK _ (my_fr_19 (my_fr_copy f (Nat.le_refl _))) ⟨ak_up_same, by rw [ak_up_ne (by omega), ak_cp_cell (by omega)]; exact h21⟩ ⟨hA.1, ?_⟩
  rw [ak_up_cell (by omega), ak_cp_own]
  exact sl_cpy_in hA.2 (by rw [sl_flen hA.1, em])
/-! scan -/
theorem my_scan_22 {k r c q0 q dp : Nat} {M0 M1 : wd_M} {row : ay_Row} {Q : am_Q} (hk : k < 6) (hr : r < 24) (hc4 : c ≤ 4) (h51 : M0 651 k = nI c) (hrow : sl_at (M0 653) (96 * k + 4 * r) row) (hl : row.length = c) (hq : q + c ≤ 600000) (hq0 : q0 ≤ q)
    (go : ∀ M', my_fr q0 dp M0 M' → my_st M' (q + c) dp → (∀ i, i < q → M' 665 i = M1 665 i) → sl_at (M' 665) q row → wRun (d, 0, 0) mX8_scanned 9 [some (.ref 650), none, some (.int (nI k)), some (.int (nI (r + 1))), none] [] z M' L Q) :
    ∀ n j (M : wd_M), j + n = c → my_fr q0 dp M0 M → my_st M (q + j) dp → (∀ i, i < q → M 665 i = M1 665 i) → sl_at (M 665) q (row.take j) → wRun (d, 0, 0) mX8_scanned 22 [some (.ref 650), none, some (.int (nI k)), some (.int (nI r)), some (.int (nI j))] [] z M L Q
  | 0, j, M, hj, f, s, h1, h2 => by
    have ej : j = c := by omega
    subst ej
    refine fX8_scanned_22 ?_
    rw [nI_clamp (show k < 2 ^ 31 by omega), f.1 651 (by omega) (by omega) (by omega), h51, nI_1]
    refine ⟨vp_in_nI hk (by omega), fun _ => go M f s h1 ?_, fun q => absurd (nI_le (Nat.le_refl _) (by omega)) q⟩
    rwa [List.take_of_length_le (by omega)] at h2
  | n + 1, j, M, hj, f, s, h1, h2 => by
    have ev : M 653 (96 * k + 4 * r + j) = row.getD j 0 := by
      rw [f.1 653 (by omega) (by omega) (by omega)]
      exact sl_getD hrow (by omega)
    refine fX8_scanned_22 ?_
    rw [nI_clamp (show k < 2 ^ 31 by omega), f.1 651 (by omega) (by omega) (by omega), h51, ak_n96, ak_n4, pk_mul, pk_mul, nI_add, nI_add, nI_clamp (show 96 * k + 4 * r + j < 2 ^ 31 by omega), ev, s.1, nI_clamp (show q + j < 2 ^ 31 by omega), ak_up_cell (by omega), s.1, nI_1, nI_1]
    refine ⟨vp_in_nI hk (by omega), fun q => absurd q (nI_ge (by omega) (by omega)), fun _ => ⟨vp_in_nI (by omega) (by omega), vp_in_nI (by omega) (by omega), ?_⟩⟩
    refine my_scan_22 hk hr hc4 h51 hrow hl hq hq0 go n (j + 1) _ (by omega) (my_fr_19 (my_fr_room f (by omega))) ⟨by rw [ak_up_same, nI_1]; rfl, by rw [ak_up_ne (by omega), ak_up_cell (by omega)]; exact s.2⟩ (fun i hi => by rw [ak_up_cell (by omega), ak_up_ne (by omega)]; exact h1 i hi) ?_
    obtain ⟨v, hv⟩ := sl_idx (show j < row.length by omega)
    have hvv : row.getD j 0 = v := by rw [List.getD_eq_getElem?_getD, hv]; rfl
    rw [sl_take hv, sl_app, ak_up_cell (by omega), ak_up_own, hvv]
    have tl : (row.take j).length = j := by rw [List.length_take]; omega
    exact ⟨sl_upd h2 (by omega), sl_one.mpr (by rw [tl, pk_us])⟩
theorem my_scan_9 {k c q dp : Nat} {M0 : wd_M} {R : List ay_Row} {K : Int32 → wd_Z → wd_M → wd_L → Prop} (hk : k < 6) (hG : my_tab M0 k c R) (hq : q + c * R.length ≤ 600000)
    (hK : ∀ M', my_fr q dp M0 M' → my_st M' (q + c * R.length) dp → my_A M' q c R → K (nI R.length) z M' L) :
    ∀ n r (M : wd_M), r + n = R.length → my_fr q dp M0 M → my_st M (q + c * r) dp → my_A M q c (R.take r) → wRun (d, 0, 0) mX8_scanned 9 [some (.ref 650), none, some (.int (nI k)), some (.int (nI r)), none] [] z M L (wQi K)
  | 0, r, M, hr, f, s, hA => by
    obtain ⟨g1, g2, g3, g4, g5, g6⟩ := id hG
    have er : r = R.length := by omega
    subst er
    rw [List.take_length] at hA
    refine fX8_scanned_9 ?_
    rw [nI_clamp (show k < 2 ^ 31 by omega), f.1 652 (by omega) (by omega) (by omega), g2]
    exact ⟨vp_in_nI hk (by omega), fun _ => ⟨vp_in_nI hk (by omega), wQi_i (hK M f s hA)⟩, fun q => absurd (nI_le (Nat.le_refl _) (by omega)) q⟩
  | n + 1, r, M, hr, f, s, hA => by
    obtain ⟨g1, g2, g3, g4, g5, g6⟩ := id hG
    obtain ⟨row, hrow⟩ := sl_idx (show r < R.length by omega)
    have lt := my_lt (w := c) (show r < R.length by omega)
    refine fX8_scanned_9 ?_
    rw [nI_clamp (show k < 2 ^ 31 by omega), f.1 652 (by omega) (by omega) (by omega), g2]
    refine ⟨vp_in_nI hk (by omega), fun q => absurd q (nI_ge (by omega) (by omega)), fun _ => ?_⟩
    have tl : (R.take r).length = r := by rw [List.length_take]; omega
    refine my_scan_22 (q0 := q) (M1 := M) (dp := dp) (c := c) hk (by omega) g5 g1 (g6 r row hrow) (sl_W_at g4 hrow) (q := q + c * r) (by omega) (by omega) (fun M' f' s' h1 h2 => ?_) c 0 M (by omega) f s (fun _ _ => rfl) (by rw [List.take_zero]; exact sl_nil)
    refine my_scan_9 hk hG hq hK n (r + 1) M' (by omega) f' ⟨by rw [s'.1, Nat.mul_succ, Nat.add_assoc], s'.2⟩ ?_
    rw [sl_take hrow]
    exact my_A_snoc (my_A_fr hA fun i i1 i2 => h1 i (by rw [tl] at i2; exact i2)) (sl_W_at g4 hrow) (by rw [tl]) h2
theorem my_scanned {t q dp : Nat} {e : sm_E} {M : wd_M} {K : Int32 → wd_Z → wd_M → wd_L → Prop} (w : sm_wf T tc nt N) (hT : ∀ k, k < nt → k < 6 ∧ (tb k).length = tr k) (ht : t < N) (hk : sm_k (T t) = 11) (hc : sm_zc T tr t ≤ 3000) (hpre : my_pre T tc nt N tb tr t q dp e M)
    (hK : ∀ M' R, my_fr q dp M M' → my_st M' (q + sm_w (T t) * R.length) dp → R.Perm (sm_S T tb t e).2 → my_A M' q (sm_w (T t)) R → K (nI R.length) z M' L) : wRunI (d, 0, 0) mX8_scanned [.ref 650, .int (nI t)] z M L K := by
  obtain ⟨hG, hS, hE, hq, hdp⟩ := id hpre
  have hN := hG.1
  obtain ⟨-, -, -, k, k1, k2, k3⟩ := sm_wf11 (w t ht).1 hk
  obtain ⟨g54, g55, g56, g57, g58, g59, g60, -⟩ := hG.2.2.1 t ht
  have hk6 := (hT k k1).1
  have e1 : my_1 (T t) = nI k := by simp [my_1, hk, k2]
  have tabk := hG.2.2.2 k k1
  have cc := sm_zcS w ht hc hk
  have zs := sm_zsS (tr := tr) w ht hk
  rw [k2, nI_clamp (by omega), ← (hT k k1).2] at zs
  refine fX8_scanned_e ?_
  rw [nI_clamp (show t < 2 ^ 31 by omega), g57, e1]
  refine ⟨vp_in_nI (by omega) (by omega), my_scan_9 (q := q) (dp := dp) hk6 tabk ?_ (fun M' f s hA => hK M' (tb k) f (by rw [k3]; exact s) ?_ (by rw [k3]; exact hA)) (tb k).length 0 M (by omega) my_fr_refl hS (by rw [List.take_zero]; exact my_A_nil)⟩
  · have : tc k * (tb k).length ≤ 4 * (tb k).length := Nat.mul_le_mul_right _ tabk.2.2.2.2.1
    omega
  · rw [sm_S_eq w ht, sm_body11 hk, k2, nI_clamp (by omega)]
/-! filter -/
theorem my_filt_30 {t q dp wa : Nat} {e : sm_E} {M0 : wd_M} {R : List ay_Row} {P : ay_Row → Bool} {K : Int32 → wd_Z → wd_M → wd_L → Prop} (hd : 1 ≤ d) (ht : t < 120) (hdp : dp < 130) (hq : q + wa * R.length ≤ 600000) (hl : R.length < 100000) (h58 : M0 658 t = nI (sm_b (T t)))
    (ev : ∀ (M1 : wd_M) r p (K : Int32 → wd_Z → wd_M → wd_L → Prop), my_fr q dp M0 M1 → my_st M1 (q + wa * R.length) dp → sl_at (M1 665) p r → r ∈ R → p + wa ≤ q + wa * R.length → (∀ M2 v, my_fr (q + wa * R.length) (dp + 1) (my_ent M1 dp p) M2 → my_st M2 (q + wa * R.length) (dp + 1) → (v = 1 ↔ P r = true) → K v z M2 L) → wRunI (d, 0, 0) mX8_truth [.ref 650, .int (nI (sm_b (T t)))] z (my_ent M1 dp p) L K)
    (hK : ∀ M', my_fr q dp M0 M' → my_st M' (q + wa * (R.filter P).length) dp → my_A M' q wa (R.filter P) → K (nI (R.filter P).length) z M' L) :
    ∀ n k (M : wd_M), k + n = R.length → my_fr q dp M0 M → my_st M (q + wa * R.length) dp → my_A M q wa ((R.take k).filter P) → my_A M (q + wa * k) wa (R.drop k) → wRun (d + 1, 0, 0) mX8_filtered 30 [some (.ref 650), some (.int (nI t)), some (.int (nI q)), some (.int (nI R.length)), some (.int (nI wa)), some (.int (nI ((R.take k).filter P).length)), some (.int (nI k)), none] [] z M L (wQi K)
  | 0, k, M, hk, f, s, hA, hB => by
    have ek : k = R.length := by omega
    subst ek
    rw [List.take_length] at hA ⊢
    refine fX8_filtered_30 ⟨fun _ => wQi_i ?_, fun q => absurd (nI_le (Nat.le_refl _) (by omega)) q⟩
    rw [pk_mul, nI_add]
    exact hK _ (my_fr_19 f) ⟨ak_up_same, by rw [ak_up_ne (by omega)]; exact s.2⟩ (my_A_fr hA fun i _ _ => by rw [ak_up_cell (by omega)])
  | n + 1, k, M, hk, f, s, hA, hB => by
    obtain ⟨r, hr⟩ := sl_idx (show k < R.length by omega)
    have hlen : k < R.length := by omega
    have ed : R.drop k = r :: R.drop (k + 1) := by
      rw [List.drop_eq_getElem_cons hlen]
      congr 1
      rw [List.getElem?_eq_getElem hlen] at hr
      exact Option.some.inj hr
    rw [ed] at hB
    have hB' : my_A M (q + wa * k) wa ([r] ++ R.drop (k + 1)) := hB
    rw [my_A_app, my_A_one] at hB'
    obtain ⟨⟨hrl, hrs⟩, hB2⟩ := hB'
    have lt := my_lt (w := wa) hlen
    have fl : ((R.take k).filter P).length ≤ k := Nat.le_trans (List.length_filter_le _ _) (by rw [List.length_take]; omega)
    have flw : wa * ((R.take k).filter P).length ≤ wa * k := Nat.mul_le_mul_left _ fl
    have dl : (R.drop (k + 1)).length = R.length - (k + 1) := by rw [List.length_drop]
    have dlw : wa * (k + 1) + wa * (R.drop (k + 1)).length = wa * R.length := by rw [dl, ← Nat.mul_add]; congr 1; omega
    have e1 : wa * (k + 1) = wa * k + wa := Nat.mul_succ _ _
    have fs : (R.take (k + 1)).filter P = (R.take k).filter P ++ (if P r then [r] else []) := by
      rw [sl_take hr, List.filter_append, List.filter_cons, List.filter_nil]
    refine fX8_filtered_30 ?_
    rw [pk_mul, pk_mul, nI_add, nI_add, nI_1, nI_1, nI_clamp (show t < 2 ^ 31 by omega)]
    refine ⟨fun q => absurd q (nI_ge (by omega) (by omega)), fun _ => my_enter s.2 hdp ⟨vp_in_nI ht (by omega), ?_⟩⟩
    rw [ak_up_cell (by omega), ak_up_cell (by omega), f.1 658 (by omega) (by omega) (by omega), h58]
    refine ev M r _ _ f s hrs (List.mem_of_getElem? hr) (by omega) fun M2 v f2 s2 hv => ?_
    obtain ⟨f3, s3⟩ := my_leave f2 s2
    generalize am_up2 M2 650 21 (M2 650 21 - 1) = M3 at f3 s3
    have f03 : my_fr q dp M0 M3 := my_fr_trans f f3 (by omega) (Nat.le_refl _)
    have A3 : my_A M3 q wa ((R.take k).filter P) := my_rows_fr hA f3 (by omega)
    have r3 : sl_at (M3 665) (q + wa * k) r := sl_congr hrs fun i hi => f3.2.2.1 _ (by omega)
    have B3 : my_A M3 (q + wa * (k + 1)) wa (R.drop (k + 1)) := by
      refine my_rows_fr (q := q + wa * R.length) (dp := dp) (M := M) ?_ f3 (by omega)
      have : q + wa * (k + 1) = q + wa * k + wa * [r].length := by rw [e1]; show _ = q + wa * k + wa * 1; omega
      rw [this]; exact hB2
    refine ⟨fun h1 => ?_, fun h1 => ?_⟩
    · have hP : P r = true := hv.mp h1
      rw [hP] at fs
      refine my_copy hd (by omega) (by omega) ?_
      have := my_filt_30 (e := e) hd ht hdp hq hl h58 ev hK n (k + 1) (am_copy M3 665 665 (q + wa * k) (q + wa * ((R.take k).filter P).length) wa) (by omega) (my_fr_copy f03 (by omega)) ⟨by rw [ak_cp_cell (by omega)]; exact s3.1, by rw [ak_cp_cell (by omega)]; exact s3.2⟩ ?_ ?_
      · rw [fs, List.length_append] at this; exact this
      · rw [fs]
        refine my_A_snoc (my_A_fr A3 fun i i1 i2 => ?_) hrl rfl ?_
        · rw [ak_cp_own, pk_cpy_out (by omega)]
        · rw [ak_cp_own]; exact sl_cpy_in r3 hrl
      · refine my_A_fr B3 fun i i1 i2 => ?_
        rw [ak_cp_own, pk_cpy_out (by omega)]
    · have hP : P r = false := by
        cases h : P r
        · rfl
        · exact absurd (hv.mpr h) h1
      rw [hP] at fs
      have fs : (R.take (k + 1)).filter P = (R.take k).filter P := by rw [fs]; exact List.append_nil _
      have := my_filt_30 (e := e) hd ht hdp hq hl h58 ev hK n (k + 1) M3 (by omega) f03 s3 (by rw [fs]; exact A3) B3
      rw [fs] at this; exact this
theorem my_filtered {t q dp : Nat} {e : sm_E} {M : wd_M} {K : Int32 → wd_Z → wd_M → wd_L → Prop} (w : sm_wf T tc nt N) (hT : ∀ k, k < nt → k < 6 ∧ (tb k).length = tr k) (ht : t < N) (hk : sm_k (T t) = 12) (hc : sm_zc T tr t ≤ 3000) (ih : my_IH T tc nt N tb tr t) (hd : 4 * t + 7 ≤ d) (hpre : my_pre T tc nt N tb tr t q dp e M)
    (hK : ∀ M' R, my_fr q dp M M' → my_st M' (q + sm_w (T t) * R.length) dp → R.Perm (sm_S T tb t e).2 → my_A M' q (sm_w (T t)) R → K (nI R.length) z M' L) : wRunI (d, 0, 0) mX8_filtered [.ref 650, .int (nI t)] z M L K := by
  obtain ⟨d, rfl, hd'⟩ := ak_deep (show (4 * t + 6) + 1 ≤ d by omega)
  obtain ⟨hG, hS, hE, hq, hdp⟩ := id hpre
  have hN := hG.1
  have p := sm_wf12 (w t ht).1 hk
  have cc := sm_zcI w ht hc p.2.1.1 (by omega) (by omega) (by rw [hk]; rfl)
  have cb : sm_zc T tr (sm_b (T t)) ≤ (sm_zs T tr (sm_a (T t)) + 1) * sm_zc T tr (sm_b (T t)) := Nat.le_mul_of_pos_left _ (by omega)
  obtain ⟨g54, g55, g56, g57, g58, g59, g60, -⟩ := hG.2.2.1 t ht
  have e1 : my_1 (T t) = nI (sm_a (T t)) := by simp [my_1, hk]
  have e2 : my_2 (T t) = nI (sm_b (T t)) := by simp [my_2, hk]
  have alt := p.1.2.1
  have blt := p.2.1.2.1
  have hin : vp_in (nI t) 120 := vp_in_nI (by omega) (by omega)
  refine fX8_filtered_e ?_
  rw [nI_clamp (show t < 2 ^ 31 by omega), g57, e1]
  refine ⟨hin, my_bag_at w hT ht ih hpre p.1.2.1 p.1.2.2 (by omega) (my_or1 p.2.2.2.2) my_fr_refl hS (Nat.le_refl _) (by omega) (by omega) fun M1 R f1 s1 pr hA rl zl wl => ⟨hin, ?_⟩⟩
  rw [f1.1 656 (by omega) (by omega) (by omega), g56, hS.1]
  have ew : sm_w (T t) = sm_w (T (sm_a (T t))) := p.2.2.2.1
  rw [ew] at hK ⊢
  refine my_filt_30 (T := T) (e := e) (P := fun r => (sm_S T tb (sm_b (T t)) (sm_enter r e)).1 == 1) (dp := dp) (by omega) (by omega) (by omega) (by omega) (by omega) (by rw [g58, e2]) (fun M2 r p' K' f2 s2 hr hm hp hK' => ?_) (fun M' f' s' hA' => hK M' _ f' s' ?_ hA') R.length 0 M1 (by omega) f1 s1 (by rw [List.take_zero]; exact my_A_nil) (by rw [List.drop_zero]; exact hA)
  · have t3 := my_tr2 (my_t3 (tb := tb) w (sm_b (T t)) (by omega) p.2.1.2.2 (sm_enter r e))
    refine ((ih _ blt (by omega)).2.1 p.2.1.2.2) d z L _ (sm_enter r e) _ (dp + 1) K' (by omega) (my_in_pre hpre f2 s2 (by omega) hr (hA.1 r hm) hp blt p.2.2.1 p.2.2.2.2 (by omega)) fun M3 f3 s3 => hK' M3 _ f3 s3 ?_
    rw [t3.2.1]; simp
  · rw [sm_S_eq w ht, sm_body12 hk]
    exact pr.filter _
/-! more -/
theorem my_wide_38 {t q dp wa : Nat} {M0 : wd_M} {R : List ay_Row} {P : ay_Row → Int32} {K : Int32 → wd_Z → wd_M → wd_L → Prop} (hd : 2 ≤ d) (ht : t < 120) (hdp : dp < 130) (hq : q + wa * R.length + (wa + 1) * R.length ≤ 600000) (hl : R.length < 100000) (hw8 : wa ≤ 8) (h58 : M0 658 t = nI (sm_b (T t))) (hWR : sl_W wa R)
    (ev : ∀ (M1 : wd_M) r p q1 (K : Int32 → wd_Z → wd_M → wd_L → Prop), my_fr q dp M0 M1 → my_st M1 q1 dp → q + wa * R.length ≤ q1 → q1 ≤ q + wa * R.length + (wa + 1) * R.length → sl_at (M1 665) p r → r ∈ R → p + wa ≤ q1 → (∀ M2, my_fr q1 (dp + 1) (my_ent M1 dp p) M2 → my_st M2 q1 (dp + 1) → K (P r) z M2 L) → wRunI (d, 0, 0) mX8_value [.ref 650, .int (nI (sm_b (T t)))] z (my_ent M1 dp p) L K)
    (hK : ∀ M', my_fr q dp M0 M' → my_st M' (q + (wa + 1) * R.length) dp → my_A M' q (wa + 1) (R.map fun r => r ++ [P r]) → K (nI R.length) z M' L) :
    ∀ n k (M : wd_M), k + n = R.length → my_fr q dp M0 M → my_st M (q + wa * R.length + (wa + 1) * k) dp → my_A M q wa R → my_A M (q + wa * R.length) (wa + 1) ((R.take k).map fun r => r ++ [P r]) → wRun (d + 1, 0, 0) mX8_widened 38 [some (.ref 650), some (.int (nI t)), some (.int (nI q)), some (.int (nI R.length)), some (.int (nI wa)), some (.int (nI (q + wa * R.length))), some (.int (nI k)), none] [] z M L (wQi K)
  | 0, k, M, hk, f, s, hA, hB => by
    have ek : k = R.length := by omega
    subst ek
    rw [List.take_length] at hB
    refine fX8_widened_38 ⟨fun _ => ?_, fun q => absurd (nI_le (Nat.le_refl _) (by omega)) q⟩
    rw [nI_1]
    have el : (R.map fun r => r ++ [P r]).length = R.length := List.length_map ..
    have := my_settle_r (K := fun v z M L => wQi K (some (.int v)) (wd z M L)) (z := z) (L := L) hd f s.2 hB (by omega) (by rw [el]; omega) (fun M' f' s' hA' => wQi_i (by rw [el] at s' ⊢; exact hK M' f' s' hA'))
    rw [el] at this; exact this
  | n + 1, k, M, hk, f, s, hA, hB => by
    obtain ⟨r, hr⟩ := sl_idx (show k < R.length by omega)
    have hlen : k < R.length := by omega
    have g := my_A_row hA hr
    have lt := my_lt (w := wa) hlen
    have lt1 := my_lt (w := wa + 1) hlen
    have e1 : (wa + 1) * (k + 1) = (wa + 1) * k + (wa + 1) := Nat.mul_succ _ _
    have tl : ((R.take k).map fun r => r ++ [P r]).length = k := by rw [List.length_map, List.length_take]; omega
    refine fX8_widened_38 ?_
    rw [pk_mul, nI_add, nI_1, nI_1, nI_clamp (show t < 2 ^ 31 by omega)]
    refine ⟨fun q => absurd q (nI_ge (by omega) (by omega)), fun _ => my_enter s.2 hdp ⟨vp_in_nI ht (by omega), ?_⟩⟩
    rw [ak_up_cell (by omega), ak_up_cell (by omega), f.1 658 (by omega) (by omega) (by omega), h58]
    refine ev M r _ _ _ f s (by omega) (by omega) g.1 (List.mem_of_getElem? hr) (by omega) fun M2 f2 s2 => ?_
    obtain ⟨f3, s3⟩ := my_leave f2 s2
    generalize am_up2 M2 650 21 (M2 650 21 - 1) = M3 at f3 s3
    have f03 : my_fr q dp M0 M3 := my_fr_trans f f3 (by omega) (Nat.le_refl _)
    have A3 : my_A M3 q wa R := my_rows_fr hA f3 (by omega)
    have B3 : my_A M3 (q + wa * R.length) (wa + 1) ((R.take k).map fun r => r ++ [P r]) := my_rows_fr hB f3 (by rw [tl]; omega)
    have r3 := (my_A_row A3 hr).1
    rw [s3.1]
    refine my_copy (by omega) (by omega) (by omega) ?_
    rw [ak_cp_cell (by omega), s3.1, nI_add, nI_clamp (show q + wa * R.length + (wa + 1) * k + wa < 2 ^ 31 by omega), ak_up_cell (by omega), ak_cp_cell (by omega), s3.1, nI_add]
    refine ⟨vp_in_nI (by omega) (by omega), ?_⟩
    generalize hM4 : am_copy M3 665 665 (q + wa * k) (q + wa * R.length + (wa + 1) * k) wa = M4
    have o4 : ∀ i, i < q + wa * R.length + (wa + 1) * k → M4 665 i = M3 665 i := fun i hi => by rw [← hM4, ak_cp_own, pk_cpy_out (by omega)]
    refine my_wide_38 hd ht hdp hq hl hw8 h58 hWR ev hK n (k + 1) _ (by omega) (my_fr_19 (my_fr_room (by rw [← hM4]; exact my_fr_copy f03 (by omega)) (by omega))) ⟨by rw [ak_up_same, e1]; congr 1; omega, by rw [ak_up_ne (by omega), ak_up_cell (by omega), ← hM4, ak_cp_cell (by omega)]; exact s3.2⟩ (my_A_fr A3 fun i i1 i2 => ?_) ?_
    · rw [ak_up_cell (by omega), ak_up_ne (by omega)]; exact o4 i (by omega)
    · rw [sl_take hr, List.map_append]
      refine my_A_snoc (my_A_fr B3 fun i i1 i2 => ?_) (by rw [List.length_append, g.2.1]; rfl) (by rw [tl]) ?_
      · rw [tl] at i2
        rw [ak_up_cell (by omega), ak_up_ne (by omega)]; exact o4 i (by omega)
      · rw [ak_up_cell (by omega), ak_up_own, sl_app]
        refine ⟨sl_upd ?_ (by omega), sl_one.mpr (by rw [g.2.1, pk_us])⟩
        rw [← hM4, ak_cp_own]; exact sl_cpy_in r3 g.2.1
theorem my_widened {t q dp : Nat} {e : sm_E} {M : wd_M} {K : Int32 → wd_Z → wd_M → wd_L → Prop} (w : sm_wf T tc nt N) (hT : ∀ k, k < nt → k < 6 ∧ (tb k).length = tr k) (ht : t < N) (hk : sm_k (T t) = 13) (hc : sm_zc T tr t ≤ 3000) (ih : my_IH T tc nt N tb tr t) (hd : 4 * t + 7 ≤ d) (hpre : my_pre T tc nt N tb tr t q dp e M)
    (hK : ∀ M' R, my_fr q dp M M' → my_st M' (q + sm_w (T t) * R.length) dp → R.Perm (sm_S T tb t e).2 → my_A M' q (sm_w (T t)) R → K (nI R.length) z M' L) : wRunI (d, 0, 0) mX8_widened [.ref 650, .int (nI t)] z M L K := by
  obtain ⟨d, rfl, hd'⟩ := ak_deep (show (4 * t + 6) + 1 ≤ d by omega)
  obtain ⟨hG, hS, hE, hq, hdp⟩ := id hpre
  have hN := hG.1
  have p := sm_wf13 (w t ht).1 hk
  have cc := sm_zcI w ht hc p.2.1.1 (by omega) (by omega) (by rw [hk]; rfl)
  have cb : sm_zc T tr (sm_b (T t)) ≤ (sm_zs T tr (sm_a (T t)) + 1) * sm_zc T tr (sm_b (T t)) := Nat.le_mul_of_pos_left _ (by omega)
  obtain ⟨g54, g55, g56, g57, g58, g59, g60, -⟩ := hG.2.2.1 t ht
  have e1 : my_1 (T t) = nI (sm_a (T t)) := by simp [my_1, hk]
  have e2 : my_2 (T t) = nI (sm_b (T t)) := by simp [my_2, hk]
  have alt := p.1.2.1
  have blt := p.2.1.2.1
  have hin : vp_in (nI t) 120 := vp_in_nI (by omega) (by omega)
  have w8 := (w t ht).2.1
  refine fX8_widened_e ?_
  rw [nI_clamp (show t < 2 ^ 31 by omega), g57, e1]
  refine ⟨hin, my_bag_at w hT ht ih hpre p.1.2.1 p.1.2.2 (by omega) (my_or1 p.2.2.2.2) my_fr_refl hS (Nat.le_refl _) (by omega) (by omega) fun M1 R f1 s1 pr hA rl zl wl => ⟨hin, ?_⟩⟩
  have mw := ((my_G_fr hG f1).2.2.1 (sm_a (T t)) (by omega)).2.2.1
  rw [f1.1 657 (by omega) (by omega) (by omega), g57, e1, nI_clamp (show sm_a (T t) < 2 ^ 31 by omega), mw, hS.1, s1.1]
  have ew : sm_w (T t) = sm_w (T (sm_a (T t))) + 1 := p.2.2.2.1
  rw [ew] at hK w8
  have w1l : (sm_w (T (sm_a (T t))) + 1) * R.length ≤ 8 * R.length := Nat.mul_le_mul_right _ w8
  refine ⟨vp_in_nI (by omega) (by omega), ?_⟩
  refine my_wide_38 (T := T) (P := fun r => (sm_S T tb (sm_b (T t)) (sm_enter r e)).1) (dp := dp) (by omega) (by omega) (by omega) (by omega) (by omega) (by omega) (by rw [g58, e2]) hA.1 (fun M2 r p' q1 K' f2 s2 b1 b2 hr hm hp hK' => ?_) (fun M' f' s' hA' => ?_) R.length 0 M1 (by omega) f1 s1 hA (by rw [List.take_zero]; exact my_A_nil)
  · exact ((ih _ blt (by omega)).1 p.2.1.2.2) d z L _ (sm_enter r e) _ (dp + 1) K' (by omega) (my_in_pre hpre f2 s2 (by omega) hr (hA.1 r hm) hp blt p.2.2.1 p.2.2.2.2 (by omega)) hK'
  · have := hK M' _ f' (by rw [List.length_map]; exact s') ?_ hA'
    · rw [List.length_map] at this; exact this
    · rw [sm_S_eq w ht, sm_body13 hk]
      exact pr.map _
/-! only -/
theorem my_only_47 {t q dp wa k n0 : Nat} {M0 M1 : wd_M} {num : Int32} {r : ay_Row} {top made rows : Nat} {Q : am_Q} (ht : t < 120) (h56 : M0 656 t = nI n0) (h58 : M0 658 t = num) (hn : n0 ≤ 8) (hcol : ∀ j, j < n0 → sm_col num j < wa) (hrl : r.length = wa) (hp : q + wa * k + wa ≤ top) (htop : top + n0 ≤ 600000)
    (go : ∀ M', my_fr q dp M0 M' → my_st M' (top + n0) dp → (∀ i, i < top → M' 665 i = M1 665 i) → sl_at (M' 665) top (sm_only num n0 r) → wRun (d + 1, 0, 0) mX8_chosen 38 [some (.ref 650), some (.int (nI t)), some (.int (nI q)), some (.int (nI rows)), some (.int (nI wa)), some (.int (nI made)), some (.int (nI (k + 1))), none] [] z M' L Q) :
    ∀ n j (M : wd_M), j + n = n0 → my_fr q dp M0 M → my_st M (top + j) dp → (∀ i, i < top → M 665 i = M1 665 i) → sl_at (M 665) (q + wa * k) r → sl_at (M 665) top (sm_only num j r) → wRun (d + 1, 0, 0) mX8_chosen 47 [some (.ref 650), some (.int (nI t)), some (.int (nI q)), some (.int (nI rows)), some (.int (nI wa)), some (.int (nI made)), some (.int (nI k)), some (.int (nI j))] [] z M L Q
  | 0, j, M, hj, f, s, h1, hr, h2 => by
    have ej : j = n0 := by omega
    subst ej
    refine fX8_chosen_47 ?_
    rw [nI_clamp (show t < 2 ^ 31 by omega), f.1 656 (by omega) (by omega) (by omega), h56, nI_1]
    exact ⟨vp_in_nI ht (by omega), fun _ => go M f s h1 h2, fun q => absurd (nI_le (Nat.le_refl _) (by omega)) q⟩
  | n + 1, j, M, hj, f, s, h1, hr, h2 => by
    have hc := hcol j (by omega)
    have ev : M 665 (q + wa * k + sm_col num j) = r.getD (sm_col num j) 0 := sl_getD hr (by omega)
    refine fX8_chosen_47 ?_
    rw [nI_clamp (show t < 2 ^ 31 by omega), f.1 656 (by omega) (by omega) (by omega), h56, f.1 658 (by omega) (by omega) (by omega), h58, ak_n4, pk_mul, pk_mul, nI_add, sm_col_eq, nI_add, nI_clamp (show q + wa * k + sm_col num j < 2 ^ 31 by omega), ev, s.1, nI_clamp (show top + j < 2 ^ 31 by omega), ak_up_cell (by omega), s.1, nI_1, nI_1]
    refine ⟨vp_in_nI ht (by omega), fun q => absurd q (nI_ge (by omega) (by omega)), fun _ => ⟨vp_in_nI ht (by omega), vp_in_nI (by omega) (by omega), vp_in_nI (by omega) (by omega), ?_⟩⟩
    refine my_only_47 ht h56 h58 hn hcol hrl hp htop go n (j + 1) _ (by omega) (my_fr_19 (my_fr_room f (by omega))) ⟨by rw [ak_up_same, nI_1]; rfl, by rw [ak_up_ne (by omega), ak_up_cell (by omega)]; exact s.2⟩ (fun i hi => by rw [ak_up_cell (by omega), ak_up_ne (by omega)]; exact h1 i hi) (sl_congr hr fun i hi => by rw [ak_up_cell (by omega), ak_up_ne (by omega)]) ?_
    unfold sm_only at h2 ⊢
    rw [List.range_succ, List.map_append, sl_app, ak_up_cell (by omega), ak_up_own]
    have tl : ((List.range j).map fun k => r.getD (sm_col num k) 0).length = j := by rw [List.length_map, List.length_range]
    exact ⟨sl_upd h2 (by rw [tl]; omega), sl_one.mpr (by rw [tl, pk_us])⟩
theorem my_only_38 {t q dp wa n0 : Nat} {M0 : wd_M} {num : Int32} {R : List ay_Row} {K : Int32 → wd_Z → wd_M → wd_L → Prop} (hd : 2 ≤ d) (ht : t < 120) (h56 : M0 656 t = nI n0) (h58 : M0 658 t = num) (hn : n0 ≤ 8) (hcol : ∀ j, j < n0 → sm_col num j < wa) (hq : q + wa * R.length + n0 * R.length ≤ 600000) (hl : R.length < 100000)
    (hK : ∀ M', my_fr q dp M0 M' → my_st M' (q + n0 * R.length) dp → my_A M' q n0 (R.map (sm_only num n0)) → K (nI R.length) z M' L) :
    ∀ n k (M : wd_M), k + n = R.length → my_fr q dp M0 M → my_st M (q + wa * R.length + n0 * k) dp → my_A M q wa R → my_A M (q + wa * R.length) n0 ((R.take k).map (sm_only num n0)) → wRun (d + 1, 0, 0) mX8_chosen 38 [some (.ref 650), some (.int (nI t)), some (.int (nI q)), some (.int (nI R.length)), some (.int (nI wa)), some (.int (nI (q + wa * R.length))), some (.int (nI k)), none] [] z M L (wQi K)
  | 0, k, M, hk, f, s, hA, hB => by
    have ek : k = R.length := by omega
    subst ek
    rw [List.take_length] at hB
    refine fX8_chosen_38 ⟨fun _ => ⟨vp_in_nI ht (by omega), ?_⟩, fun q => absurd (nI_le (Nat.le_refl _) (by omega)) q⟩
    rw [nI_clamp (show t < 2 ^ 31 by omega), f.1 656 (by omega) (by omega) (by omega), h56]
    have el : (R.map (sm_only num n0)).length = R.length := List.length_map ..
    have := my_settle_r (K := fun v z M L => wQi K (some (.int v)) (wd z M L)) (z := z) (L := L) hd f s.2 hB (by omega) (by rw [el]; omega) (fun M' f' s' hA' => wQi_i (by rw [el] at s' ⊢; exact hK M' f' s' hA'))
    rw [el] at this; exact this
  | n + 1, k, M, hk, f, s, hA, hB => by
    obtain ⟨r, hr⟩ := sl_idx (show k < R.length by omega)
    have hlen : k < R.length := by omega
    have g := my_A_row hA hr
    have lt := my_lt (w := wa) hlen
    have lt1 := my_lt (w := n0) hlen
    have tl : ((R.take k).map (sm_only num n0)).length = k := by rw [List.length_map, List.length_take]; omega
    refine fX8_chosen_38 ⟨fun q => absurd q (nI_ge (by omega) (by omega)), fun _ => ?_⟩
    refine my_only_47 (d := d) (num := num) (r := r) (M1 := M) (top := q + wa * R.length + n0 * k) ht h56 h58 hn hcol g.2.1 (by omega) (by omega) (fun M' f' s' h1 h2 => ?_) n0 0 M (by omega) f s (fun _ _ => rfl) g.1 (by unfold sm_only; exact sl_nil)
    refine my_only_38 hd ht h56 h58 hn hcol hq hl hK n (k + 1) M' (by omega) f' ⟨by rw [s'.1, Nat.mul_succ, Nat.add_assoc], s'.2⟩ (my_A_fr hA fun i i1 i2 => h1 i (by omega)) ?_
    rw [sl_take hr, List.map_append]
    exact my_A_snoc (my_A_fr hB fun i i1 i2 => h1 i (by rw [tl] at i2; exact i2)) (by unfold sm_only; rw [List.length_map, List.length_range]) (by rw [tl]) h2
theorem my_chosen {t q dp : Nat} {e : sm_E} {M : wd_M} {K : Int32 → wd_Z → wd_M → wd_L → Prop} (w : sm_wf T tc nt N) (hT : ∀ k, k < nt → k < 6 ∧ (tb k).length = tr k) (ht : t < N) (hk : sm_k (T t) = 14) (hc : sm_zc T tr t ≤ 3000) (ih : my_IH T tc nt N tb tr t) (hd : 4 * t + 7 ≤ d) (hpre : my_pre T tc nt N tb tr t q dp e M)
    (hK : ∀ M' R, my_fr q dp M M' → my_st M' (q + sm_w (T t) * R.length) dp → R.Perm (sm_S T tb t e).2 → my_A M' q (sm_w (T t)) R → K (nI R.length) z M' L) : wRunI (d, 0, 0) mX8_chosen [.ref 650, .int (nI t)] z M L K := by
  obtain ⟨d, rfl, hd'⟩ := ak_deep (show (4 * t + 6) + 1 ≤ d by omega)
  obtain ⟨hG, hS, hE, hq, hdp⟩ := id hpre
  have hN := hG.1
  have p := sm_wf14 (w t ht).1 hk
  have cc := sm_zc1 w ht hc p.2.1 (by omega) (by omega) (by rw [hk]; rfl) (by omega)
  obtain ⟨g54, g55, g56, g57, g58, g59, g60, -⟩ := hG.2.2.1 t ht
  have e1 : my_1 (T t) = nI (sm_a (T t)) := by simp [my_1, hk]
  have e2 : my_2 (T t) = sm_n (T t) := by simp [my_2, hk]
  have alt := p.1.2.1
  have hin : vp_in (nI t) 120 := vp_in_nI (by omega) (by omega)
  have w8 := (w t ht).2.1
  refine fX8_chosen_e ?_
  rw [nI_clamp (show t < 2 ^ 31 by omega), g57, e1]
  refine ⟨hin, my_bag_at w hT ht ih hpre p.1.2.1 p.1.2.2 (by omega) (fun k h => by rw [p.2.2.2.2]; exact h) my_fr_refl hS (Nat.le_refl _) (by omega) (by omega) fun M1 R f1 s1 pr hA rl zl wl => ⟨hin, ?_⟩⟩
  have mw := ((my_G_fr hG f1).2.2.1 (sm_a (T t)) (by omega)).2.2.1
  rw [f1.1 657 (by omega) (by omega) (by omega), g57, e1, nI_clamp (show sm_a (T t) < 2 ^ 31 by omega), mw, hS.1, s1.1]
  have ew : sm_w (T t) = sm_c (T t) := p.2.2.1
  have w1l : sm_w (T t) * R.length ≤ 8 * R.length := Nat.mul_le_mul_right _ w8
  refine ⟨vp_in_nI (by omega) (by omega), ?_⟩
  refine my_only_38 (num := sm_n (T t)) (n0 := sm_w (T t)) (by omega) (by omega) g56 (by rw [g58, e2]) w8 (by rw [ew]; exact p.2.2.2.1) (by omega) (by omega) (fun M' f' s' hA' => ?_) R.length 0 M1 (by omega) f1 s1 hA (by rw [List.take_zero]; exact my_A_nil)
  have := hK M' _ f' (by rw [List.length_map]; exact s') ?_ hA'
  · rw [List.length_map] at this; exact this
  · rw [sm_S_eq w ht, sm_body14 hk, ew]
    exact pr.map _
end MY
