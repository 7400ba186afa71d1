/-! CONTRACTS of ApplyFreeModel: truths -/
theorem my_quant_snoc {ends x : Int32} {l : List Int32} (he : ends = 0 ∨ ends = 1) (hx : x = 0 ∨ x = 1 ∨ x = (-2147483648 : Int32)) : sm_quant ends (l ++ [x]) = if x = ends ∨ sm_quant ends l = ends then ends else if x = (-2147483648 : Int32) then (-2147483648 : Int32) else sm_quant ends l := by
  have n1 : ¬ (1 - ends = ends) := by rcases he with rfl | rfl <;> decide
  have n2 : ¬ ((-2147483648 : Int32) = ends) := by rcases he with rfl | rfl <;> decide
  have hq : sm_quant ends l = ends ↔ ends ∈ l := by
    unfold sm_quant
    split
    · rename_i h; exact ⟨fun _ => h, fun _ => rfl⟩
    · rename_i h
      split
      · exact ⟨fun q => absurd q n2, fun q => absurd q h⟩
      · exact ⟨fun q => absurd q n1, fun q => absurd q h⟩
  by_cases h1 : x = ends ∨ sm_quant ends l = ends
  · rw [if_pos h1]
    unfold sm_quant
    rw [if_pos]
    rcases h1 with h1 | h1
    · rw [h1]; simp
    · rw [hq] at h1; simp [h1]
  · rw [if_neg h1]
    have h2 : ¬ x = ends := fun q => h1 (Or.inl q)
    have h3 : ends ∉ l := fun q => h1 (Or.inr (hq.mpr q))
    have h4 : ¬ ends ∈ l ++ [x] := fun q => by
      rcases List.mem_append.mp q with q | q
      · exact h3 q
      · exact h2 (List.mem_singleton.mp q).symm
    unfold sm_quant
    rw [if_neg h4, if_neg h3]
    by_cases h5 : x = (-2147483648 : Int32)
    · rw [if_pos h5, if_pos (by rw [h5]; simp)]
    · rw [if_neg h5]
      have : ((-2147483648 : Int32) ∈ l ++ [x]) ↔ (-2147483648 : Int32) ∈ l := by
        rw [List.mem_append, List.mem_singleton]
        exact ⟨fun q => q.elim id fun q => absurd q.symm h5, Or.inl⟩
      by_cases h6 : (-2147483648 : Int32) ∈ l
      · rw [if_pos h6, if_pos (this.mpr h6)]
      · rw [if_neg h6, if_neg (fun q => h6 (this.mp q))]
theorem my_cmp3 (op : Nat) (a b : Int32) : sm_cmp op a b = 0 ∨ sm_cmp op a b = 1 ∨ sm_cmp op a b = (-2147483648 : Int32) := by
  unfold sm_cmp
  repeat' split
  all_goals simp
theorem my_quant3 {ends : Int32} {l : List Int32} (he : ends = 0 ∨ ends = 1) : sm_quant ends l = 0 ∨ sm_quant ends l = 1 ∨ sm_quant ends l = (-2147483648 : Int32) := by
  unfold sm_quant
  rcases he with rfl | rfl
  · repeat' split
    all_goals first | (simp; done) | exact Or.inr (Or.inl (by decide))
  · repeat' split
    all_goals first | (simp; done) | exact Or.inl (by decide)
section MY
variable {T : Nat → sm_T} {tc : Nat → Nat} {nt N : Nat} {tb : Nat → List ay_Row} {tr : Nat → Nat} {d : Nat} {z : wd_Z} {L : wd_L}
theorem my_quant_55 {t q op : Nat} {M : wd_M} {R : List ay_Row} {v ends : Int32} {K : Int32 → wd_Z → wd_M → wd_L → Prop} (hd : 1 ≤ d) (ht : t < 120) (he : ends = 0 ∨ ends = 1) (hop : op ≤ 4) (h57 : M 657 t = nI op) (hA : my_A M q 1 R) (hq : q + 1 * R.length ≤ 600000)
    (hK : K (my_tr (sm_quant ends ((sm_at 0 R).map (fun x => sm_cmp op v x)))) z (am_up2 M 650 19 (nI q)) L) :
    ∀ m k, k + m = R.length → wRun (d + 1, 0, 0) mX8_quantified 55 [some (.ref 650), some (.int (nI t)), some (.int v), some (.int (nI q)), some (.int (nI R.length)), some (.int ends), some (.int (my_tr (sm_quant ends ((sm_at 0 (R.take k)).map (fun x => sm_cmp op v x))))), some (.int (nI k)), none] [] z M L (wQi K)
  | 0, k, hk => by
    have ek : k = R.length := by omega
    subst ek
    rw [List.take_length]
    exact fX8_quantified_55 ⟨fun _ => wQi_i hK, fun q => absurd (nI_le (Nat.le_refl _) (by omega)) q⟩
  | m + 1, k, hk => by
    obtain ⟨r, hr⟩ := sl_idx (show k < R.length by omega)
    have g := my_A_row hA hr
    have ev : M 665 (q + k) = r.getD 0 0 := by
      have := sl_getD (i := 0) g.1 (by omega)
      rw [← this]; congr 1; omega
    have hin : vp_in (nI t) 120 := vp_in_nI (by omega) (by omega)
    have es : (sm_at 0 (R.take (k + 1))).map (fun x => sm_cmp op v x) = (sm_at 0 (R.take k)).map (fun x => sm_cmp op v x) ++ [sm_cmp op v (r.getD 0 0)] := by
      unfold sm_at
      rw [sl_take hr, List.map_append, List.map_append]; rfl
    have nxt := my_quant_55 hd ht he hop h57 hA hq hK m (k + 1) (by omega)
    rw [es, my_quant_snoc he (my_cmp3 _ _ _)] at nxt
    refine fX8_quantified_55 ?_
    rw [nI_clamp (show t < 2 ^ 31 by omega), h57, nI_add, nI_clamp (show q + k < 2 ^ 31 by omega), ev]
    refine ⟨fun q => absurd q (nI_ge (by omega) (by omega)), fun _ => ⟨hin, vp_in_nI (by omega) (by omega), my_compared hd hop ?_⟩⟩
    rw [nI_1]
    have t1 := my_tr2 (my_cmp3 op v (r.getD 0 0))
    have t2 := my_tr2 (my_quant3 (l := (sm_at 0 (R.take k)).map (fun x => sm_cmp op v x)) he)
    have te : ∀ {x : Int32}, (x = 0 ∨ x = 1 ∨ x = (-2147483648 : Int32)) → (my_tr x = ends ↔ x = ends) := fun {x} hx => by
      have := my_tr2 hx
      rcases he with rfl | rfl
      · exact this.2.2.1
      · exact this.2.1
    have tee : my_tr ends = ends := by rcases he with rfl | rfl <;> decide
    refine ⟨fun h => ?_, fun h1 => ⟨fun h => ?_, fun h2 => ⟨fun h => ?_, fun h3 => ?_⟩⟩⟩
    · rw [te (my_cmp3 _ _ _)] at h
      rw [if_pos (Or.inl h), tee] at nxt; exact nxt
    · rw [te (my_quant3 he)] at h
      rw [if_pos (Or.inr h), tee] at nxt; exact nxt
    · rw [te (my_cmp3 _ _ _)] at h1
      rw [te (my_quant3 he)] at h2
      rw [t1.1] at h
      rw [if_neg (fun q => q.elim h1 h2), if_pos h] at nxt; exact nxt
    · rw [te (my_cmp3 _ _ _)] at h1
      rw [te (my_quant3 he)] at h2
      rw [t1.1] at h3
      rw [if_neg (fun q => q.elim h1 h2), if_neg h3] at nxt; exact nxt
theorem my_truth {t : Nat} (w : sm_wf T tc nt N) (hT : ∀ k, k < nt → k < 6 ∧ (tb k).length = tr k) (ht : t < N) (hs : sm_sort (sm_k (T t)) = 1) (hc : sm_zc T tr t ≤ 3000) (ih : my_IH T tc nt N tb tr t) : my_TC T tc nt N tb tr t := by
  intro d z L M e q dp K hd hpre hK
  obtain ⟨d, rfl, hd'⟩ := ak_deep (show (4 * t + 7) + 1 ≤ d by omega)
  obtain ⟨hG, hS, hE, hq, hdp⟩ := id hpre
  have hw := (w t ht).1
  have hN := hG.1
  obtain ⟨g54, g55, g56, g57, g58, g59, g60, -⟩ := hG.2.2.1 t ht
  have hk5 : 5 ≤ sm_k (T t) ∧ sm_k (T t) ≤ 10 := by
    unfold sm_sort at hs
    split at hs
    · omega
    · split at hs <;> omega
  have hin : vp_in (nI t) 120 := vp_in_nI (by omega) (by omega)
  rw [sm_S_eq w ht] at hK
  have fr : ∀ {M' : wd_M}, my_fr q dp M M' → M' 657 t = my_1 (T t) ∧ M' 658 t = my_2 (T t) ∧ M' 659 t = my_3 (T t) := fun {M'} f => by
    rw [f.1 657 (by omega) (by omega) (by omega), f.1 658 (by omega) (by omega) (by omega), f.1 659 (by omega) (by omega) (by omega)]
    exact ⟨g57, g58, g59⟩
  refine fX8_truth_e ?_
  rw [nI_clamp (show t < 2 ^ 31 by omega), g54, nI_toInt (show sm_k (T t) < 2 ^ 31 by omega)]
  refine ⟨hin, fun h => ?_, fun h => ⟨hin, ?_⟩, fun h => ⟨hin, ?_⟩, fun h => ⟨hin, ?_⟩, fun h => ⟨hin, ?_⟩, trivial⟩
  · -- some, each
    have hk : sm_k (T t) = 9 ∨ sm_k (T t) = 10 := by omega
    have p : sm_pa T t 0 ∧ sm_pb T t 2 ∧ sm_o (T t) ≤ 4 ∧ sm_wB T t = 1 ∧ sm_l (T t) = sm_lA T t ||| sm_lB T t := by
      rcases hk with hk | hk
      · exact sm_wf9 hw hk
      · exact sm_wf10 hw hk
    have cc := sm_zc2 w ht hc p.2.1.1 (by omega) (by omega) (by rcases hk with hk | hk <;> rw [hk] <;> rfl) (by omega)
    have e1 : my_1 (T t) = nI (sm_o (T t)) := by rcases hk with hk | hk <;> simp [my_1, hk]
    have e2 : my_2 (T t) = nI (sm_a (T t)) := by rcases hk with hk | hk <;> simp [my_2, hk]
    have e3 : my_3 (T t) = nI (sm_b (T t)) := by rcases hk with hk | hk <;> simp [my_3, hk]
    have alt := p.1.2.1
    have blt := p.2.1.2.1
    obtain ⟨d, rfl, hd'⟩ := ak_deep (show (4 * t + 6) + 1 ≤ d by omega)
    refine fX8_quantified_e ?_
    rw [nI_clamp (show t < 2 ^ 31 by omega), g58, e2]
    refine ⟨hin, ((ih _ p.1.2.1 (by omega)).1 p.1.2.2) d z L M e q dp _ (by omega) (my_pre_mv hpre my_fr_refl hS (Nat.le_refl _) (by omega) (by omega) (my_or1 p.2.2.2.2)) fun M1 f1 s1 => ⟨hin, ?_⟩⟩
    rw [(fr f1).2.2, e3]
    refine ((ih _ p.2.1.2.1 (by omega)).2.2 p.2.1.2.2) d z L M1 e q dp _ (by omega) (my_pre_mv hpre f1 s1 (Nat.le_refl _) (by omega) (by omega) (my_or2 p.2.2.2.2)) fun M2 R f2 s2 pr hA => ⟨hin, ?_⟩
    have f12 := my_fr_trans f1 f2 (Nat.le_refl _) (Nat.le_refl _)
    have sz := (sm_sizes w hT _ (show sm_b (T t) < N by omega) (by omega) p.2.1.2.2)
    have rl : R.length ≤ sm_zc T tr (sm_b (T t)) := by rw [pr.length_eq]; exact Nat.le_trans (sz.2.2 e) sz.1
    have ewb : sm_w (T (sm_b (T t))) = 1 := p.2.2.2.1
    rw [ewb] at hA
    have m54 : M2 654 t = nI (sm_k (T t)) := by rw [f12.1 654 (by omega) (by omega) (by omega)]; exact g54
    have hK := hK _ (my_fr_19 (v := nI q) f12) ⟨ak_up_same, by rw [ak_up_ne (by omega)]; exact s2.2⟩
    rw [m54, s1.1, show (9 : Int32) = nI 9 from rfl, nI_eq (by omega) (by omega)]
    refine ⟨fun h9 => ?_, fun h9 => ?_⟩
    · rw [sm_body9 h9] at hK
      have eq9 := sm_quant_perm 1 ((sm_at_perm 0 pr).map (fun v => sm_cmp (sm_o (T t)) (sm_S T tb (sm_a (T t)) e).1 v))
      refine my_quant_55 (d := d) (by omega) (by omega) (Or.inr rfl) p.2.2.1 (by rw [(fr f12).1, e1]) hA (by omega) (wQi_i ?_) R.length 0 (by omega)
      rw [eq9]; exact hK
    · rw [sm_body10 (by omega)] at hK
      have eq9 := sm_quant_perm 0 ((sm_at_perm 0 pr).map (fun v => sm_cmp (sm_o (T t)) (sm_S T tb (sm_a (T t)) e).1 v))
      refine my_quant_55 (d := d) (by omega) (by omega) (Or.inl rfl) p.2.2.1 (by rw [(fr f12).1, e1]) hA (by omega) (wQi_i ?_) R.length 0 (by omega)
      rw [eq9]; exact hK
  · have hk : sm_k (T t) = 5 := by omega
    have p := sm_wf5 hw hk
    have cc := sm_zc2 w ht hc p.2.1.1 (by omega) (by omega) (by rw [hk]; rfl) (by omega)
    have e1 : my_1 (T t) = nI (sm_o (T t)) := by simp [my_1, hk]
    have e2 : my_2 (T t) = nI (sm_a (T t)) := by simp [my_2, hk]
    have e3 : my_3 (T t) = nI (sm_b (T t)) := by simp [my_3, hk]
    have alt := p.1.2.1
    have blt := p.2.1.2.1
    rw [g58, e2]
    refine ((ih _ p.1.2.1 (by omega)).1 p.1.2.2) d z L M e q dp _ (by omega) (my_pre_mv hpre my_fr_refl hS (Nat.le_refl _) (by omega) (by omega) (my_or1 p.2.2.2)) fun M1 f1 s1 => ⟨hin, hin, ?_⟩
    rw [(fr f1).2.2, e3, (fr f1).1, e1]
    refine ((ih _ p.2.1.2.1 (by omega)).1 p.2.1.2.2) d z L M1 e q dp _ (by omega) (my_pre_mv hpre f1 s1 (Nat.le_refl _) (by omega) (by omega) (my_or2 p.2.2.2)) fun M2 f2 s2 => ?_
    have hK := hK M2 (my_fr_trans f1 f2 (Nat.le_refl _) (Nat.le_refl _)) s2
    rw [sm_body5 hk] at hK
    exact my_compared (by omega) p.2.2.1 (wQi_i hK)
  · have hk : sm_k (T t) = 6 := by omega
    have p := sm_wf6 hw hk
    have cc := sm_zc1 w ht hc p.2.1 (by omega) (by omega) (by rw [hk]; rfl) (by omega)
    have e1 : my_1 (T t) = nI (sm_a (T t)) := by simp [my_1, hk]
    have alt := p.1.2.1
    rw [g57, e1]
    refine ((ih _ p.1.2.1 (by omega)).1 p.1.2.2) d z L M e q dp _ (by omega) (my_pre_mv hpre my_fr_refl hS (Nat.le_refl _) (by omega) (by omega) (fun k h => by rw [p.2.2]; exact h)) fun M1 f1 s1 => ?_
    have hK := hK M1 f1 s1
    rw [sm_body6 hk] at hK
    simp only [sm_isno] at hK
    refine ⟨fun h => fX8_truth_88 (my_truthOf (wQi_i ?_)), fun h => fX8_truth_88 (my_truthOf (wQi_i ?_))⟩
    · rw [if_pos h] at hK; exact hK
    · rw [if_neg h] at hK; exact hK
  · have hk : sm_k (T t) = 7 := by omega
    have p := sm_wf7 hw hk
    have e1 : my_1 (T t) = nI (sm_o (T t)) := by simp [my_1, hk]
    have e2 : my_2 (T t) = nI (sm_a (T t)) := by simp [my_2, hk]
    have alt := p.1.2.1
    have ca : sm_zc T tr (sm_a (T t)) < sm_zc T tr t := by
      rcases p.2 with o | o
      · have := sm_zc2 w ht hc o.2.1.1 (by omega) (by omega) (by rw [hk]; rfl) (by omega); omega
      · have := sm_zc1 w ht hc o.2.1 (by omega) (by omega) (by rw [hk]; rfl) (by omega); omega
    have la : ∀ k, (sm_l (T (sm_a (T t)))).testBit k = true → (sm_l (T t)).testBit k = true := by
      rcases p.2 with o | o
      · exact my_or1 o.2.2
      · intro k h; rw [o.2.2]; exact h
    rw [g58, e2]
    have t3a := my_t3 (tb := tb) w (sm_a (T t)) (by omega) p.1.2.2 e
    refine ((ih _ p.1.2.1 (by omega)).2.1 p.1.2.2) d z L M e q dp _ (by omega) (my_pre_mv hpre my_fr_refl hS (Nat.le_refl _) (by omega) (by omega) la) fun M1 f1 s1 => ⟨hin, ?_⟩
    rw [(fr f1).1, e1]
    rw [sm_body7 hk] at hK
    have ol : sm_o (T t) ≤ 2 := by rcases p.2 with o | o <;> omega
    refine ⟨fun h2 => ?_, fun h2 => ?_⟩
    · have h2 : sm_o (T t) = 2 := (nI_eq (b := 2) (by omega) (by omega)).mp h2
      have hK := hK M1 f1 s1
      rw [if_pos h2] at hK
      simp only [sm_not] at hK
      refine ⟨fun h => ?_, fun h => ?_⟩
      · rw [(my_tr2 t3a).1] at h
        rw [if_pos h] at hK
        exact fX8_truth_125 (wQi_i hK)
      · rw [(my_tr2 t3a).1] at h
        rw [if_neg h] at hK
        rw [(my_tr2 t3a).2.2.2 h]
        refine fX8_truth_125 (wQi_i ?_)
        rcases t3a with q | q | q
        · rw [q] at hK ⊢; exact hK
        · rw [q] at hK ⊢; exact hK
        · exact absurd q h
    · have h2 : ¬ sm_o (T t) = 2 := fun q => h2 (by rw [q]; rfl)
      rcases p.2 with o | o
      · have cc := sm_zc2 w ht hc o.2.1.1 (by omega) (by omega) (by rw [hk]; rfl) (by omega)
        have blt := o.2.1.2.1
        have e3 : my_3 (T t) = nI (sm_b (T t)) := by simp only [my_3, hk]; rw [if_neg h2]; rfl
        have t3b := my_t3 (tb := tb) w (sm_b (T t)) (by omega) o.2.1.2.2 e
        rw [(fr f1).2.2, e3]
        refine ⟨hin, ((ih _ o.2.1.2.1 (by omega)).2.1 o.2.1.2.2) d z L M1 e q dp _ (by omega) (my_pre_mv hpre f1 s1 (Nat.le_refl _) (by omega) (by omega) (my_or2 o.2.2)) fun M2 f2 s2 => ⟨hin, ?_⟩⟩
        have f12 := my_fr_trans f1 f2 (Nat.le_refl _) (Nat.le_refl _)
        have hK := hK M2 f12 s2
        rw [if_neg h2] at hK
        rw [(fr f12).1, e1]
        have ta := my_tr2 t3a
        have tb' := my_tr2 t3b
        generalize (sm_S T tb (sm_a (T t)) e).1 = va at *
        generalize (sm_S T tb (sm_b (T t)) e).1 = vb at *
        have c152 : ∀ ends : Int32, (ends = 0 ∧ sm_o (T t) = 0 ∨ ends = 1 ∧ sm_o (T t) = 1) → wRun (d + 1, 0, 0) mX8_truth 152 [none, none, none, some (.int (my_tr va)), some (.int (my_tr vb)), none, none, none] [.int ends] z M2 L (wQi K) := fun ends he => by
          have fin : ∀ v, v = my_tr (sm_logic (sm_o (T t)) va vb) → wRun (d + 1, 0, 0) mX8_truth 191 [none, none, none, none, none, none, none, none] [.int v] z M2 L (wQi K) := fun v hv => fX8_truth_191 (wQi_i (by rw [hv]; exact hK))
          refine fX8_truth_152 ⟨fun h => fX8_truth_167 (fin _ ?_), fun h1 => ⟨fun h => fX8_truth_167 (fin _ ?_), fun h2 => ⟨fun h => fX8_truth_183 (fin _ ?_), fun h3 => ⟨fun h => fX8_truth_183 (fin _ ?_), fun h4 => fin _ ?_⟩⟩⟩⟩
          all_goals
            rcases he with ⟨rfl, ho⟩ | ⟨rfl, ho⟩ <;> rw [ho] <;> rcases t3a with rfl | rfl | rfl <;> rcases t3b with rfl | rfl | rfl <;> first | rfl | (exact absurd h (by decide)) | (exact absurd rfl h1) | (exact absurd rfl h2) | (exact absurd rfl h3) | (exact absurd rfl h4) | decide
        refine ⟨fun h => c152 0 (Or.inl ⟨rfl, (nI_eq (b := 0) (by omega) (by omega)).mp h⟩), fun h => c152 1 (Or.inr ⟨rfl, ?_⟩)⟩
        have : ¬ sm_o (T t) = 0 := fun q => h (by rw [q]; rfl)
        omega
      · exact absurd o.1 h2
  · have hk : sm_k (T t) = 8 := by omega
    have p := sm_wf8 hw hk
    have cc := sm_zc1 w ht hc p.2.1 (by omega) (by omega) (by rw [hk]; rfl) (by omega)
    have e1 : my_1 (T t) = nI (sm_a (T t)) := by simp [my_1, hk]
    have alt := p.1.2.1
    rw [g57, e1]
    refine ((ih _ p.1.2.1 (by omega)).2.2 p.1.2.2) d z L M e q dp _ (by omega) (my_pre_mv hpre my_fr_refl hS (Nat.le_refl _) (by omega) (by omega) (fun k h => by rw [p.2.2]; exact h)) fun M1 R f1 s1 pr hA => ?_
    have sz := (sm_sizes w hT _ (show sm_a (T t) < N by omega) (by omega) p.1.2.2)
    have rl : R.length ≤ sm_zc T tr (sm_a (T t)) := by rw [pr.length_eq]; exact Nat.le_trans (sz.2.2 e) sz.1
    rw [hS.1]
    have hK := hK _ (my_fr_19 (v := nI q) f1) ⟨ak_up_same, by rw [ak_up_ne (by omega)]; exact s1.2⟩
    rw [sm_body8 hk] at hK
    refine ⟨fun h => fX8_truth_226 (my_truthOf (wQi_i ?_)), fun h => fX8_truth_226 (my_truthOf (wQi_i ?_))⟩
    · have : R = [] := List.eq_nil_of_length_eq_zero (by
        have := (nI_leI (b := 0) (show R.length < 2 ^ 31 by omega) (by omega)).mp h
        omega)
      rw [if_pos ((sm_nil_perm pr).mp this)] at hK; exact hK
    · have : R ≠ [] := fun q => h (by rw [q]; decide)
      rw [if_neg (fun q => this ((sm_nil_perm pr).mpr q))] at hK; exact hK
end MY
