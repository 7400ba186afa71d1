/-! CONTRACTS of ApplyFreeModel: both, groups, and all terms -/
theorem my_bitN {g c : Nat} (hg : g < 2 ^ 31) (hc : c < 32) : sm_bit (nI g) c = g.testBit c := by
  have hs : ∀ k, k < 32 → ((nI k &&& 31).toBitVec.smod 32).toNat = k := by decide
  have : (sm_bit (nI g) c = true) ↔ g.testBit c = true := by
    rw [← sm_bit_iff, pk_shrN hg _ c (hs c hc), pk_andN (by have := Nat.div_le_self g (2 ^ c); omega) 1 (by decide), ak_n1, nI_eq (by omega) (by omega), Nat.testBit_eq_decide_div_mod_eq, decide_eq_true_eq]
  cases h1 : sm_bit (nI g) c <;> cases h2 : g.testBit c <;> simp_all
theorem my_bit_w {g w c : Nat} (hg : g < 2 ^ w) (hw : w ≤ 8) (hc : c < 8) (h : sm_bit (nI g) c = true) : c < w := by
  have h8 : g < 256 := Nat.lt_of_lt_of_le hg (Nat.pow_le_pow_right (n := 2) (by omega) hw)
  rw [my_bitN (by omega) (by omega)] at h
  exact my_bit_lt (l := g) (by rw [Nat.mod_eq_of_lt h8]; exact hg) h hc
theorem my_ks_ne {g w : Nat} (hg : g < 2 ^ w) (hw : w ≤ 8) (h0 : g ≠ 0) : sm_ks (nI g) ≠ [] := by
  have h8 : g < 256 := Nat.lt_of_lt_of_le hg (Nat.pow_le_pow_right (n := 2) (by omega) hw)
  obtain ⟨i, hi⟩ := Nat.exists_testBit_of_ne_zero h0
  have hi8 : i < 8 := by
    refine Nat.not_le.mp fun q => ?_
    have h1 := Nat.ge_two_pow_of_testBit hi
    have h2 : 2 ^ 8 ≤ 2 ^ i := Nat.pow_le_pow_right (by omega) q
    omega
  intro e
  have : i ∈ sm_ks (nI g) := by
    unfold sm_ks
    rw [List.mem_filter, List.mem_range]
    exact ⟨hi8, by rw [my_bitN (by omega) (by omega)]; exact hi⟩
  rw [e] at this; cases this
theorem my_ks_w {g w : Nat} (hg : g < 2 ^ w) (hw : w ≤ 8) : (List.range w).filter (sm_bit (nI g)) = sm_ks (nI g) := by
  unfold sm_ks
  have e : (8 : Nat) = w + (8 - w) := by omega
  rw [e, List.range_add, List.filter_append]
  have : ((List.range (8 - w)).map fun x => w + x).filter (sm_bit (nI g)) = [] := by
    rw [List.filter_eq_nil_iff]
    intro x hx hb
    obtain ⟨y, hy, rfl⟩ := List.mem_map.mp hx
    have := my_bit_w hg hw (by have := List.mem_range.mp hy; omega) hb
    omega
  rw [this, List.append_nil]
section MY
variable {T : Nat → sm_T} {tc : Nat → Nat} {nt N : Nat} {tb : Nat → List ay_Row} {tr : Nat → Nat} {d : Nat} {z : wd_Z} {L : wd_L}
theorem my_sw_take {C : List ay_Row} {k tk : Nat} (hk : tk ≤ k) (hl : k < C.length) : (my_sw C k tk).take (tk + 1) = C.take tk ++ [C.getD k []] := by
  have h := my_sw_get (R := C) (i := k) (j := tk) (x := tk) hl (by omega)
  rw [if_pos rfl] at h
  rw [sl_take (r := C.getD k []) (by rw [my_gd (by rw [my_sw_len]; omega), h])]
  congr 1
  unfold my_sw
  rw [List.take_set_of_le (Nat.le_refl _), List.take_set_of_le hk]
/-- the taken ones, and what is left -/
def my_bi (A B C : List ay_Row) (j tk : Nat) : Prop := C.Perm A ∧ tk ≤ C.length ∧ ∀ x, (C.take tk).count x + (sm_minus A (B.take j)).count x = A.count x
theorem my_bi_drop {A B C : List ay_Row} {j tk : Nat} (h : my_bi A B C j tk) (x : ay_Row) : (C.drop tk).count x = (sm_minus A (B.take j)).count x := by
  have h1 := h.2.2 x
  have h2 : (C.take tk).count x + (C.drop tk).count x = A.count x := by rw [← List.count_append, List.take_append_drop, h.1.count_eq]
  omega
theorem sm_minus_snoc {A B : List ay_Row} {j : Nat} {b : ay_Row} (hb : B[j]? = some b) : sm_minus A (B.take (j + 1)) = (sm_minus A (B.take j)).erase b := by
  unfold sm_minus
  rw [sl_take hb, List.foldl_append]; rfl
theorem my_bi_hit {A B C : List ay_Row} {j tk k : Nat} {b : ay_Row} (h : my_bi A B C j tk) (hb : B[j]? = some b) (hk : tk ≤ k) (hl : k < C.length) (he : C.getD k [] = b) : my_bi A B (my_sw C k tk) (j + 1) (tk + 1) := by
  refine ⟨(my_sw_perm hl (by omega)).trans h.1, by rw [my_sw_len]; omega, fun x => ?_⟩
  have hm : b ∈ C.drop tk := by
    rw [List.mem_iff_getElem?]
    refine ⟨k - tk, ?_⟩
    rw [List.getElem?_drop, show tk + (k - tk) = k by omega, my_gd hl, he]
  have hpos : 0 < (sm_minus A (B.take j)).count b := by rw [← my_bi_drop h]; exact List.count_pos_iff.mpr hm
  have h1 := h.2.2 x
  rw [my_sw_take hk hl, he, List.count_append, sm_minus_snoc hb, List.count_erase, List.count_singleton]
  by_cases e : b = x
  · subst e; simp; omega
  · have e' : ¬ x = b := fun q => e q.symm
    have e1 : (b == x) = false := beq_eq_false_iff_ne.mpr e
    simp [e1]; omega
theorem my_bi_miss {A B C : List ay_Row} {j tk : Nat} {b : ay_Row} (h : my_bi A B C j tk) (hb : B[j]? = some b) (hn : ∀ k, tk ≤ k → k < C.length → C.getD k [] ≠ b) : my_bi A B C (j + 1) tk := by
  refine ⟨h.1, h.2.1, fun x => ?_⟩
  have hz : b ∉ sm_minus A (B.take j) := fun hm => by
    have h1 : 0 < (C.drop tk).count b := by rw [my_bi_drop h]; exact List.count_pos_iff.mpr hm
    obtain ⟨i, hi⟩ := List.mem_iff_getElem?.mp (List.count_pos_iff.mp h1)
    rw [List.getElem?_drop] at hi
    have hl := (List.getElem?_eq_some_iff.mp hi).1
    exact hn (tk + i) (by omega) hl (my_gd' hi)
  rw [sm_minus_snoc hb, List.erase_of_not_mem hz]
  exact h.2.2 x
abbrev my_bl (t w q a b tk j : Nat) (tl : am_AL) : am_AL := some (.ref 650) :: some (.int (nI t)) :: some (.int (nI w)) :: some (.int (nI q)) :: some (.int (nI a)) :: some (.int (nI (q + w * a))) :: some (.int (nI b)) :: some (.int (nI tk)) :: some (.int (nI j)) :: tl
theorem my_both_74 {t w q dp tk j : Nat} {M0 M : wd_M} {A B C : List ay_Row} {b : ay_Row} {Q : am_Q} (hw8 : w ≤ 8) (hb : B[j]? = some b) (hq : q + w * A.length + w * B.length ≤ 600000) (hl : A.length < 100000) (hbi : my_bi A B C j tk) (hC : my_A M q w C) (hB : my_A M (q + w * A.length) w B) (f : my_fr q dp M0 M) (h21 : M 650 21 = nI dp)
    (go : ∀ (M' : wd_M) C' tk', my_bi A B C' (j + 1) tk' → my_A M' q w C' → my_A M' (q + w * A.length) w B → my_fr q dp M0 M' → M' 650 21 = nI dp → wRun (d + 1, 0, 0) mX8_bothOf 63 (my_bl t w q A.length B.length tk' (j + 1) [none]) [] z M' L Q) :
    ∀ n k, k + n = A.length → tk ≤ k → (∀ i, tk ≤ i → i < k → C.getD i [] ≠ b) → wRun (d + 1, 0, 0) mX8_bothOf 74 (my_bl t w q A.length B.length tk j [some (.int (nI k))]) [] z M L Q
  | 0, k, hk, htk, hn => by
    have ek : k = A.length := by omega
    have lc := hbi.1.length_eq
    subst ek
    refine fX8_bothOf_74 ⟨fun _ => ⟨fun _ => ?_, fun q => absurd (nI_le (Nat.le_refl _) (by omega)) q⟩, fun q => absurd (nI_le (Nat.le_refl _) (by omega)) q⟩
    rw [nI_1]
    exact go M C tk (my_bi_miss hbi hb fun i h1 h2 => hn i h1 (by omega)) hC hB f h21
  | n + 1, k, hk, htk, hn => by
    have lc := hbi.1.length_eq
    have hkl : k < C.length := by omega
    have gC := my_A_row hC (my_gd hkl)
    have gB := my_A_row hB hb
    have ng : ¬ nI A.length ≤ nI k := nI_ge (by omega) (by omega)
    have wl : w * C.length = w * A.length := by rw [lc]
    refine fX8_bothOf_74 ⟨fun q => absurd q ng, fun _ => ?_⟩
    rw [pk_mul, nI_add, pk_mul, nI_add, pk_mul, nI_add, nI_1, nI_1, nI_1]
    refine my_alike gC.1 gB.1 gC.2.1 gB.2.1 (by omega) (by omega) ?_
    by_cases h : C.getD k [] = b
    · rw [if_pos ((my_like_all hw8 gC.2.1 gB.2.1).mpr h)]
      refine ⟨fun q => absurd q (by decide), fun _ => ⟨fun q => absurd q ng, fun _ => ?_⟩⟩
      refine my_exrow hC hkl (by omega) (by omega) fun M' g1 g2 g3 => go M' _ _ (my_bi_hit hbi hb htk hkl h) g1 (my_A_fr hB fun i i1 i2 => g3 i (by omega)) (my_fr_sort f g2 fun i hi => g3 i (by omega)) (by rw [g2 650 (by omega)]; exact h21)
    · rw [if_neg (fun q => h ((my_like_all hw8 gC.2.1 gB.2.1).mp q))]
      refine ⟨fun _ => ?_, fun q => absurd rfl q⟩
      refine my_both_74 hw8 hb hq hl hbi hC hB f h21 go n (k + 1) (by omega) (by omega) fun i h1 h2 => ?_
      by_cases e : i = k
      · rw [e]; exact h
      · exact hn i h1 (by omega)
theorem my_both_63 {t w q dp op : Nat} {M0 : wd_M} {A B : List ay_Row} {K : Int32 → wd_Z → wd_M → wd_L → Prop} (hd : 2 ≤ d) (ht : t < 120) (hop : op = 1 ∨ op = 2) (h59 : M0 659 t = nI op) (hw8 : w ≤ 8) (hq : q + w * A.length + w * B.length ≤ 600000) (hl : A.length < 100000) (hlB : B.length < 100000)
    (hK : ∀ M' R, my_fr q dp M0 M' → my_st M' (q + w * R.length) dp → R.Perm (sm_both op A B) → my_A M' q w R → K (nI R.length) z M' L) :
    ∀ n j (M : wd_M) (C : List ay_Row) tk, j + n = B.length → my_bi A B C j tk → my_A M q w C → my_A M (q + w * A.length) w B → my_fr q dp M0 M → M 650 21 = nI dp → wRun (d + 1, 0, 0) mX8_bothOf 63 (my_bl t w q A.length B.length tk j [none]) [] z M L (wQi K)
  | 0, j, M, C, tk, hj, hbi, hC, hB, f, h21 => by
    have ej : j = B.length := by omega
    subst ej
    have lc := hbi.1.length_eq
    have htk := hbi.2.1
    have wl : w * C.length = w * A.length := by rw [lc]
    have hsplit : my_A M q w (C.take tk ++ C.drop tk) := by rw [List.take_append_drop]; exact hC
    rw [my_A_app] at hsplit
    have tl : (C.take tk).length = tk := by rw [List.length_take]; omega
    have dl : (C.drop tk).length = A.length - tk := by rw [List.length_drop, lc]
    rw [tl] at hsplit
    have wdl : w * tk + w * (C.drop tk).length = w * A.length := by rw [dl, ← Nat.mul_add]; congr 1; omega
    refine fX8_bothOf_63 ⟨fun _ => ⟨vp_in_nI ht (by omega), ?_⟩, fun q => absurd (nI_le (Nat.le_refl _) (by omega)) q⟩
    rw [nI_clamp (show t < 2 ^ 31 by omega), f.1 659 (by omega) (by omega) (by omega), h59]
    refine ⟨fun h2 => ?_, fun h2 => ?_⟩
    · have o2 : op = 2 := (nI_eq (b := 2) (by omega) (by omega)).mp h2
      have := my_settle_r (K := fun v z M L => wQi K (some (.int v)) (wd z M L)) (z := z) (L := L) hd f h21 hsplit.1 (Nat.le_refl _) (by rw [tl]; omega) (fun M' f' s' hA' => wQi_i (hK M' _ f' s' ?_ hA'))
      · rw [tl] at this; exact this
      · rw [List.perm_iff_count]
        intro x
        have h1 := hbi.2.2 x
        unfold sm_both
        rw [if_neg (by omega), if_neg (by omega), sm_minus_count, ← h1, List.take_length]; omega
    · have o1 : op = 1 := by
        have : ¬ op = 2 := fun q => h2 (by rw [q]; rfl)
        omega
      rw [pk_mul, nI_add, pk_sub (by omega)]
      have := my_settle_r (K := fun v z M L => wQi K (some (.int v)) (wd z M L)) (z := z) (L := L) hd f h21 hsplit.2 (by omega) (by omega) (fun M' f' s' hA' => wQi_i (hK M' _ f' s' ?_ hA'))
      · rw [dl] at this; exact this
      · rw [List.perm_iff_count]
        intro x
        unfold sm_both
        rw [if_neg (by omega), if_pos o1, my_bi_drop hbi, List.take_length]
  | n + 1, j, M, C, tk, hj, hbi, hC, hB, f, h21 => by
    have lc := hbi.1.length_eq
    have htk := hbi.2.1
    obtain ⟨b, hb⟩ := sl_idx (show j < B.length by omega)
    refine fX8_bothOf_63 ⟨fun q => absurd q (nI_ge (by omega) (by omega)), fun _ => ?_⟩
    exact my_both_74 (d := d) hw8 hb hq hl hbi hC hB f h21 (fun M' C' tk' g1 g2 g3 g4 g5 => my_both_63 hd ht hop h59 hw8 hq hl hlB hK n (j + 1) M' C' tk' (by omega) g1 g2 g3 g4 g5) (A.length - tk) tk (by omega) (Nat.le_refl _) fun i h1 h2 => by omega
theorem my_bothOf {t q dp : Nat} {e : sm_E} {M : wd_M} {K : Int32 → wd_Z → wd_M → wd_L → Prop} (w : sm_wf T tc nt N) (hT : ∀ k, k < nt → k < 6 ∧ (tb k).length = tr k) (ht : t < N) (hk : sm_k (T t) = 17) (hc : sm_zc T tr t ≤ 3000) (ih : my_IH T tc nt N tb tr t) (hd : 4 * t + 7 ≤ d) (hpre : my_pre T tc nt N tb tr t q dp e M)
    (hK : ∀ M' R, my_fr q dp M M' → my_st M' (q + sm_w (T t) * R.length) dp → R.Perm (sm_S T tb t e).2 → my_A M' q (sm_w (T t)) R → K (nI R.length) z M' L) : wRunI (d, 0, 0) mX8_bothOf [.ref 650, .int (nI t)] z M L K := by
  obtain ⟨d, rfl, hd'⟩ := ak_deep (show (4 * t + 6) + 1 ≤ d by omega)
  obtain ⟨hG, hS, hE, hq, hdp⟩ := id hpre
  have hN := hG.1
  have p := sm_wf17 (w t ht).1 hk
  have cc := sm_zc2 w ht hc p.2.1.1 (by omega) (by omega) (by rw [hk]; rfl) (by omega)
  obtain ⟨g54, g55, g56, g57, g58, g59, g60, -⟩ := hG.2.2.1 t ht
  have e1 : my_1 (T t) = nI (sm_a (T t)) := by simp [my_1, hk]
  have e2 : my_2 (T t) = nI (sm_b (T t)) := by simp [my_2, hk]
  have e3 : my_3 (T t) = nI (sm_o (T t)) := by simp [my_3, hk]
  have alt := p.1.2.1
  have blt := p.2.1.2.1
  have hin : vp_in (nI t) 120 := vp_in_nI (by omega) (by omega)
  have w8 := (w t ht).2.1
  have ew : sm_w (T t) = sm_w (T (sm_a (T t))) := p.2.2.2.2.1
  have ew2 : sm_w (T (sm_b (T t))) = sm_w (T (sm_a (T t))) := p.2.2.2.1.symm
  refine fX8_bothOf_e ?_
  rw [nI_clamp (show t < 2 ^ 31 by omega), g57, e1]
  refine ⟨hin, hin, my_bag_at w hT ht ih hpre p.1.2.1 p.1.2.2 (by omega) (my_or1 p.2.2.2.2.2) my_fr_refl hS (Nat.le_refl _) (by omega) (by omega) fun M1 A f1 s1 prA hA rl zl wl => ⟨hin, ?_⟩⟩
  rw [f1.1 658 (by omega) (by omega) (by omega), g58, e2]
  refine my_bag_at w hT ht ih hpre p.2.1.2.1 p.2.1.2.2 (by omega) (my_or2 p.2.2.2.2.2) f1 s1 (by omega) (by omega) (by omega) fun M2 B f2 s2 prB hB rl2 zl2 wl2 => ?_
  rw [hS.1, s1.1, g56]
  rw [ew2] at hB wl2 s2
  rw [ew] at hK w8 ⊢
  have f12 := my_fr_trans f1 f2 (by omega) (Nat.le_refl _)
  have A2 := my_rows_fr hA f2 (by omega)
  rw [f12.1 659 (by omega) (by omega) (by omega), g59, e3]
  have o2 := p.2.2.1
  have prS : ∀ {R : List ay_Row}, R.Perm (sm_both (sm_o (T t)) A B) → R.Perm (sm_S T tb t e).2 := fun h => by
    rw [sm_S_eq w ht, sm_body17 hk]
    exact h.trans (sm_both_perm _ prA prB)
  refine ⟨hin, fun h0 => ?_, fun h0 => ?_⟩
  · have o0 : sm_o (T t) = 0 := (nI_eq (b := 0) (by omega) (by omega)).mp h0
    rw [nI_add, ← List.length_append]
    refine wQi_i (hK M2 _ f12 ?_ (prS ?_) (my_A_app.mpr ⟨A2, hB⟩))
    · rw [List.length_append, Nat.mul_add, ← Nat.add_assoc]; exact s2
    · rw [o0]; unfold sm_both; rw [if_pos rfl]
  · have o0 : ¬ sm_o (T t) = 0 := fun q => h0 (by rw [q]; rfl)
    refine my_both_63 (dp := dp) (op := sm_o (T t)) (by omega) (by omega) (by omega) (by rw [g59, e3]) w8 (by omega) (by omega) (by omega) (fun M' R f' s' hR hA' => hK M' R f' s' (prS hR) hA') B.length 0 M2 A 0 (by omega) ⟨List.Perm.refl _, by omega, fun x => ?_⟩ A2 hB f12 s2.2
    rw [List.take_zero, List.take_zero]
    unfold sm_minus
    simp
/-! groups -/
def my_gk (num : Int32) (kind c : Nat) (R : List ay_Row) (k : ay_Row) : ay_Row := k ++ [sm_fold kind (sm_at c (R.filter (fun r => sm_pick (sm_ks num) r == k)))]
def my_gs (num : Int32) (kind c : Nat) (R : List ay_Row) (i : Nat) : List ay_Row := (sm_once ((R.take i).map (sm_pick (sm_ks num)))).map (my_gk num kind c R)
/-- what groups have at hand -/
def my_gh (M0 : wd_M) (t g kind c wa wt q : Nat) (R : List ay_Row) : Prop :=
  t < 120 ∧ kind ≤ 5 ∧ c < wa ∧ wa ≤ 8 ∧ g < 2 ^ wa ∧ wt = (sm_ks (nI g)).length + 1 ∧ M0 656 t = nI wt ∧ M0 658 t = nI g ∧ M0 659 t = nI kind ∧ M0 660 t = nI c ∧ R.length < 10000 ∧ q + wa * R.length + wt * R.length ≤ 600000
abbrev my_gl (t q rows wa made n k : Nat) (tl : am_AL) : am_AL := some (.ref 650) :: some (.int (nI t)) :: some (.int (nI q)) :: some (.int (nI rows)) :: some (.int (nI wa)) :: some (.int (nI made)) :: some (.int (nI n)) :: some (.int (nI k)) :: tl
theorem my_grp_168 {t g kind c wa wt q dp n k top : Nat} {M0 M1 : wd_M} {R : List ay_Row} {r : ay_Row} {Q : am_Q} (hd : 1 ≤ d) (h : my_gh M0 t g kind c wa wt q R) (hr : R[k]? = some r) (hRA : my_A M1 q wa R) (ht1 : q + wa * R.length ≤ top) (htop : top + wt ≤ 600000)
    (go : ∀ M', my_fr q dp M0 M' → my_st M' (top + wt) dp → (∀ i, i < top → M' 665 i = M1 665 i) → sl_at (M' 665) top (my_gk (nI g) kind c R (sm_pick (sm_ks (nI g)) r)) → wRun (d + 1, 0, 0) mX8_grouped 91 (my_gl t q R.length wa (q + wa * R.length) (n + 1) (k + 1) [none, none]) [] z M' L Q) :
    ∀ m x (M : wd_M), x + m = wa → my_fr q dp M0 M → my_st M (top + ((List.range x).filter (sm_bit (nI g))).length) dp → (∀ i, i < top → M 665 i = M1 665 i) → sl_at (M 665) top (((List.range x).filter (sm_bit (nI g))).map fun c => r.getD c 0) → wRun (d + 1, 0, 0) mX8_grouped 168 (my_gl t q R.length wa (q + wa * R.length) n k [none, some (.int (nI x))]) [] z M L Q
  | 0, x, M, hx, f, s, h1, h2 => by
    obtain ⟨t1, k5, hc, w8, hg, ewt, h56, h58, h59, h60, hl, hq⟩ := id h
    have ex : x = wa := by omega
    subst ex
    have it : vp_in (nI t) 120 := vp_in_nI t1 (by omega)
    have hlen := (List.getElem?_eq_some_iff.mp hr).1
    have lt := my_lt (w := x) hlen
    rw [my_ks_w hg w8] at s h2
    have A2 : my_A M q x R := my_A_fr hRA fun i _ i2 => h1 i (by omega)
    have gr := my_A_row A2 hr
    refine fX8_grouped_168 ⟨fun _ => ⟨it, it, it, ?_⟩, fun q => absurd (nI_le (Nat.le_refl _) (by omega)) q⟩
    rw [nI_clamp (show t < 2 ^ 31 by omega), f.1 658 (by omega) (by omega) (by omega), f.1 659 (by omega) (by omega) (by omega), f.1 660 (by omega) (by omega) (by omega), h58, h59, h60, pk_mul, nI_add, nI_1, nI_1]
    refine my_folded (lk := some (q + x * k, r)) hd ⟨k5, hc, A2, by omega, fun q0 h0 => ?_⟩ ?_
    · cases h0; exact ⟨gr.1, gr.2.1, by show q + x * k + x ≤ 600000; omega⟩
    · rw [s.1, nI_clamp (show top + (sm_ks (nI g)).length < 2 ^ 31 by omega), ak_up_cell (by omega), s.1, nI_1]
      have ef : R.filter (my_sel (nI g) x (some (q + x * k, r))) = R.filter (fun y => sm_pick (sm_ks (nI g)) y == sm_pick (sm_ks (nI g)) r) := by
        apply List.filter_congr
        intro y hy
        have := my_like_pick (cols := nI g) (a := r) (b := y) w8 (fun c hc hb => my_bit_w hg w8 hc hb)
        show my_like (nI g) x r y = _
        by_cases q : sm_pick (sm_ks (nI g)) r = sm_pick (sm_ks (nI g)) y
        · rw [this.mpr q, q]; simp
        · have h1 : my_like (nI g) x r y = false := by
            cases h : my_like (nI g) x r y
            · rfl
            · exact absurd (this.mp h) q
          rw [h1]
          symm
          rw [beq_eq_false_iff_ne]
          exact fun e => q e.symm
      rw [ef]
      refine ⟨vp_in_nI (by omega) (by omega), go _ (my_fr_19 (my_fr_room f (by omega))) ⟨by rw [ak_up_same, ewt]; rfl, by rw [ak_up_ne (by omega), ak_up_cell (by omega)]; exact s.2⟩ (fun i hi => by rw [ak_up_cell (by omega), ak_up_ne (by omega)]; exact h1 i hi) ?_⟩
      unfold my_gk
      have pl : (sm_pick (sm_ks (nI g)) r).length = (sm_ks (nI g)).length := by unfold sm_pick; rw [List.length_map]
      rw [ak_up_cell (by omega), ak_up_own, sl_app, pl]
      exact ⟨sl_upd h2 (by omega), sl_one.mpr (by rw [pk_us])⟩
  | m + 1, x, M, hx, f, s, h1, h2 => by
    obtain ⟨t1, k5, hc, w8, hg, ewt, h56, h58, h59, h60, hl, hq⟩ := id h
    have it : vp_in (nI t) 120 := vp_in_nI t1 (by omega)
    have hlen := (List.getElem?_eq_some_iff.mp hr).1
    have lt := my_lt (w := wa) hlen
    have A2 : my_A M q wa R := my_A_fr hRA fun i _ i2 => h1 i (by omega)
    have gr := my_A_row A2 hr
    have ev : M 665 (q + wa * k + x) = r.getD x 0 := sl_getD gr.1 (by omega)
    have hrs : (List.range (x + 1)).filter (sm_bit (nI g)) = (List.range x).filter (sm_bit (nI g)) ++ (if sm_bit (nI g) x = true then [x] else []) := by
      rw [List.range_succ, List.filter_append]
      congr 1
      cases h : sm_bit (nI g) x <;> simp [h]
    have fl : ((List.range (x + 1)).filter (sm_bit (nI g))).length ≤ (sm_ks (nI g)).length := by
      rw [← my_ks_w hg w8]
      have e : wa = (x + 1) + (wa - (x + 1)) := by omega
      have e' : List.range wa = List.range (x + 1) ++ (List.range (wa - (x + 1))).map fun y => (x + 1) + y := by rw [← List.range_add, ← e]
      rw [e', List.filter_append, List.length_append]; omega
    refine fX8_grouped_168 ⟨fun q => absurd q (nI_ge (by omega) (by omega)), fun _ => ⟨it, ?_⟩⟩
    rw [nI_clamp (show t < 2 ^ 31 by omega), f.1 658 (by omega) (by omega) (by omega), h58, sm_bit_iff, pk_mul, nI_add, nI_add, nI_clamp (show q + wa * k + x < 2 ^ 31 by omega), ev, nI_1]
    refine ⟨fun hb => ?_, fun hb => ?_⟩
    · rw [if_pos hb] at hrs
      rw [hrs, List.length_append] at fl
      have fl : ((List.range x).filter (sm_bit (nI g))).length + 1 ≤ (sm_ks (nI g)).length := fl
      rw [s.1, nI_clamp (show top + ((List.range x).filter (sm_bit (nI g))).length < 2 ^ 31 by omega), ak_up_cell (by omega), s.1, nI_1]
      refine ⟨vp_in_nI (by omega) (by omega), vp_in_nI (by omega) (by omega), ?_⟩
      refine my_grp_168 hd h hr hRA ht1 htop go m (x + 1) _ (by omega) (my_fr_19 (my_fr_room f (by omega))) ⟨by rw [ak_up_same, hrs, List.length_append]; rfl, by rw [ak_up_ne (by omega), ak_up_cell (by omega)]; exact s.2⟩ (fun i hi => by rw [ak_up_cell (by omega), ak_up_ne (by omega)]; exact h1 i hi) ?_
      rw [hrs, List.map_append, sl_app, ak_up_cell (by omega), ak_up_own, List.length_map]
      exact ⟨sl_upd h2 (by rw [List.length_map]; omega), sl_one.mpr (by rw [pk_us])⟩
    · rw [if_neg hb, List.append_nil] at hrs
      exact my_grp_168 hd h hr hRA ht1 htop go m (x + 1) M (by omega) f (by rw [hrs]; exact s) h1 (by rw [hrs]; exact h2)
theorem my_grp_103 {t g kind c wa wt q n k : Nat} {M0 M : wd_M} {R : List ay_Row} {r : ay_Row} {Q : am_Q} {dp : Nat} (h : my_gh M0 t g kind c wa wt q R) (hr : R[k]? = some r) (hRA : my_A M q wa R) (f : my_fr q dp M0 M)
    (go0 : sm_pick (sm_ks (nI g)) r ∈ (R.take k).map (sm_pick (sm_ks (nI g))) → wRun (d + 1, 0, 0) mX8_grouped 91 (my_gl t q R.length wa (q + wa * R.length) n (k + 1) [none, none]) [] z M L Q)
    (go1 : sm_pick (sm_ks (nI g)) r ∉ (R.take k).map (sm_pick (sm_ks (nI g))) → wRun (d + 1, 0, 0) mX8_grouped 168 (my_gl t q R.length wa (q + wa * R.length) n k [none, some (.int (nI 0))]) [] z M L Q) :
    ∀ m j, j + m = k → wRun (d + 1, 0, 0) mX8_grouped 103 (my_gl t q R.length wa (q + wa * R.length) n k [some (.int (if sm_pick (sm_ks (nI g)) r ∈ (R.take j).map (sm_pick (sm_ks (nI g))) then 0 else 1)), some (.int (nI j))]) [] z M L Q
  | 0, j, hj => by
    obtain ⟨t1, k5, hc, w8, hg, ewt, h56, h58, h59, h60, hl, hq⟩ := id h
    have hlen := (List.getElem?_eq_some_iff.mp hr).1
    have ej : j = k := by omega
    subst ej
    refine fX8_grouped_103 ⟨fun _ => ⟨fun e => ?_, fun e => ?_⟩, fun q => absurd (nI_le (Nat.le_refl _) (by omega)) q⟩
    · rw [nI_1]
      refine go0 (Classical.byContradiction fun hn => ?_)
      rw [if_neg hn] at e
      exact absurd e (by decide)
    · exact go1 fun hn => e (if_pos hn)
  | m + 1, j, hj => by
    obtain ⟨t1, k5, hc, w8, hg, ewt, h56, h58, h59, h60, hl, hq⟩ := id h
    have hlen := (List.getElem?_eq_some_iff.mp hr).1
    obtain ⟨y, hy⟩ := sl_idx (show j < R.length by omega)
    have gy := my_A_row hRA hy
    have gr := my_A_row hRA hr
    have nxt := my_grp_103 h hr hRA f go0 go1 m (j + 1) (by omega)
    have es : (R.take (j + 1)).map (sm_pick (sm_ks (nI g))) = (R.take j).map (sm_pick (sm_ks (nI g))) ++ [sm_pick (sm_ks (nI g)) y] := by rw [sl_take hy, List.map_append]; rfl
    refine fX8_grouped_103 ⟨fun q => absurd q (nI_ge (by omega) (by omega)), fun _ => ⟨fun e => ?_, fun e => ⟨vp_in_nI t1 (by omega), ?_⟩⟩⟩
    · have hm : sm_pick (sm_ks (nI g)) r ∈ (R.take j).map (sm_pick (sm_ks (nI g))) := by
        refine Classical.byContradiction fun hn => ?_
        rw [if_neg hn] at e
        exact absurd e (by decide)
      refine ⟨fun _ => ?_, fun q => absurd e q⟩
      rw [nI_1]
      refine go0 ?_
      obtain ⟨y', hy', e'⟩ := List.mem_map.mp hm
      exact List.mem_map.mpr ⟨y', List.take_subset_take_left R (by omega) hy', e'⟩
    · have hm : sm_pick (sm_ks (nI g)) r ∉ (R.take j).map (sm_pick (sm_ks (nI g))) := fun hn => e (if_pos hn)
      rw [pk_mul, nI_add, pk_mul, nI_add, nI_clamp (show t < 2 ^ 31 by omega), f.1 658 (by omega) (by omega) (by omega), h58, nI_1]
      refine my_alike gy.1 gr.1 gy.2.1 gr.2.1 (by omega) (by omega) ?_
      have lk := my_like_pick (cols := nI g) (a := y) (b := r) w8 (fun c hc hb => my_bit_w hg w8 hc hb)
      by_cases hh : sm_pick (sm_ks (nI g)) y = sm_pick (sm_ks (nI g)) r
      · rw [if_pos (lk.mpr hh)]
        refine ⟨fun q => absurd q (by decide), fun _ => ?_⟩
        have : (if sm_pick (sm_ks (nI g)) r ∈ (R.take (j + 1)).map (sm_pick (sm_ks (nI g))) then (0 : Int32) else 1) = 0 := if_pos (by rw [es, hh]; simp)
        rw [this] at nxt; exact nxt
      · rw [if_neg (fun q => hh (lk.mp q))]
        refine ⟨fun _ => ?_, fun q => absurd rfl q⟩
        have : (if sm_pick (sm_ks (nI g)) r ∈ (R.take (j + 1)).map (sm_pick (sm_ks (nI g))) then (0 : Int32) else 1) = 1 := if_neg (by
          rw [es, List.mem_append, List.mem_singleton]
          exact fun q => q.elim hm fun q => hh q.symm)
        rw [this] at nxt; exact nxt
theorem my_grp_91 {t g kind c wa wt q dp : Nat} {M0 : wd_M} {R : List ay_Row} {K : Int32 → wd_Z → wd_M → wd_L → Prop} (hd : 2 ≤ d) (h : my_gh M0 t g kind c wa wt q R)
    (hK : ∀ M', my_fr q dp M0 M' → my_st M' (q + wt * (my_gs (nI g) kind c R R.length).length) dp → my_A M' q wt (my_gs (nI g) kind c R R.length) → K (nI (my_gs (nI g) kind c R R.length).length) z M' L) :
    ∀ n k (M : wd_M), k + n = R.length → my_fr q dp M0 M → my_st M (q + wa * R.length + wt * (my_gs (nI g) kind c R k).length) dp → my_A M q wa R → my_A M (q + wa * R.length) wt (my_gs (nI g) kind c R k) → wRun (d + 1, 0, 0) mX8_grouped 91 (my_gl t q R.length wa (q + wa * R.length) (my_gs (nI g) kind c R k).length k [none, none]) [] z M L (wQi K)
  | 0, k, M, hk, f, s, hA, hP => by
    obtain ⟨t1, k5, hc, w8, hg, ewt, h56, h58, h59, h60, hl, hq⟩ := id h
    have ek : k = R.length := by omega
    subst ek
    have gl : (my_gs (nI g) kind c R R.length).length ≤ R.length := by
      unfold my_gs
      rw [List.length_map]
      refine Nat.le_trans (sm_once_len _) ?_
      rw [List.length_map, List.length_take]; omega
    have glw : wt * (my_gs (nI g) kind c R R.length).length ≤ wt * R.length := Nat.mul_le_mul_left _ gl
    refine fX8_grouped_91 ⟨fun _ => ⟨vp_in_nI t1 (by omega), ?_⟩, fun q => absurd (nI_le (Nat.le_refl _) (by omega)) q⟩
    rw [nI_clamp (show t < 2 ^ 31 by omega), f.1 656 (by omega) (by omega) (by omega), h56]
    exact my_settle_r hd f s.2 hP (by omega) (by omega) (fun M' f' s' hA' => wQi_i (hK M' f' s' hA'))
  | n + 1, k, M, hk, f, s, hA, hP => by
    obtain ⟨t1, k5, hc, w8, hg, ewt, h56, h58, h59, h60, hl, hq⟩ := id h
    have hlen : k < R.length := by omega
    obtain ⟨r, hr⟩ := sl_idx hlen
    have gl : (my_gs (nI g) kind c R k).length ≤ k := by
      unfold my_gs
      rw [List.length_map]
      refine Nat.le_trans (sm_once_len _) ?_
      rw [List.length_map, List.length_take]; omega
    have glw : wt * (my_gs (nI g) kind c R k).length + wt ≤ wt * R.length := my_lt (by omega)
    have es := sm_once_snoc ((R.take k).map (sm_pick (sm_ks (nI g)))) (sm_pick (sm_ks (nI g)) r)
    have em : (R.take (k + 1)).map (sm_pick (sm_ks (nI g))) = (R.take k).map (sm_pick (sm_ks (nI g))) ++ [sm_pick (sm_ks (nI g)) r] := by rw [sl_take hr, List.map_append]; rfl
    rw [← em] at es
    refine fX8_grouped_91 ⟨fun q => absurd q (nI_ge (by omega) (by omega)), fun _ => ?_⟩
    refine my_grp_103 (d := d) h hr hA f (fun hm => ?_) (fun hm => ?_) k 0 (by omega)
    · have e0 : my_gs (nI g) kind c R (k + 1) = my_gs (nI g) kind c R k := by
        unfold my_gs
        rw [es.trans (if_pos ((sm_once_mem _ _).mpr hm))]
      have := my_grp_91 hd h hK n (k + 1) M (by omega) f (by rw [e0]; exact s) hA (by rw [e0]; exact hP)
      rw [e0] at this; exact this
    · have e1 : my_gs (nI g) kind c R (k + 1) = my_gs (nI g) kind c R k ++ [my_gk (nI g) kind c R (sm_pick (sm_ks (nI g)) r)] := by
        unfold my_gs
        rw [es.trans (if_neg (fun q => hm ((sm_once_mem _ _).mp q))), List.map_append]; rfl
      refine my_grp_168 (d := d) (M1 := M) (dp := dp) (top := q + wa * R.length + wt * (my_gs (nI g) kind c R k).length) (by omega) h hr hA (by omega) (by omega) (fun M' f' s' g1 g2 => ?_) wa 0 M (by omega) f (by simpa using s) (fun _ _ => rfl) (by simpa using sl_nil)
      have := my_grp_91 hd h hK n (k + 1) M' (by omega) f' (by rw [e1, List.length_append, List.length_singleton, Nat.mul_succ, ← Nat.add_assoc]; exact s') (my_A_fr hA fun i _ i2 => g1 i (by omega)) (by
        rw [e1]
        refine my_A_snoc (my_A_fr hP fun i _ i2 => g1 i i2) ?_ rfl g2
        unfold my_gk sm_pick
        rw [List.length_append, List.length_map, ewt]; rfl)
      rw [e1, List.length_append] at this; exact this
theorem my_grouped {t q dp : Nat} {e : sm_E} {M : wd_M} {K : Int32 → wd_Z → wd_M → wd_L → Prop} (w : sm_wf T tc nt N) (hT : ∀ k, k < nt → k < 6 ∧ (tb k).length = tr k) (ht : t < N) (hk : sm_k (T t) = 20) (hc : sm_zc T tr t ≤ 3000) (ih : my_IH T tc nt N tb tr t) (hd : 4 * t + 7 ≤ d) (hpre : my_pre T tc nt N tb tr t q dp e M)
    (hK : ∀ M' R, my_fr q dp M M' → my_st M' (q + sm_w (T t) * R.length) dp → R.Perm (sm_S T tb t e).2 → my_A M' q (sm_w (T t)) R → K (nI R.length) z M' L) : wRunI (d, 0, 0) mX8_grouped [.ref 650, .int (nI t)] z M L K := by
  obtain ⟨d, rfl, hd'⟩ := ak_deep (show (4 * t + 6) + 1 ≤ d by omega)
  obtain ⟨hG, hS, hE, hq, hdp⟩ := id hpre
  have hN := hG.1
  have p := sm_wf20 (w t ht).1 hk
  obtain ⟨g, gl1, gl2, gl3, gl4⟩ := p.2.2.2.2.2
  have cc := sm_zc1 w ht hc p.2.1 (by omega) (by omega) (by rw [hk]; rfl) (by omega)
  obtain ⟨g54, g55, g56, g57, g58, g59, g60, -⟩ := hG.2.2.1 t ht
  have e1 : my_1 (T t) = nI (sm_a (T t)) := by simp [my_1, hk]
  have e2 : my_2 (T t) = nI g := by simp [my_2, hk, gl3]
  have e3 : my_3 (T t) = nI (sm_o (T t)) := by simp [my_3, hk]
  have e4 : my_4 (T t) = nI (sm_c (T t)) := by simp [my_4, hk]
  have alt := p.1.2.1
  have hin : vp_in (nI t) 120 := vp_in_nI (by omega) (by omega)
  have w8 := (w t ht).2.1
  have wa8 := (w (sm_a (T t)) (by omega)).2.1
  have hcA : sm_c (T t) < sm_w (T (sm_a (T t))) := p.2.2.2.1
  have gl1 : g < 2 ^ sm_w (T (sm_a (T t))) := gl1
  have g256 : g < 256 := Nat.lt_of_lt_of_le gl1 (Nat.pow_le_pow_right (n := 2) (by omega) wa8)
  refine fX8_grouped_e ?_
  rw [nI_clamp (show t < 2 ^ 31 by omega), g57, e1, hS.1]
  refine ⟨hin, my_bag_at w hT ht ih hpre p.1.2.1 p.1.2.2 (by omega) (fun k h => by rw [p.2.2.2.2.1]; exact h) my_fr_refl hS (Nat.le_refl _) (by omega) (by omega) fun M1 R f1 s1 pr hA rl zl wl => ⟨hin, ?_⟩⟩
  have mwa := ((my_G_fr hG f1).2.2.1 (sm_a (T t)) (by omega)).2.2.1
  rw [f1.1 657 (by omega) (by omega) (by omega), f1.1 658 (by omega) (by omega) (by omega), f1.1 659 (by omega) (by omega) (by omega), f1.1 660 (by omega) (by omega) (by omega), g57, e1, g58, e2, g59, e3, g60, e4, nI_clamp (show sm_a (T t) < 2 ^ 31 by omega), mwa, s1.1]
  have prS := sm_groups_perm (nI g) (sm_o (T t)) (sm_c (T t)) pr
  have eS : (sm_S T tb t e).2 = sm_groups (nI g) (sm_o (T t)) (sm_c (T t)) (sm_S T tb (sm_a (T t)) e).2 := by rw [sm_S_eq w ht, sm_body20 hk, gl3]
  rw [← eS] at prS
  have wwl : sm_w (T t) * R.length ≤ 8 * R.length := Nat.mul_le_mul_right _ w8
  refine ⟨vp_in_nI (by omega) (by omega), hin, fun h0 => ⟨hin, hin, ?_⟩, fun h0 => ?_⟩
  · have g0 : g = 0 := (nI_eq (b := 0) (by omega) (by omega)).mp h0
    have k0 : sm_ks (nI 0) = [] := by decide
    rw [g0, k0] at gl4
    refine my_folded (lk := none) (cols := 0) (by omega) ⟨p.2.2.1, hcA, hA, by omega, fun _ h => by cases h⟩ ?_
    have ef : R.filter (my_sel 0 (sm_w (T (sm_a (T t)))) none) = R := List.filter_eq_self.mpr fun _ _ => rfl
    rw [ef, nI_clamp (show q + sm_w (T (sm_a (T t))) * R.length < 2 ^ 31 by omega)]
    refine ⟨vp_in_nI (by omega) (by omega), ?_⟩
    have := my_settle_r (K := fun v z M L => wQi K (some (.int v)) (wd z M L)) (z := z) (L := L) (d := d) (q := q) (made := q + sm_w (T (sm_a (T t))) * R.length) (w := 1) (R := [[sm_fold (sm_o (T t)) (sm_at (sm_c (T t)) R)]]) (by omega) (my_fr_room (v := sm_fold (sm_o (T t)) (sm_at (sm_c (T t)) R)) f1 (Nat.le_add_right q (sm_w (T (sm_a (T t))) * R.length))) (by rw [ak_up_cell (by omega)]; exact s1.2) (my_A_one.mpr ⟨rfl, by rw [ak_up_own]; exact sl_one.mpr pk_us⟩) (by omega) (by show _ + 1 * 1 ≤ _; omega) (fun M' f' s' hA' => wQi_i (hK M' _ f' (by rw [gl4]; exact s') ?_ (by rw [gl4]; exact hA')))
    · exact this
    · refine (List.Perm.of_eq ?_).trans prS
      rw [g0]
      unfold sm_groups
      rw [if_pos k0]
  · have g0 : g ≠ 0 := fun q => h0 (by rw [q]; rfl)
    refine my_grp_91 (dp := dp) (g := g) (kind := sm_o (T t)) (c := sm_c (T t)) (wt := sm_w (T t)) (by omega) ⟨by omega, p.2.2.1, hcA, wa8, gl1, gl4, g56, by rw [g58, e2], by rw [g59, e3], by rw [g60, e4], by omega, by omega⟩ (fun M' f' s' hA' => hK M' _ f' s' ?_ hA') R.length 0 M1 (by omega) f1 s1 hA my_A_nil
    refine (List.Perm.of_eq ?_).trans prS
    unfold my_gs sm_groups
    rw [if_neg (my_ks_ne gl1 wa8 g0), List.take_length]; rfl
theorem my_bag {t : Nat} (w : sm_wf T tc nt N) (hT : ∀ k, k < nt → k < 6 ∧ (tb k).length = tr k) (ht : t < N) (hs : sm_sort (sm_k (T t)) = 2) (hc : sm_zc T tr t ≤ 3000) (ih : my_IH T tc nt N tb tr t) : my_BC T tc nt N tb tr t := by
  intro d z L M e q dp K hd hpre hK
  obtain ⟨d, rfl, hd'⟩ := ak_deep (show (4 * t + 7) + 1 ≤ d by omega)
  obtain ⟨hG, hS, hE, hq, hdp⟩ := id hpre
  have hN := hG.1
  have hk20 := sm_k20 (w t ht).1
  have hk11 : 11 ≤ sm_k (T t) := by
    unfold sm_sort at hs
    split at hs
    · omega
    · split at hs <;> omega
  have hK' : ∀ M' R, my_fr q dp M M' → my_st M' (q + sm_w (T t) * R.length) dp → R.Perm (sm_S T tb t e).2 → my_A M' q (sm_w (T t)) R → wQi K (some (.int (nI R.length))) (wd z M' L) := fun M' R h1 h2 h3 h4 => wQi_i (hK M' R h1 h2 h3 h4)
  refine fX8_bag_e ?_
  rw [nI_clamp (show t < 2 ^ 31 by omega), (hG.2.2.1 t ht).1, nI_toInt (show sm_k (T t) < 2 ^ 31 by omega)]
  refine ⟨vp_in_nI (by omega) (by omega), fun h => my_grouped w hT ht (by omega) hc ih hd' hpre hK', fun h => my_scanned w hT ht (by omega) hc hpre hK', fun h => my_filtered w hT ht (by omega) hc ih hd' hpre hK', fun h => my_widened w hT ht (by omega) hc ih hd' hpre hK', fun h => my_chosen w hT ht (by omega) hc ih hd' hpre hK', fun h => my_paired w hT ht (by omega) hc ih hd' hpre hK', fun h => my_applied w hT ht (by omega) hc ih hd' hpre hK', fun h => my_bothOf w hT ht (by omega) hc ih hd' hpre hK', fun h => my_onceOf w hT ht (by omega) hc ih hd' hpre hK', fun h => my_firstOf w hT ht (by omega) hc ih hd' hpre hK', trivial⟩
/-- all terms -/
theorem my_all (w : sm_wf T tc nt N) (hT : ∀ k, k < nt → k < 6 ∧ (tb k).length = tr k) : ∀ t, t < N → sm_zc T tr t ≤ 3000 → (sm_sort (sm_k (T t)) = 0 → my_VC T tc nt N tb tr t) ∧ (sm_sort (sm_k (T t)) = 1 → my_TC T tc nt N tb tr t) ∧ (sm_sort (sm_k (T t)) = 2 → my_BC T tc nt N tb tr t) := by
  refine sm_ind fun t ht ih hc => ?_
  have ih : my_IH T tc nt N tb tr t := fun s h1 h2 => ih s h1 h2
  exact ⟨fun h => my_value w hT ht h hc ih, fun h => my_truth w hT ht h hc ih, fun h => my_bag w hT ht h hc ih⟩
end MY
