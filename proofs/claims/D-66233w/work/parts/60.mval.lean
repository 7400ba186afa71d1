/-! CONTRACTS of ApplyFreeModel: what lies around; values and truths -/
/-- what evaluation leaves as it was: all but the pile from q on -/
def my_fr (q dp : Nat) (M M' : wd_M) : Prop := (∀ c, c ≠ 650 → c ≠ 665 → c ≠ 666 → M' c = M c) ∧ (∀ i, i ≠ 19 → i ≠ 21 → M' 650 i = M 650 i) ∧ (∀ i, i < q → M' 665 i = M 665 i) ∧ (∀ i, i < dp → M' 666 i = M 666 i)
theorem my_fr_refl {q dp : Nat} {M : wd_M} : my_fr q dp M M := ⟨fun _ _ _ _ => rfl, fun _ _ _ => rfl, fun _ _ => rfl, fun _ _ => rfl⟩
theorem my_fr_trans {q dp q' dp' : Nat} {M M' M'' : wd_M} (h : my_fr q dp M M') (h' : my_fr q' dp' M' M'') (hq : q ≤ q') (hd : dp ≤ dp') : my_fr q dp M M'' :=
  ⟨fun c c1 c2 c3 => by rw [h'.1 c c1 c2 c3, h.1 c c1 c2 c3], fun i i1 i2 => by rw [h'.2.1 i i1 i2, h.2.1 i i1 i2], fun i hi => by rw [h'.2.2.1 i (by omega), h.2.2.1 i hi], fun i hi => by rw [h'.2.2.2 i (by omega), h.2.2.2 i hi]⟩
theorem my_fr_19 {q dp : Nat} {M M' : wd_M} {v : Int32} (h : my_fr q dp M M') : my_fr q dp M (am_up2 M' 650 19 v) :=
  ⟨fun c c1 c2 c3 => by rw [ak_up_cell c1]; exact h.1 c c1 c2 c3, fun i i1 i2 => by rw [ak_up_ne i1]; exact h.2.1 i i1 i2, fun i hi => by rw [ak_up_cell (by omega)]; exact h.2.2.1 i hi, fun i hi => by rw [ak_up_cell (by omega)]; exact h.2.2.2 i hi⟩
theorem my_fr_21 {q dp : Nat} {M M' : wd_M} {v : Int32} (h : my_fr q dp M M') : my_fr q dp M (am_up2 M' 650 21 v) :=
  ⟨fun c c1 c2 c3 => by rw [ak_up_cell c1]; exact h.1 c c1 c2 c3, fun i i1 i2 => by rw [ak_up_ne i2]; exact h.2.1 i i1 i2, fun i hi => by rw [ak_up_cell (by omega)]; exact h.2.2.1 i hi, fun i hi => by rw [ak_up_cell (by omega)]; exact h.2.2.2 i hi⟩
theorem my_fr_room {q dp i : Nat} {M M' : wd_M} {v : Int32} (h : my_fr q dp M M') (hi : q ≤ i) : my_fr q dp M (am_up2 M' 665 i v) :=
  ⟨fun c c1 c2 c3 => by rw [ak_up_cell c2]; exact h.1 c c1 c2 c3, fun i i1 i2 => by rw [ak_up_cell (by omega)]; exact h.2.1 i i1 i2, fun j hj => by rw [ak_up_ne (by omega)]; exact h.2.2.1 j hj, fun j hj => by rw [ak_up_cell (by omega)]; exact h.2.2.2 j hj⟩
theorem my_fr_copy {q dp f t n : Nat} {M M' : wd_M} (h : my_fr q dp M M') (hi : q ≤ t) : my_fr q dp M (am_copy M' 665 665 f t n) :=
  ⟨fun c c1 c2 c3 => by rw [ak_cp_cell c2]; exact h.1 c c1 c2 c3, fun i i1 i2 => by rw [ak_cp_cell (by omega)]; exact h.2.1 i i1 i2, fun j hj => by rw [ak_cp_own, pk_cpy_out (by omega)]; exact h.2.2.1 j hj, fun j hj => by rw [ak_cp_cell (by omega)]; exact h.2.2.2 j hj⟩
theorem my_fr_sort {q dp : Nat} {M M' M'' : wd_M} (h : my_fr q dp M M') (h1 : ∀ c, c ≠ 665 → M'' c = M' c) (h2 : ∀ x, x < q → M'' 665 x = M' 665 x) : my_fr q dp M M'' :=
  ⟨fun c c1 c2 c3 => by rw [h1 c c2]; exact h.1 c c1 c2 c3, fun i i1 i2 => by rw [h1 650 (by omega)]; exact h.2.1 i i1 i2, fun j hj => by rw [h2 j hj]; exact h.2.2.1 j hj, fun j hj => by rw [h1 666 (by omega)]; exact h.2.2.2 j hj⟩
def my_st (M : wd_M) (q dp : Nat) : Prop := M 650 19 = nI q ∧ M 650 21 = nI dp
/-- the rows around, as far as they are looked at -/
def my_en (M : wd_M) (q dp l : Nat) (e : sm_E) : Prop := ∀ k, k < 32 → l.testBit k = true → k / 8 < dp ∧ ∃ p, M 666 (dp - 1 - k / 8) = nI p ∧ p + k % 8 < q ∧ M 665 (p + k % 8) = e k
theorem my_en_mv {M M' : wd_M} {q q' dp l l' : Nat} {e : sm_E} (h : my_en M q dp l e) (f : my_fr q dp M M') (hq : q ≤ q') (hl : ∀ k, l'.testBit k = true → l.testBit k = true) : my_en M' q' dp l' e := fun k hk hb => by
  obtain ⟨h1, p, h2, h3, h4⟩ := h k hk (hl k hb)
  exact ⟨h1, p, by rw [f.2.2.2 _ (by omega)]; exact h2, by omega, by rw [f.2.2.1 _ h3]; exact h4⟩
theorem my_bit_lt {l w k : Nat} (h : l % 256 < 2 ^ w) (hb : l.testBit k = true) (hk : k < 8) : k < w := by
  have h1 : (l % 2 ^ 8).testBit k = true := by rw [Nat.testBit_mod_two_pow, hb]; simp [hk]
  have h2 := Nat.ge_two_pow_of_testBit h1
  exact (Nat.pow_lt_pow_iff_right (show 1 < 2 by omega)).mp (Nat.lt_of_le_of_lt h2 h)
theorem my_en_in {M M' : wd_M} {q q' dp l l' p w : Nat} {e : sm_E} {r : ay_Row} (h : my_en M q dp l e) (f5 : ∀ i, i < q → M' 665 i = M 665 i) (f6 : ∀ i, i < dp → M' 666 i = M 666 i) (hq : q ≤ q') (hp : M' 666 dp = nI p) (hr : sl_at (M' 665) p r) (hw : r.length = w) (hpw : p + w ≤ q') (hf : l' % 256 < 2 ^ w) (hl : ∀ k, 8 ≤ k → l'.testBit k = true → l.testBit (k - 8) = true) : my_en M' q' (dp + 1) l' (sm_enter r e) := fun k hk hb => by
  unfold sm_enter
  by_cases h8 : k < 8
  · have hkw := my_bit_lt hf hb h8
    have e1 : k / 8 = 0 := by omega
    have e2 : k % 8 = k := by omega
    rw [e1, e2, if_pos h8]
    exact ⟨by omega, p, by simpa using hp, by omega, sl_getD hr (by omega)⟩
  · obtain ⟨h1, p', h2, h3, h4⟩ := h (k - 8) (by omega) (hl k (by omega) hb)
    have e1 : dp + 1 - 1 - k / 8 = dp - 1 - (k - 8) / 8 := by omega
    have e2 : k % 8 = (k - 8) % 8 := by omega
    rw [e1, e2, if_neg h8]
    exact ⟨by omega, p', by rw [f6 _ (by omega)]; exact h2, by omega, by rw [f5 _ h3]; exact h4⟩
/-! terms and tables as the model keeps them -/
def my_1 (x : sm_T) : Int32 := if sm_k x = 0 ∨ sm_k x = 11 then sm_n x else if sm_k x = 1 then nI ((sm_n x).toNatClampNeg / 8) else if sm_k x = 2 ∨ sm_k x = 4 ∨ sm_k x = 5 ∨ sm_k x = 7 ∨ sm_k x = 9 ∨ sm_k x = 10 then nI (sm_o x) else nI (sm_a x)
def my_2 (x : sm_T) : Int32 := if sm_k x = 1 then nI ((sm_n x).toNatClampNeg % 8) else if sm_k x = 2 ∨ sm_k x = 4 ∨ sm_k x = 5 ∨ sm_k x = 7 ∨ sm_k x = 9 ∨ sm_k x = 10 then nI (sm_a x) else if sm_k x = 12 ∨ sm_k x = 13 ∨ sm_k x = 15 ∨ sm_k x = 16 ∨ sm_k x = 17 then nI (sm_b x) else if sm_k x = 14 ∨ sm_k x = 19 ∨ sm_k x = 20 then sm_n x else 0
def my_3 (x : sm_T) : Int32 := if sm_k x = 2 ∨ sm_k x = 5 ∨ sm_k x = 9 ∨ sm_k x = 10 then nI (sm_b x) else if sm_k x = 4 then nI (sm_c x) else if sm_k x = 7 then (if sm_o x = 2 then nI (sm_a x) else nI (sm_b x)) else if sm_k x = 16 ∨ sm_k x = 17 ∨ sm_k x = 20 then nI (sm_o x) else 0
def my_4 (x : sm_T) : Int32 := if sm_k x = 20 then nI (sm_c x) else 0
def my_tm (M : wd_M) (T : Nat → sm_T) (t : Nat) : Prop := M 654 t = nI (sm_k (T t)) ∧ M 655 t = nI (sm_sort (sm_k (T t))) ∧ M 656 t = nI (sm_w (T t)) ∧ M 657 t = my_1 (T t) ∧ M 658 t = my_2 (T t) ∧ M 659 t = my_3 (T t) ∧ M 660 t = my_4 (T t) ∧ ∀ j, j < 4 → M 661 (4 * t + j) = nI (sm_l (T t) >>> (8 * j) % 256)
def my_tab (M : wd_M) (k c : Nat) (R : List ay_Row) : Prop := M 651 k = nI c ∧ M 652 k = nI R.length ∧ R.length ≤ 24 ∧ sl_W c R ∧ c ≤ 4 ∧ ∀ r row, R[r]? = some row → sl_at (M 653) (96 * k + 4 * r) row
def my_G (M : wd_M) (T : Nat → sm_T) (N : Nat) (tc : Nat → Nat) (tb : Nat → List ay_Row) (nt : Nat) : Prop := N ≤ 120 ∧ nt ≤ 6 ∧ (∀ t, t < N → my_tm M T t) ∧ ∀ k, k < nt → my_tab M k (tc k) (tb k)
theorem my_G_mv {M M' : wd_M} {T : Nat → sm_T} {N nt : Nat} {tc : Nat → Nat} {tb : Nat → List ay_Row} (h : my_G M T N tc tb nt) (e : ∀ c, 651 ≤ c → c ≤ 661 → M' c = M c) : my_G M' T N tc tb nt := by
  obtain ⟨h1, h2, h3, h4⟩ := h
  refine ⟨h1, h2, fun t ht => ?_, fun k hk => ?_⟩
  · have := h3 t ht
    unfold my_tm at *
    rw [e 654 (by omega) (by omega), e 655 (by omega) (by omega), e 656 (by omega) (by omega), e 657 (by omega) (by omega), e 658 (by omega) (by omega), e 659 (by omega) (by omega), e 660 (by omega) (by omega), e 661 (by omega) (by omega)]
    exact this
  · have := h4 k hk
    unfold my_tab at *
    rw [e 651 (by omega) (by omega), e 652 (by omega) (by omega), e 653 (by omega) (by omega)]
    exact this
theorem my_G_fr {q dp : Nat} {M M' : wd_M} {T : Nat → sm_T} {N nt : Nat} {tc : Nat → Nat} {tb : Nat → List ay_Row} (h : my_G M T N tc tb nt) (f : my_fr q dp M M') : my_G M' T N tc tb nt := my_G_mv h fun c _ _ => f.1 c (by omega) (by omega) (by omega)
section MY
variable (T : Nat → sm_T) (tc : Nat → Nat) (nt N : Nat) (tb : Nat → List ay_Row) (tr : Nat → Nat)
/-- what evaluation of a term has at hand -/
def my_pre (t q dp : Nat) (e : sm_E) (M : wd_M) : Prop := my_G M T N tc tb nt ∧ my_st M q dp ∧ my_en M q dp (sm_l (T t)) e ∧ q + 24 * sm_zc T tr t ≤ 600000 ∧ dp + t ≤ 125
def my_VC (t : Nat) : Prop := ∀ (d : Nat) (z : wd_Z) (L : wd_L) (M : wd_M) (e : sm_E) (q dp : Nat) (K : Int32 → wd_Z → wd_M → wd_L → Prop), 4 * t + 8 ≤ d → my_pre T tc nt N tb tr t q dp e M → (∀ M', my_fr q dp M M' → my_st M' q dp → K (sm_S T tb t e).1 z M' L) → wRunI (d, 0, 0) mX8_value [.ref 650, .int (nI t)] z M L K
def my_TC (t : Nat) : Prop := ∀ (d : Nat) (z : wd_Z) (L : wd_L) (M : wd_M) (e : sm_E) (q dp : Nat) (K : Int32 → wd_Z → wd_M → wd_L → Prop), 4 * t + 8 ≤ d → my_pre T tc nt N tb tr t q dp e M → (∀ M', my_fr q dp M M' → my_st M' q dp → K (my_tr (sm_S T tb t e).1) z M' L) → wRunI (d, 0, 0) mX8_truth [.ref 650, .int (nI t)] z M L K
def my_BC (t : Nat) : Prop := ∀ (d : Nat) (z : wd_Z) (L : wd_L) (M : wd_M) (e : sm_E) (q dp : Nat) (K : Int32 → wd_Z → wd_M → wd_L → Prop), 4 * t + 8 ≤ d → my_pre T tc nt N tb tr t q dp e M → (∀ M' R, my_fr q dp M M' → my_st M' (q + sm_w (T t) * R.length) dp → R.Perm (sm_S T tb t e).2 → my_A M' q (sm_w (T t)) R → K (nI R.length) z M' L) → wRunI (d, 0, 0) mX8_bag [.ref 650, .int (nI t)] z M L K
def my_IH (t : Nat) : Prop := ∀ s, s < t → sm_zc T tr s ≤ 3000 → (sm_sort (sm_k (T s)) = 0 → my_VC T tc nt N tb tr s) ∧ (sm_sort (sm_k (T s)) = 1 → my_TC T tc nt N tb tr s) ∧ (sm_sort (sm_k (T s)) = 2 → my_BC T tc nt N tb tr s)
end MY
section MY
variable {T : Nat → sm_T} {tc : Nat → Nat} {nt N : Nat} {tb : Nat → List ay_Row} {tr : Nat → Nat} {d : Nat} {z : wd_Z} {L : wd_L}
theorem my_pre_mv {t s q q' dp : Nat} {e : sm_E} {M M' : wd_M} (h : my_pre T tc nt N tb tr t q dp e M) (f : my_fr q dp M M') (hs : my_st M' q' dp) (hq : q ≤ q') (hr : q' + 24 * sm_zc T tr s ≤ 600000) (ht : s ≤ t) (hl : ∀ k, (sm_l (T s)).testBit k = true → (sm_l (T t)).testBit k = true) : my_pre T tc nt N tb tr s q' dp e M' :=
  ⟨my_G_fr h.1 f, hs, my_en_mv h.2.2.1 f hq hl, hr, by have := h.2.2.2.2; omega⟩
/-- three values of truths -/
theorem my_t3 (w : sm_wf T tc nt N) : ∀ t, t < N → sm_sort (sm_k (T t)) = 1 → ∀ e : sm_E, (sm_S T tb t e).1 = 0 ∨ (sm_S T tb t e).1 = 1 ∨ (sm_S T tb t e).1 = (-2147483648 : Int32) := by
  refine sm_ind fun t ht ih hs e => ?_
  have hw := (w t ht).1
  have c1 : ∀ op a b, sm_cmp op a b = 0 ∨ sm_cmp op a b = 1 ∨ sm_cmp op a b = (-2147483648 : Int32) := fun op a b => by
    unfold sm_cmp
    repeat' split
    all_goals simp
  have c2 : ∀ op a b, sm_logic op a b = 0 ∨ sm_logic op a b = 1 ∨ sm_logic op a b = (-2147483648 : Int32) := fun op a b => by
    unfold sm_logic
    repeat' split
    all_goals simp
  have hk : 5 ≤ sm_k (T t) ∧ sm_k (T t) ≤ 10 := by
    unfold sm_sort at hs
    split at hs
    · omega
    · split at hs <;> omega
  have o : sm_k (T t) = 5 ∨ sm_k (T t) = 6 ∨ sm_k (T t) = 7 ∨ sm_k (T t) = 8 ∨ sm_k (T t) = 9 ∨ sm_k (T t) = 10 := by omega
  rw [sm_S_eq w ht]
  rcases o with hk | hk | hk | hk | hk | hk
  · rw [sm_body5 hk]; exact c1 _ _ _
  · rw [sm_body6 hk]
    show sm_isno _ = 0 ∨ sm_isno _ = 1 ∨ sm_isno _ = (-2147483648 : Int32)
    unfold sm_isno; split <;> simp
  · have q := sm_wf7 hw hk
    have iha := ih _ q.1.2.1 q.1.2.2 e
    rw [sm_body7 hk]
    dsimp only
    split
    · unfold sm_not
      split
      · simp
      · rename_i hn
        rcases iha with h | h | h
        · rw [h]; exact Or.inr (Or.inl (by decide))
        · rw [h]; exact Or.inl (by decide)
        · exact absurd h hn
    · exact c2 _ _ _
  · rw [sm_body8 hk]; dsimp only; split <;> simp
  · rw [sm_body9 hk]; dsimp only; unfold sm_quant; repeat' split
    all_goals first | (simp; done) | exact Or.inl (by decide)
  · rw [sm_body10 hk]; dsimp only; unfold sm_quant; repeat' split
    all_goals first | (simp; done) | exact Or.inr (Or.inl (by decide))
theorem my_tr2 {v : Int32} (h : v = 0 ∨ v = 1 ∨ v = (-2147483648 : Int32)) : (my_tr v = 2 ↔ v = (-2147483648 : Int32)) ∧ (my_tr v = 1 ↔ v = 1) ∧ (my_tr v = 0 ↔ v = 0) ∧ (¬ v = (-2147483648 : Int32) → my_tr v = v) := by
  rcases h with rfl | rfl | rfl <;> decide
theorem my_or1 {x y z : Nat} (e : z = x ||| y) : ∀ k, x.testBit k = true → z.testBit k = true := fun k h => by rw [e, Nat.testBit_or, h, Bool.true_or]
theorem my_or2 {x y z : Nat} (e : z = x ||| y) : ∀ k, y.testBit k = true → z.testBit k = true := fun k h => by rw [e, Nat.testBit_or, h, Bool.or_true]
theorem my_value {t : Nat} (w : sm_wf T tc nt N) (hT : ∀ k, k < nt → k < 6 ∧ (tb k).length = tr k) (ht : t < N) (hs : sm_sort (sm_k (T t)) = 0) (hc : sm_zc T tr t ≤ 3000) (ih : my_IH T tc nt N tb tr t) : my_VC T tc nt N tb tr t := by
  intro d z L M e q dp K hd hpre hK
  obtain ⟨d, rfl, hd'⟩ := ak_deep (show (4 * t + 7) + 1 ≤ d by omega)
  obtain ⟨hG, hS, hE, hq, hdp⟩ := id hpre
  have hw := (w t ht).1
  have hN := hG.1
  obtain ⟨g54, g55, g56, g57, g58, g59, g60, -⟩ := hG.2.2.1 t ht
  have hk4 : sm_k (T t) ≤ 4 := by
    unfold sm_sort at hs
    split at hs
    · assumption
    · split at hs <;> omega
  have hin : vp_in (nI t) 120 := vp_in_nI (by omega) (by omega)
  rw [sm_S_eq w ht] at hK
  have fr : ∀ {M' : wd_M}, my_fr q dp M M' → M' 657 t = my_1 (T t) ∧ M' 658 t = my_2 (T t) ∧ M' 659 t = my_3 (T t) := fun {M'} f => by
    rw [f.1 657 (by omega) (by omega) (by omega), f.1 658 (by omega) (by omega) (by omega), f.1 659 (by omega) (by omega) (by omega)]
    exact ⟨g57, g58, g59⟩
  refine fX8_value_e ?_
  rw [nI_clamp (show t < 2 ^ 31 by omega), g54, nI_toInt (show sm_k (T t) < 2 ^ 31 by omega)]
  refine ⟨hin, fun h => ⟨hin, ?_⟩, fun h => ⟨hin, ?_⟩, fun h => ⟨hin, ?_⟩, fun h => ⟨hin, ?_⟩, fun h => ⟨hin, ?_⟩, trivial⟩
  · have hk : sm_k (T t) = 4 := by omega
    have p := sm_wf4 hw hk
    have cc := sm_zc1 w ht hc p.2.1 (by omega) (by omega) (by rw [hk]; rfl) (by omega)
    have e2 : my_2 (T t) = nI (sm_a (T t)) := by simp [my_2, hk]
    have e1 : my_1 (T t) = nI (sm_o (T t)) := by simp [my_1, hk]
    have e3 : my_3 (T t) = nI (sm_c (T t)) := by simp [my_3, hk]
    have alt := p.1.2.1
    rw [g58, e2]
    refine ((ih _ p.1.2.1 (by omega)).2.2 p.1.2.2) d z L M e q dp _ (by omega) (my_pre_mv hpre my_fr_refl hS (Nat.le_refl _) (by omega) (by omega) (fun k h => by rw [p.2.2.2.2]; exact h)) fun M' R f1 s1 pr hA => ?_
    obtain ⟨m1, m2, m3⟩ := fr f1
    have mw := ((my_G_fr hG f1).2.2.1 (sm_a (T t)) (by omega)).2.2.1
    rw [m1, m2, m3, e1, e2, e3, nI_clamp (show sm_a (T t) < 2 ^ 31 by omega), mw, hS.1]
    have sz := (sm_sizes w hT _ (show sm_a (T t) < N by omega) (by omega) p.1.2.2)
    have rl : R.length ≤ sm_zc T tr (sm_a (T t)) := by rw [pr.length_eq]; exact Nat.le_trans (sz.2.2 e) sz.1
    have w8 := (w (sm_a (T t)) (by omega)).2.1
    have cl : sm_w (T (sm_a (T t))) * R.length ≤ 8 * sm_zc T tr (sm_a (T t)) := Nat.mul_le_mul w8 rl
    refine ⟨hin, hin, vp_in_nI (by omega) (by omega), hin, my_folded (lk := none) (cols := 0) (by omega) ⟨p.2.2.1, p.2.2.2.1, hA, by omega, fun _ h => by cases h⟩ ?_⟩
    rw [sm_body4 hk] at hK
    have ef : R.filter (my_sel 0 (sm_w (T (sm_a (T t)))) none) = R := List.filter_eq_self.mpr fun _ _ => rfl
    rw [ef, sm_fold_perm _ (sm_at_perm _ pr)]
    exact wQi_i (hK _ (my_fr_19 f1) ⟨ak_up_same, by rw [ak_up_ne (by omega)]; exact s1.2⟩)
  · have hk : sm_k (T t) = 0 := by omega
    rw [sm_body0 hk] at hK
    have e1 : my_1 (T t) = sm_n (T t) := by simp [my_1, hk]
    rw [g57, e1]
    exact wQi_i (hK M my_fr_refl hS)
  · have hk : sm_k (T t) = 1 := by omega
    obtain ⟨-, -, -, k, k1, k2, k3⟩ := sm_wf1 hw hk
    rw [sm_body1 hk] at hK
    have e1 : my_1 (T t) = nI (k / 8) := by simp only [my_1, hk, k2]; rw [nI_clamp (by omega)]; rfl
    have e2 : my_2 (T t) = nI (k % 8) := by simp only [my_2, hk, k2]; rw [nI_clamp (by omega)]; rfl
    obtain ⟨h1, pp, h2, h3, h4⟩ := hE k k1 (by rw [k3]; exact Nat.testBit_two_pow_self)
    have e3 : M 650 21 - 1 - M 657 t = nI (dp - 1 - k / 8) := by rw [hS.2, g57, e1, ak_n1, pk_sub (by omega), pk_sub (by omega)]
    rw [e3, nI_clamp (show dp - 1 - k / 8 < 2 ^ 31 by omega), h2, g58, e2, nI_add, nI_clamp (show pp + k % 8 < 2 ^ 31 by omega), h4]
    have hK := hK M my_fr_refl hS
    rw [k2, nI_clamp (by omega)] at hK
    exact ⟨vp_in_nI (by omega) (by omega), hin, vp_in_nI (by omega) (by omega), wQi_i hK⟩
  · have hk : sm_k (T t) = 2 := by omega
    have p := sm_wf2 hw hk
    have cc := sm_zc2 w ht hc p.2.1.1 (by omega) (by omega) (by rw [hk]; rfl) (by omega)
    have e1 : my_1 (T t) = nI (sm_o (T t)) := by simp [my_1, hk]
    have e2 : my_2 (T t) = nI (sm_a (T t)) := by simp [my_2, hk]
    have e3 : my_3 (T t) = nI (sm_b (T t)) := by simp [my_3, hk]
    have alt := p.1.2.1
    have blt := p.2.1.2.1
    have o2 := p.2.2.1
    rw [g58, e2]
    refine ((ih _ p.1.2.1 (by omega)).1 p.1.2.2) d z L M e q dp _ (by omega) (my_pre_mv hpre my_fr_refl hS (Nat.le_refl _) (by omega) (by omega) (my_or1 p.2.2.2)) fun M1 f1 s1 => ⟨hin, ?_⟩
    rw [(fr f1).2.2, e3]
    refine ((ih _ p.2.1.2.1 (by omega)).1 p.2.1.2.2) d z L M1 e q dp _ (by omega) (my_pre_mv hpre f1 s1 (Nat.le_refl _) (by omega) (by omega) (my_or2 p.2.2.2)) fun M2 f2 s2 => ?_
    have f12 := my_fr_trans f1 f2 (Nat.le_refl _) (Nat.le_refl _)
    have hK := hK M2 f12 s2
    rw [sm_body2 hk] at hK
    rw [(fr f12).1, e1]
    simp only [sm_reckon] at hK
    refine ⟨fun h => ?_, fun ha => ⟨fun h => ?_, fun hb => ⟨hin, fun h => ?_, fun h0 => ⟨hin, fun h => ?_, fun h1 => ?_⟩⟩⟩⟩
    · rw [if_pos (Or.inl h)] at hK; exact wQi_i hK
    · rw [if_pos (Or.inr h)] at hK; exact wQi_i hK
    · rw [if_neg (by simp only [ha, hb, or_self, not_false_eq_true]), if_pos ((nI_eq (b := 0) (by omega) (by omega)).mp h)] at hK; exact wQi_i hK
    · rw [if_neg (by simp only [ha, hb, or_self, not_false_eq_true]), if_neg (fun q => h0 (by rw [q]; rfl)), if_pos ((nI_eq (b := 1) (by omega) (by omega)).mp h)] at hK; exact wQi_i hK
    · rw [if_neg (by simp only [ha, hb, or_self, not_false_eq_true]), if_neg (fun q => h0 (by rw [q]; rfl)), if_neg (fun q => h1 (by rw [q]; rfl))] at hK; exact wQi_i hK
  · have hk : sm_k (T t) = 3 := by omega
    have p := sm_wf3 hw hk
    have cc := sm_zc1 w ht hc p.2.1 (by omega) (by omega) (by rw [hk]; rfl) (by omega)
    have e1 : my_1 (T t) = nI (sm_a (T t)) := by simp [my_1, hk]
    have alt := p.1.2.1
    rw [g57, e1]
    refine ((ih _ p.1.2.1 (by omega)).2.1 p.1.2.2) d z L M e q dp _ (by omega) (my_pre_mv hpre my_fr_refl hS (Nat.le_refl _) (by omega) (by omega) (fun k h => by rw [p.2.2]; exact h)) fun M1 f1 s1 => ?_
    have t3 := my_tr2 (my_t3 (tb := tb) w (sm_a (T t)) (by omega) p.1.2.2 e)
    have hK := hK M1 f1 s1
    rw [sm_body3 hk] at hK
    refine ⟨fun h => ?_, fun h => ?_⟩
    · rw [t3.1] at h
      rw [h] at hK; exact wQi_i hK
    · rw [t3.1] at h
      rw [t3.2.2.2 h]; exact wQi_i hK
end MY
