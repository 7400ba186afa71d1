/-! LAW: questions: some, each, as a whole -/
section LW
variable {T : Nat → sm_T} {tc : Nat → Nat} {nt N : Nat} {tb : Nat → List ay_Row} {tr : Nat → Nat}
variable {bag : cp_B} {att : cp_A} {t : Nat}
theorem lw_key_sub {l w : Nat} {pl : Nat → Nat} {er s : ay_Row} (he : er.length = w) (hpl : ∀ k, k < 32 → l.testBit k = true → pl k < w) : lw_key l pl (er ++ s) = lw_key l pl er := by
  unfold lw_key
  refine List.map_congr_left fun k hk => ?_
  have := cp_bits_mem.mp hk
  exact lw_gl he (hpl k this.1 this.2)
theorem lw_ite {p q : Prop} [Decidable p] [Decidable q] (h : p ↔ q) : (if p then (1 : Int32) else 0) = if q then 1 else 0 := by
  by_cases hq : q
  · rw [if_pos hq, if_pos (h.mpr hq)]
  · rw [if_neg hq, if_neg fun x => hq (h.mp x)]
/-- the three values, by two marks -/
theorem lw_quant {op : Nat} {v : Int32} {S : List ay_Row} {c : Nat} {row : ay_Row} {ends : Int32} {t1 : Nat} (hop : op ≤ 4) (he : ends = 1 ∧ t1 = op ∨ ends = 0 ∧ t1 = 5 + op) (h1 : row.getD c 0 = if ∃ s, s ∈ S ∧ rk_test t1 v (s.getD 0 0) = 1 then 1 else 0) (h2 : row.getD (c + 1) 0 = if ∃ s, s ∈ S ∧ rk_test (10 + op) v (s.getD 0 0) = 1 then 1 else 0) : rk_dec ends row c = sm_quant ends ((sm_at 0 S).map fun y => sm_cmp op v y) := by
  have mem : ∀ a : Int32, a ∈ (sm_at 0 S).map (fun y => sm_cmp op v y) ↔ ∃ s, s ∈ S ∧ sm_cmp op v (s.getD 0 0) = a := fun a => by
    unfold sm_at
    rw [List.map_map, List.mem_map]; rfl
  have e1 : (∃ s, s ∈ S ∧ rk_test t1 v (s.getD 0 0) = 1) ↔ ends ∈ (sm_at 0 S).map (fun y => sm_cmp op v y) := by
    rw [mem]
    refine exists_congr fun s => and_congr_right fun _ => ?_
    rcases he with ⟨rfl, rfl⟩ | ⟨rfl, rfl⟩
    · unfold rk_test; rw [if_pos (by omega)]
    · unfold rk_test
      rw [if_neg (by omega), if_pos (by omega), Nat.add_sub_cancel_left]
      by_cases h : sm_cmp op v (s.getD 0 0) = 0
      · simp [h]
      · simp [h]
  have e2 : (∃ s, s ∈ S ∧ rk_test (10 + op) v (s.getD 0 0) = 1) ↔ (-2147483648 : Int32) ∈ (sm_at 0 S).map (fun y => sm_cmp op v y) := by
    rw [mem]
    refine exists_congr fun s => and_congr_right fun _ => ?_
    unfold rk_test
    rw [if_neg (by omega), if_neg (by omega), Nat.add_sub_cancel_left]
    by_cases h : sm_cmp op v (s.getD 0 0) = (-2147483648 : Int32)
    · simp [h]
    · simp [h]
  unfold rk_dec sm_quant
  rw [h1, h2]
  by_cases q1 : ends ∈ (sm_at 0 S).map (fun y => sm_cmp op v y)
  · rw [if_pos (e1.mpr q1), if_pos rfl, if_pos q1]
  · rw [if_neg (fun q => q1 (e1.mp q)), if_neg (by decide), if_neg q1]
    by_cases q2 : (-2147483648 : Int32) ∈ (sm_at 0 S).map (fun y => sm_cmp op v y)
    · rw [if_pos (e2.mpr q2), if_pos rfl, if_pos q2]
    · rw [if_neg (fun q => q2 (e2.mp q)), if_neg (by decide), if_neg q2]
theorem lw_att_qnt (H : lw_H T tc nt N tb tr) (hN : N ≤ 120) (ht : t < N) (hk : sm_k (T t) = 9 ∨ sm_k (T t) = 10) (iha : lw_AC T tc nt tb tr att (sm_a (T t))) (ihb : lw_BC T tc nt tb tr bag (sm_b (T t))) : lw_AC T tc nt tb tr (cp_att0 T bag att) t := by
  intro e w pl L u Y E m B hI hz ha hpl hm hE hmz hw hB
  have z3 := lw_z3 hm hmz
  have W := cv_W hI.1 ha
  have q : sm_pa T t 0 ∧ sm_pb T t 2 ∧ sm_o (T t) ≤ 4 ∧ sm_wB T t = 1 ∧ sm_l (T t) = sm_lA T t ||| sm_lB T t := by
    rcases hk with hk | hk
    · exact sm_wf9 (H.1 t ht).1 hk
    · exact sm_wf10 (H.1 t ht).1 hk
  have alt := q.1.2.1
  have blt := q.2.1.2.1
  have o4 := q.2.2.1
  have wB1 : sm_w (T (sm_b (T t))) = 1 := q.2.2.2.1
  have cc := sm_zc2 H.1 ht z3 q.2.1.1 (by omega) (by omega) (by rcases hk with hk | hk <;> rw [hk] <;> rfl) (by omega)
  have mz : m * sm_zc T tr t = m + m * sm_zc T tr (sm_a (T t)) + m * sm_zc T tr (sm_b (T t)) := by rw [cc, Nat.mul_add, Nat.mul_add, Nat.mul_one]
  have pla : ∀ k, k < 32 → (sm_l (T (sm_a (T t)))).testBit k = true → pl k < w := fun k k1 k2 => hpl k k1 (my_or1 q.2.2.2.2 k k2)
  have plb : ∀ k, k < 32 → (sm_l (T (sm_b (T t)))).testBit k = true → pl k < w := fun k k1 k2 => hpl k k1 (my_or2 q.2.2.2.2 k k2)
  obtain ⟨e1, w1, f1, K1, u1, g1, h1, h2, h3, h4, h5, h6, h7⟩ := iha e w pl L u Y E m B hI hz ha pla hm hE (by omega) (by omega) (by omega)
  have lm : (E.map fun er => er ++ g1 er).length = E.length := List.length_map ..
  have ew : E.length * w1 ≤ E.length * w + 3 * (m * sm_zc T tr (sm_a (T t))) := by
    have e1 : E.length * w1 ≤ E.length * (w + 3 * sm_zc T tr (sm_a (T t))) := Nat.mul_le_mul_left _ h5
    have e2 : E.length * (3 * sm_zc T tr (sm_a (T t))) ≤ m * (3 * sm_zc T tr (sm_a (T t))) := Nat.mul_le_mul_right _ hE
    have e3 : m * (3 * sm_zc T tr (sm_a (T t))) = 3 * (m * sm_zc T tr (sm_a (T t))) := Nat.mul_left_comm ..
    rw [Nat.mul_add] at e1
    omega
  have W1 := cv_W h2.1 h3
  obtain ⟨pr1, pr2, pr3⟩ := h6 (sm_a (T t) + 1) (by omega) []
  rw [List.append_nil] at pr1 pr2 pr3
  generalize hp : (cp_wr T (sm_a (T t) + 1) (sm_a (T t)) pl f1).1 = p at pr2 pr3
  have eE1 : E.length * (w1 + 1) = E.length * w1 + E.length := Nat.mul_succ ..
  have eE2 : E.length * (w1 + 1 + 1) = E.length * (w1 + 1) + E.length := Nat.mul_succ ..
  have eE3 : E.length * (w1 + 1 + 1 + 1) = E.length * (w1 + 1 + 1) + E.length := Nat.mul_succ ..
  -- the value beside the row
  have ex := em_ext (Z := Y) (ls := p) (P := fun r => (sm_S T tb (sm_a (T t)) (lw_E pl r)).1) h2.1 cv_in_cons h3 (fun r hr => by
    obtain ⟨er, her, rfl⟩ := List.mem_map.mp hr
    have := pr3 er her [] [] (by show 0 + _ + 1 ≤ 256; omega)
    rw [List.append_nil] at this
    rw [lw_E_sub H.1 (by omega) (W er her) pla]
    exact this) (by omega) (by rw [cv_n_cons, lm]; show _ + _ + _ ≤ _; omega) (fun _ h => by simp [h])
  unfold em_P at ex
  rw [List.length_map, lm] at ex
  obtain ⟨ex1, ax1⟩ := ex
  have E2e : (E.map fun er => er ++ g1 er).map (fun r => r ++ [(sm_S T tb (sm_a (T t)) (lw_E pl r)).1]) = E.map fun er => er ++ g1 er ++ [(sm_S T tb (sm_a (T t)) (lw_E pl er)).1] := by
    rw [List.map_map]
    refine List.map_congr_left fun er her => ?_
    show (er ++ g1 er) ++ [(sm_S T tb (sm_a (T t)) (lw_E pl (er ++ g1 er))).1] = _
    rw [lw_E_sub H.1 (by omega) (W er her) pla]
  rw [E2e] at ax1
  generalize hE2 : (E.map fun er => er ++ g1 er ++ [(sm_S T tb (sm_a (T t)) (lw_E pl er)).1]) = E2 at ax1
  have lE2 : E2.length = E.length := by rw [← hE2, List.length_map]
  have I2 := lw_I_mv h2 ex1 (by simp [hz])
  rw [← lE2] at I2
  have plb1 : ∀ k, k < 32 → (sm_l (T (sm_b (T t)))).testBit k = true → pl k < w1 + 1 := fun k k1 k2 => by have := plb k k1 k2; omega
  obtain ⟨s1, q1, c, K3, R, u3, b1, b2, b3, b4, b5, b6, b7, b8, b9, b10, b11, b12, b13⟩ := lw_ask H (show sm_b (T t) < N by omega) q.2.1.2.2 ihb I2 ax1 plb1 hm (by omega) (by omega) (by rw [lE2]; omega) (u1 + p.length)
  have n32 := cp_bits_len (l := sm_l (T (sm_b (T t))))
  generalize hn : (cp_bits (sm_l (T (sm_b (T t))))).length = n at *
  rw [wB1] at b3 b4 b8
  have W2 := cv_W I2.1 ax1
  have WR := cv_W b3.1 b4
  have ll : (cp_cl (sm_l (T (sm_b (T t)))) pl ++ [nI w1]).length = n + 1 := by rw [List.length_append, cp_cl_len, hn]; rfl
  have cli : ∀ c, c ∈ cp_cl (sm_l (T (sm_b (T t)))) pl ++ [nI w1] → ∃ j, c = nI j ∧ j < w1 + 1 := fun c hc => by
    rcases List.mem_append.mp hc with hc | hc
    · exact lw_cl_mem plb1 c hc
    · rw [List.mem_singleton] at hc; exact ⟨w1, hc, by omega⟩
  have cE33 := lw_cells (n := E2.length) (a := m) (w := n + 1) (b := 33) (by omega) (by omega)
  rw [lE2] at b3
  generalize hL3 : (L ++ K1 ++ [cp_ext e1 p]) ++ K3 = L3 at *
  generalize he2 : (L ++ K1).length = e2 at *
  have hkv : ∀ er2 : ay_Row, ex_key (cp_cl (sm_l (T (sm_b (T t)))) pl ++ [nI w1]) er2 = lw_key (sm_l (T (sm_b (T t)))) pl er2 ++ [er2.getD w1 0] := fun er2 => ex_key_cl1 (fun k k1 k2 => by have := plb k k1 k2; omega) (by omega)
  -- keys and values, each once
  obtain ⟨d1, ad1⟩ := em_pick (Z := (s1, R.length * (n + 1)) :: (e2, E.length * (w1 + 1)) :: Y) (ls := cp_cl (sm_l (T (sm_b (T t)))) pl ++ [nI w1]) b3.1 (cv_in_tl (cv_in_tl cv_in_cons)) b5 cli (by omega) (by rw [ll, cv_n_cons, cv_n_cons, cv_n_cons]; show _ + (_ + (_ + _)) + _ ≤ _; omega) (fun x hx => by simp only [List.mem_cons] at hx ⊢; rcases hx with hx | hx | hx <;> simp [hx])
  rw [ll] at d1 ad1
  have ekv : E2.map (ex_key (cp_cl (sm_l (T (sm_b (T t)))) pl ++ [nI w1])) = E2.map fun er2 => lw_key (sm_l (T (sm_b (T t)))) pl er2 ++ [er2.getD w1 0] := List.map_congr_left fun er2 _ => hkv er2
  rw [ekv] at d1 ad1
  have lkv : (E2.map fun er2 => lw_key (sm_l (T (sm_b (T t)))) pl er2 ++ [er2.getD w1 0]).length = E2.length := List.length_map ..
  obtain ⟨d2, ad2⟩ := em_uniq (Z := (s1, R.length * (n + 1)) :: (e2, E.length * (w1 + 1)) :: Y) d1 cv_in_cons ad1 (by omega) (by rw [lkv, cv_n_cons, cv_n_cons, cv_n_cons]; show _ + (_ + (_ + _)) + _ ≤ _; omega) (fun x hx => by simp only [List.mem_cons] at hx ⊢; exact Or.inr hx)
  have elA : (L3 ++ [cp_pick e2 (cp_cl (sm_l (T (sm_b (T t)))) pl ++ [nI w1])]).length = L3.length + 1 := by rw [List.length_append]; rfl
  rw [elA] at d2 ad2
  generalize hU : sm_once (E2.map fun er2 => lw_key (sm_l (T (sm_b (T t)))) pl er2 ++ [er2.getD w1 0]) = U at d2 ad2
  have Ul : U.length ≤ E2.length := by rw [← hU]; exact Nat.le_trans (sm_once_len _) (by rw [lkv]; exact Nat.le_refl _)
  have cU33 := lw_cells (n := U.length) (a := m) (w := n + 1) (b := 33) (by omega) (by omega)
  have WU := cv_W d2 ad2
  have b4' := cv_at_app (cv_at_app b4 [cp_pick e2 (cp_cl (sm_l (T (sm_b (T t)))) pl ++ [nI w1])]) [cp_uniq L3.length]
  have sp := cp_sp_len n
  have more : ex_more 0 (n + 1) (cp_sp n).length = 1 := by unfold ex_more; rw [if_pos (by omega), sp, Nat.add_sub_cancel_left]
  have hUm : ∀ y, y ∈ U → ∃ er2, er2 ∈ E2 ∧ y = lw_key (sm_l (T (sm_b (T t)))) pl er2 ++ [er2.getD w1 0] ∧ y.take n = lw_key (sm_l (T (sm_b (T t)))) pl er2 := fun y hy => by
    rw [← hU, sm_once_mem, List.mem_map] at hy
    obtain ⟨er2, her2, rfl⟩ := hy
    exact ⟨er2, her2, rfl, lw_tk (by rw [lw_key_len, hn])⟩
  have prm : ∀ y, y ∈ U → (ex_join1 0 (cp_sp n) 0 (n + 1) R y).Perm ((sm_S T tb (sm_b (T t)) (lw_E (cp_rank (sm_l (T (sm_b (T t))))) (y.take n))).2.map fun s => y ++ s) := fun y hy => by
    obtain ⟨er2, her2, ey, et⟩ := hUm y hy
    have hj := lw_join (k := 0) (wb := 1) (v := 0) (er := y) (κ := y.take n) (n := n) b12 b13 b6 sp (by rw [ex_key_sp (by rw [WU y hy]; omega) (by omega)]) (by rw [et]; exact lw_ks_mem her2) (by omega) (fun h => by omega)
    rw [sm_apply_0] at hj
    exact hj
  have sz := sm_sizes H.1 (fun k hk => ⟨(H.2 k hk).1, (H.2 k hk).2.1⟩) (sm_b (T t)) (by omega) (by omega) q.2.1.2.2
  have Ml : (U.flatMap (ex_join1 0 (cp_sp n) 0 (n + 1) R)).length ≤ m * sm_zs T tr (sm_b (T t)) := by
    refine Nat.le_trans (sm_len_flat (n := sm_zs T tr (sm_b (T t))) fun y hy => ?_) (Nat.mul_le_mul_right _ (by omega))
    rw [(prm y hy).length_eq, List.length_map]
    exact sz.2.2 _
  have cM := lw_cells (w := n + 1 + 1) (b := 34) Ml (by omega)
  have dj := em_join (Z := (e2, E.length * (w1 + 1)) :: Y) (k := 0) (v := 0) d2 cv_in_cons ad2 (cv_in_tl cv_in_cons) b4' (ls := cp_sp n) (cp_sp_mem (by omega)) (by omega) (by omega) (by omega) rfl (by omega) (by rw [more]; omega) (by rw [more, cv_n_cons, cv_n_cons, cv_n_cons]; show _ + (_ + (_ + _)) + _ ≤ _; omega) (fun x hx => by simp only [List.mem_cons] at hx ⊢; exact Or.inr (Or.inr hx))
  rw [more] at dj
  have elB : ((L3 ++ [cp_pick e2 (cp_cl (sm_l (T (sm_b (T t)))) pl ++ [nI w1])]) ++ [cp_uniq L3.length]).length = L3.length + 2 := by simp only [List.length_append, List.length_singleton]
  unfold em_P at dj
  rw [elB] at dj
  generalize hM : U.flatMap (ex_join1 0 (cp_sp n) 0 (n + 1) R) = M at dj Ml cM
  have b5' := cv_at_app (cv_at_app (cv_at_app b5 [cp_pick e2 (cp_cl (sm_l (T (sm_b (T t)))) pl ++ [nI w1])]) [cp_uniq L3.length]) [cp_join (nI 0) (L3.length + 1) s1 (cp_sp n) 0]
  have I4 := lw_I_mv (lw_I_mv (lw_I_mv b3 d1 (by simp [hz])) d2 (by simp [hz])) dj.1 (by simp [hz])
  have elC : (((L3 ++ [cp_pick e2 (cp_cl (sm_l (T (sm_b (T t)))) pl ++ [nI w1])]) ++ [cp_uniq L3.length]) ++ [cp_join (nI 0) (L3.length + 1) s1 (cp_sp n) 0]).length = L3.length + 3 := by simp only [List.length_append, List.length_singleton]
  obtain ⟨dj1, aM⟩ := dj
  generalize hL4 : ((L3 ++ [cp_pick e2 (cp_cl (sm_l (T (sm_b (T t)))) pl ++ [nI w1])]) ++ [cp_uniq L3.length]) ++ [cp_join (nI 0) (L3.length + 1) s1 (cp_sp n) 0] = L4 at *
  rw [← lE2] at I4
  have t1l : (if sm_k (T t) = 9 then sm_o (T t) else 5 + sm_o (T t)) < 15 := by split <;> omega
  obtain ⟨c5, I5, hc5, a5⟩ := lw_mk (k := if sm_k (T t) = 9 then sm_o (T t) else 5 + sm_o (T t)) (l := sm_l (T (sm_b (T t)))) (pl := pl) (own := w1) (m := m) (zb := m * sm_zs T tr (sm_b (T t))) I4 aM b5' hn n32 plb1 (by omega) (by omega) t1l (by omega) Ml (by rw [lE2]; omega) hz
  have conv : ∀ k er2, er2 ∈ E2 → ((∃ y, y ∈ M ∧ rk_test k (y.getD n 0) (y.getD (n + 1) 0) = 1 ∧ y.take (n + 1) = lw_key (sm_l (T (sm_b (T t)))) pl er2 ++ [er2.getD w1 0]) ↔ ∃ s, s ∈ (sm_S T tb (sm_b (T t)) (lw_E pl er2)).2 ∧ rk_test k (er2.getD w1 0) (s.getD 0 0) = 1) := fun k er2 her2 => by
    have kl : (lw_key (sm_l (T (sm_b (T t)))) pl er2).length = n := by rw [lw_key_len, hn]
    have kvl : (lw_key (sm_l (T (sm_b (T t)))) pl er2 ++ [er2.getD w1 0]).length = n + 1 := by rw [List.length_append, kl]; rfl
    have gn : ∀ s : ay_Row, (lw_key (sm_l (T (sm_b (T t)))) pl er2 ++ [er2.getD w1 0] ++ s).getD n 0 = er2.getD w1 0 := fun s => by
      have := lw_gd (c := 0) (r := [er2.getD w1 0] ++ s) kl
      rw [Nat.add_zero, ← List.append_assoc] at this
      rw [this]; rfl
    have gn1 : ∀ s : ay_Row, (lw_key (sm_l (T (sm_b (T t)))) pl er2 ++ [er2.getD w1 0] ++ s).getD (n + 1) 0 = s.getD 0 0 := fun s => by
      have := lw_gd (c := 0) (r := s) kvl
      rw [Nat.add_zero] at this; exact this
    have tkn : (lw_key (sm_l (T (sm_b (T t)))) pl er2 ++ [er2.getD w1 0]).take n = lw_key (sm_l (T (sm_b (T t)))) pl er2 := lw_tk kl
    constructor
    · rintro ⟨y, hy, hy1, hy2⟩
      rw [← hM, List.mem_flatMap] at hy
      obtain ⟨kv, hkv', hy⟩ := hy
      have hy := (prm kv hkv').mem_iff.mp hy
      obtain ⟨s, hs, rfl⟩ := List.mem_map.mp hy
      rw [lw_tk (WU kv hkv')] at hy2
      subst hy2
      rw [tkn, lw_key_S H.1 (by omega)] at hs
      rw [gn, gn1] at hy1
      exact ⟨s, hs, hy1⟩
    · rintro ⟨s, hs, hs1⟩
      have hkU : lw_key (sm_l (T (sm_b (T t)))) pl er2 ++ [er2.getD w1 0] ∈ U := by
        rw [← hU, sm_once_mem, List.mem_map]; exact ⟨er2, her2, rfl⟩
      refine ⟨lw_key (sm_l (T (sm_b (T t)))) pl er2 ++ [er2.getD w1 0] ++ s, ?_, by rw [gn, gn1]; exact hs1, lw_tk kvl⟩
      rw [← hM, List.mem_flatMap]
      refine ⟨_, hkU, (prm _ hkU).mem_iff.mpr (List.mem_map.mpr ⟨s, ?_, rfl⟩)⟩
      rw [tkn, lw_key_S H.1 (by omega)]; exact hs
  generalize hT1 : (if sm_k (T t) = 9 then sm_o (T t) else 5 + sm_o (T t)) = t1 at *
  rw [hc5] at I5
  clear hc5
  generalize hli : cp_cl (sm_l (T (sm_b (T t)))) pl ++ [nI w1] = li at *
  have aM' := cv_at_app aM (cp_mark (L3.length + 2) e2 L4.length n t1 li)
  have elD : (L4 ++ cp_mark (L3.length + 2) e2 L4.length n t1 li).length = L4.length + 4 := by rw [List.length_append]; rfl
  generalize hE3 : (E2.map fun er => er ++ [if ∃ y, y ∈ M ∧ rk_test t1 (y.getD n 0) (y.getD (n + 1) 0) = 1 ∧ y.take (n + 1) = lw_key (sm_l (T (sm_b (T t)))) pl er ++ [er.getD w1 0] then (1 : Int32) else 0]) = E3 at a5
  have lE3 : E3.length = E2.length := by rw [← hE3, List.length_map]
  have I5' : lw_I tc nt tb (L4 ++ cp_mark (L3.length + 2) e2 L4.length n t1 li) ((L3.length + 2, M.length * (n + 1 + 1)) :: (L4.length + 3, E3.length * (w1 + 1 + 1)) :: Y) B := by
    rw [lE3]
    exact ⟨cv_sub I5.1 (fun x hx => by simp only [List.mem_cons] at hx ⊢; rcases hx with hx | hx | hx <;> simp [hx]), by simp [hz], I5.2.2⟩
  generalize hL5 : L4 ++ cp_mark (L3.length + 2) e2 L4.length n t1 li = L5 at *
  rw [← hli] at *
  obtain ⟨c6, I6, hc6, a6⟩ := lw_mk (k := 10 + sm_o (T t)) (l := sm_l (T (sm_b (T t)))) (pl := pl) (own := w1) (m := m) (zb := m * sm_zs T tr (sm_b (T t))) I5' aM' a5 hn n32 (fun k k1 k2 => by have := plb1 k k1 k2; omega) (by omega) (by omega) (by omega) (by omega) Ml (by rw [lE3, lE2]; omega) hz
  rw [hc6, lE3, lE2] at I6
  let F1 : ay_Row → Int32 := fun er => if ∃ y, y ∈ M ∧ rk_test t1 (y.getD n 0) (y.getD (n + 1) 0) = 1 ∧ y.take (n + 1) = lw_key (sm_l (T (sm_b (T t)))) pl er ++ [er.getD w1 0] then (1 : Int32) else 0
  let F2 : ay_Row → Int32 := fun er => if ∃ y, y ∈ M ∧ rk_test (10 + sm_o (T t)) (y.getD n 0) (y.getD (n + 1) 0) = 1 ∧ y.take (n + 1) = lw_key (sm_l (T (sm_b (T t)))) pl er ++ [er.getD w1 0] then (1 : Int32) else 0
  let V : ay_Row → Int32 := fun er => (sm_S T tb (sm_a (T t)) (lw_E pl er)).1
  let G : ay_Row → ay_Row := fun er => g1 er ++ [V er] ++ [F1 (er ++ g1 er ++ [V er])] ++ [F2 (er ++ g1 er ++ [V er] ++ [F1 (er ++ g1 er ++ [V er])])]
  have eG : (E3.map fun er => er ++ [F2 er]) = E.map fun er => er ++ G er := by
    rw [← hE3, ← hE2, List.map_map, List.map_map]
    refine List.map_congr_left fun er _ => ?_
    show (er ++ g1 er ++ [V er] ++ [F1 (er ++ g1 er ++ [V er])]) ++ [F2 (er ++ g1 er ++ [V er] ++ [F1 (er ++ g1 er ++ [V er])])] = er ++ G er
    simp only [G, List.append_assoc]
  have a6 : cv_at tc tb (L5 ++ cp_mark (L3.length + 2) (L4.length + 3) L5.length n (10 + sm_o (T t)) (cp_cl (sm_l (T (sm_b (T t)))) pl ++ [nI w1])) (L5.length + 3) (w1 + 1 + 1 + 1) (E3.map fun er => er ++ [F2 er]) := a6
  rw [eG] at a6
  have eK : L5 ++ cp_mark (L3.length + 2) (L4.length + 3) L5.length n (10 + sm_o (T t)) (cp_cl (sm_l (T (sm_b (T t)))) pl ++ [nI w1]) = L ++ (K1 ++ ([cp_ext e1 p] ++ (K3 ++ ([cp_pick e2 (cp_cl (sm_l (T (sm_b (T t)))) pl ++ [nI w1])] ++ ([cp_uniq L3.length] ++ ([cp_join (nI 0) (L3.length + 1) s1 (cp_sp n) 0] ++ (cp_mark (L3.length + 2) e2 L4.length n t1 (cp_cl (sm_l (T (sm_b (T t)))) pl ++ [nI w1]) ++ cp_mark (L3.length + 2) (L4.length + 3) L5.length n (10 + sm_o (T t)) (cp_cl (sm_l (T (sm_b (T t)))) pl ++ [nI w1])))))))) := by
    have x5 := hL5
    have x4 := hL4
    have x3 := hL3
    generalize cp_mark (L3.length + 2) (L4.length + 3) L5.length n (10 + sm_o (T t)) (cp_cl (sm_l (T (sm_b (T t)))) pl ++ [nI w1]) = mk2
    generalize cp_mark (L3.length + 2) e2 L4.length n t1 (cp_cl (sm_l (T (sm_b (T t)))) pl ++ [nI w1]) = mk1 at x5 ⊢
    generalize cp_uniq L3.length = A1 at x4 ⊢
    generalize cp_join (nI 0) (L3.length + 1) s1 (cp_sp n) 0 = A2 at x4 ⊢
    rw [← x5, ← x4, ← x3]
    simp only [List.append_assoc]
  rw [eK] at a6 I6
  refine ⟨L5.length + 3, w1 + 1 + 1 + 1, [w1 + 1], _, u3 + (n + 1) + n + (5 + (n + 1)) + (5 + (n + 1)), G, ?_, ?_, a6, by omega, by omega, fun nn hnn rest => ?_, ?_⟩
  · rw [cp_att_9 hk]
    unfold cp_qnt
    dsimp only
    rw [h1]
    dsimp only
    rw [hp, he2, b1]
    dsimp only
    rw [hn, hT1, ← eK]
    have n6 : L4.length + 3 = L3.length + 6 := by omega
    have n7 : L5.length = L3.length + 7 := by omega
    have n3 : L4.length = L3.length + 3 := elC
    have x5 : L5 = L3 ++ [cp_pick e2 (cp_cl (sm_l (T (sm_b (T t)))) pl ++ [nI w1]), cp_uniq L3.length, cp_join 0 (L3.length + 1) s1 (cp_sp n) 0] ++ cp_mark (L3.length + 2) e2 (L3.length + 3) n t1 (cp_cl (sm_l (T (sm_b (T t)))) pl ++ [nI w1]) := by
      rw [← hL5, n3, ← hL4]
      simp only [List.append_assoc]
      rfl
    rw [n6, n7, x5]
  · exact ⟨cv_sub I6.1 (fun x hx => by simp only [List.mem_cons] at hx ⊢; rcases hx with hx | hx <;> simp [hx]), by simp [hz], I6.2.2⟩
  · obtain ⟨nn, rfl⟩ : ∃ j, nn = j + 1 := ⟨nn - 1, by omega⟩
    have core : ∀ ends : Int32, (ends = 1 ∧ t1 = sm_o (T t) ∨ ends = 0 ∧ t1 = 5 + sm_o (T t)) → ∀ er, er ∈ E → ∀ more, w1 + 1 + 1 < (er ++ G er ++ more).length ∧ rk_dec ends (er ++ G er ++ more) (w1 + 1) = sm_quant ends ((sm_at 0 (sm_S T tb (sm_b (T t)) (lw_E pl er)).2).map fun y => sm_cmp (sm_o (T t)) (V er) y) := fun ends he er her more => by
      have m2 : er ++ g1 er ++ [V er] ∈ E2 := by rw [← hE2]; exact List.mem_map.mpr ⟨er, her, rfl⟩
      have l2 := W2 _ m2
      have l1 : (er ++ g1 er).length = w1 := W1 _ (List.mem_map.mpr ⟨er, her, rfl⟩)
      have gv : (er ++ g1 er ++ [V er]).getD w1 0 = V er := by
        have := lw_gd (c := 0) (r := [V er]) l1
        rw [Nat.add_zero] at this
        rw [this]; rfl
      have sub : sm_S T tb (sm_b (T t)) (lw_E pl (er ++ g1 er ++ [V er])) = sm_S T tb (sm_b (T t)) (lw_E pl er) := by rw [List.append_assoc]; exact lw_E_sub H.1 (by omega) (W er her) plb
      have c1 := conv t1 _ m2
      have c2 := conv (10 + sm_o (T t)) _ m2
      rw [sub, gv] at c1 c2
      have rowe : er ++ G er ++ more = (er ++ g1 er ++ [V er]) ++ ([F1 (er ++ g1 er ++ [V er])] ++ [F2 (er ++ g1 er ++ [V er] ++ [F1 (er ++ g1 er ++ [V er])])] ++ more) := by simp only [G, List.append_assoc]
      refine ⟨by rw [rowe, List.length_append, l2]; simp only [List.length_append, List.length_singleton]; omega, ?_⟩
      rw [rowe]
      have g0 := lw_gd (c := 0) (r := [F1 (er ++ g1 er ++ [V er])] ++ [F2 (er ++ g1 er ++ [V er] ++ [F1 (er ++ g1 er ++ [V er])])] ++ more) l2
      have g1' := lw_gd (c := 1) (r := [F1 (er ++ g1 er ++ [V er])] ++ [F2 (er ++ g1 er ++ [V er] ++ [F1 (er ++ g1 er ++ [V er])])] ++ more) l2
      rw [Nat.add_zero] at g0
      have k3 : lw_key (sm_l (T (sm_b (T t)))) pl (er ++ g1 er ++ [V er] ++ [F1 (er ++ g1 er ++ [V er])]) = lw_key (sm_l (T (sm_b (T t)))) pl (er ++ g1 er ++ [V er]) := lw_key_sub l2 plb1
      have v3 : (er ++ g1 er ++ [V er] ++ [F1 (er ++ g1 er ++ [V er])]).getD w1 0 = (er ++ g1 er ++ [V er]).getD w1 0 := lw_gl l2 (by omega)
      refine lw_quant o4 he ?_ ?_
      · rw [g0]
        show F1 (er ++ g1 er ++ [V er]) = _
        simp only [F1, gv]
        exact lw_ite c1
      · rw [show w1 + 1 + 1 = (w1 + 1) + 1 from rfl, g1']
        show F2 (er ++ g1 er ++ [V er] ++ [F1 (er ++ g1 er ++ [V er])]) = _
        simp only [F2, k3, v3, gv]
        exact lw_ite c2
    have pool : u3 + (n + 1) + n + (5 + (n + 1)) + (5 + (n + 1)) + 2 ≤ u + 174 * sm_zc T tr t := by omega
    rcases hk with hk | hk
    · rw [cp_wr9 hk]
      refine ⟨rfl, pool, fun er her more st hst => ?_⟩
      have c := core 1 (Or.inl ⟨rfl, by rw [← hT1, if_pos hk]⟩) er her more
      rw [sm_S_eq H.1 ht, sm_body9 hk]
      have := lw_rk_dec1 (st := st) (by omega) c.1
      rw [c.2] at this
      exact this
    · rw [cp_wr10 hk]
      refine ⟨rfl, pool, fun er her more st hst => ?_⟩
      have c := core 0 (Or.inr ⟨rfl, by rw [← hT1, if_neg (by omega)]⟩) er her more
      rw [sm_S_eq H.1 ht, sm_body10 hk]
      have := lw_rk_dec0 (st := st) (by omega) c.1
      rw [c.2] at this
      exact this
  · simp only [List.length_append, List.length_singleton]
    show K1.length + (1 + (K3.length + (1 + (1 + (1 + (4 + 4)))))) + 4 ≤ _
    omega
end LW
