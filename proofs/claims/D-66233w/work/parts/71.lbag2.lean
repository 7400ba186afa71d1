/-! LAW: pairs and apply -/
section LW
variable {T : Nat → sm_T} {tc : Nat → Nat} {nt N : Nat} {tb : Nat → List ay_Row} {tr : Nat → Nat}
variable {bag : cp_B} {att : cp_A} {t : Nat} {x : cp_X} {L : List cp_St} {u : Nat} {X : cv_X} {Xr : List ay_Row} {m B : Nat}
theorem lw_enter {b wA lt : Nat} {xr r : ay_Row} (w : sm_wf T tc nt N) (hb : b < N) (hx : xr.length = x.2.2.1) (hpl : ∀ k, k < 32 → lt.testBit k = true → x.2.2.2 k < x.2.2.1) (hl : lt = wA ||| sm_l (T b) >>> 8) : sm_S T tb b (lw_E (cp_apl x) (xr ++ r)) = sm_S T tb b (sm_enter r (lw_E x.2.2.2 xr)) := by
  refine sm_looks w b hb _ _ fun k hk hbit => ?_
  unfold lw_E cp_apl sm_enter
  by_cases h : k < 8
  · rw [if_pos h, if_pos h, lw_gd hx]
  · rw [if_neg h, if_neg h]
    refine lw_gl hx (hpl (k - 8) (by omega) ?_)
    rw [hl, Nat.testBit_or, Nat.testBit_shiftRight, show 8 + (k - 8) = k by omega, hbit, Bool.or_true]
theorem lw_apl {b wA lA lt : Nat} (hf : sm_l (T b) % 256 < 2 ^ wA) (hpl : ∀ k, k < 32 → lt.testBit k = true → x.2.2.2 k < x.2.2.1) (hl : lt = lA ||| sm_l (T b) >>> 8) : ∀ k, k < 32 → (sm_l (T b)).testBit k = true → cp_apl x k < x.2.2.1 + wA := fun k hk hbit => by
  unfold cp_apl
  by_cases h : k < 8
  · rw [if_pos h]
    have := my_bit_lt hf hbit h
    omega
  · rw [if_neg h]
    have := hpl (k - 8) (by omega) (by rw [hl, Nat.testBit_or, Nat.testBit_shiftRight, show 8 + (k - 8) = k by omega, hbit, Bool.or_true])
    omega
theorem lw_cl_mem {l w : Nat} {pl : Nat → Nat} (h : ∀ k, k < 32 → l.testBit k = true → pl k < w) : ∀ c, c ∈ cp_cl l pl → ∃ j, c = nI j ∧ j < w := fun c hc => by
  unfold cp_cl at hc
  obtain ⟨k, hk, rfl⟩ := List.mem_map.mp hc
  have := cp_bits_mem.mp hk
  exact ⟨pl k, rfl, h k this.1 this.2⟩
/-- the keys of some rows, each once: a scope -/
theorem lw_ch {l e w : Nat} {pl : Nat → Nat} {E : List ay_Row} (hI : lw_I tc nt tb L X B) (hi : cv_in X e) (ha : cv_at tc tb L e w E) (hpl : ∀ k, k < 32 → l.testBit k = true → pl k < w) (hB : cv_n X + 64 * E.length ≤ B) (u : Nat) :
    ∃ c, c ≤ 32 * E.length ∧ lw_I tc nt tb (L ++ [cp_pick e (cp_cl l pl), cp_uniq L.length]) ((L.length + 1, c) :: X) B ∧ lw_X tc tb (L ++ [cp_pick e (cp_cl l pl), cp_uniq L.length]) (cp_chX l (L, u)) (sm_once (E.map (lw_key l pl))) l := by
  have hw := (cv_w hI.1 ha).2
  have n32 := cp_bits_len (l := l)
  have ll := cp_cl_len (l := l) (pl := pl)
  have c1 : E.length * (cp_cl l pl).length ≤ 32 * E.length := lw_cells (Nat.le_refl _) (by omega)
  obtain ⟨e1, a1⟩ := em_pick (Z := X) hI.1 hi ha (lw_cl_mem hpl) (by omega) (by omega) (fun _ h => h)
  have ek : E.map (ex_key (cp_cl l pl)) = E.map (lw_key l pl) := List.map_congr_left fun er _ => ex_key_cl fun k h1 h2 => by have := hpl k h1 h2; omega
  rw [ek] at e1 a1
  have lm : (E.map (lw_key l pl)).length = E.length := List.length_map ..
  obtain ⟨e2, a2⟩ := em_uniq (Z := X) e1 cv_in_cons a1 (by omega) (by rw [cv_n_cons, lm]; show _ + _ + _ ≤ _; omega) (fun _ h => by simp [h])
  have cc : (sm_once (E.map (lw_key l pl))).length * (cp_cl l pl).length ≤ 32 * E.length := lw_cells (by rw [← lm]; exact sm_once_len _) (by omega)
  rw [List.append_assoc] at e2 a2
  rw [List.length_append] at e2 a2
  refine ⟨_, cc, lw_I_mv hI e2 (by simp [hI.2.1]), ?_⟩
  rw [ll] at a2
  refine ⟨a2, fun r hr => ?_, sm_once_nodup _, n32, fun k h1 h2 => (lw_key_get (pl := pl) (er := []) h1 h2).2⟩
  rw [sm_once_mem, List.mem_map] at hr
  obtain ⟨er, -, rfl⟩ := hr
  exact lw_key_len
theorem lw_U (hI : lw_I tc nt tb L X B) {l : Nat} (hl : l = 0) : lw_X tc tb L cp_U [[]] l := ⟨hI.2.2, fun r hr => by rw [List.mem_singleton] at hr; rw [hr]; rfl, by simp, by show 0 ≤ 32; omega, fun k _ h => by rw [hl] at h; simp at h⟩
theorem lw_closed {b : Nat} (w : sm_wf T tc nt N) (hb : b < N) (hl : sm_l (T b) = 0) (e e' : sm_E) : sm_S T tb b e = sm_S T tb b e' := sm_looks w b hb _ _ fun k _ h => by rw [hl] at h; simp at h
theorem lw_pairs (H : lw_H T tc nt N tb tr) (ht : t < N) (hk : sm_k (T t) = 15) (ih : ∀ s, s < t → sm_sort (sm_k (T s)) = 2 → lw_BC T tc nt tb tr bag s) (hp : lw_pre T tc nt tb tr x L X Xr m B t) : lw_P T tc nt tb tr 5 x L u X Xr B t (cp_sw T bag att t x (L, u)) := by
  obtain ⟨p1, p2, p3, p4, p5, p6, p7⟩ := id hp
  have z3 := lw_z3 p4 p6
  have q := sm_wf15 (H.1 t ht).1 hk
  have alt := q.1.2.1
  have blt := q.2.1.2.1
  have cc := sm_zcP H.1 ht z3 q.2.1.1 hk
  have mz : m * sm_zc T tr t = m + m * sm_zc T tr (sm_a (T t)) + m * sm_zc T tr (sm_b (T t)) + m * sm_zs T tr t := by rw [cc, Nat.mul_add, Nat.mul_add, Nat.mul_add, Nat.mul_one]; omega
  have x32 := p3.2.2.2.1
  have w8 := (H.1 t ht).2.1
  have ew : sm_w (T t) = sm_w (T (sm_a (T t))) + sm_w (T (sm_b (T t))) := q.2.2.1
  have sz := sm_sizes H.1 (fun k hk => ⟨(H.2 k hk).1, (H.2 k hk).2.1⟩) t ht z3 (by rw [hk]; rfl)
  have own : sm_own (T t) (sm_zs T tr (sm_a (T t))) (sm_p2 (T t).2.2.2.1 (sm_zs T tr)) = sm_zs T tr (sm_a (T t)) * sm_zs T tr (sm_b (T t)) := by rw [q.2.1.1]; simp [sm_own, hk, sm_p2]
  have zst := sz.2.1 (by omega)
  rw [own] at zst
  have body : ∀ xr, (sm_S T tb t (lw_E x.2.2.2 xr)).2 = lw_J (sm_S T tb (sm_a (T t)) (lw_E x.2.2.2 xr)).2 fun _ => (sm_S T tb (sm_b (T t)) (lw_E x.2.2.2 xr)).2 := fun xr => by
    rw [sm_S_eq H.1 ht, sm_body15 hk]
    unfold sm_apply
    rw [if_pos rfl]; rfl
  rw [cp_sw15 hk]
  unfold cp_pairs
  dsimp only
  by_cases hl : sm_l (T (sm_b (T t))) = 0
  · rw [if_pos hl]
    obtain ⟨s1, K1, R1, u1, h1, h2, h3, h4, h5, h6, h7, h8, h9⟩ := lw_call H (show sm_a (T t) < N by omega) q.1.2.2 (ih _ alt q.1.2.2) (x := x) (m := m) ⟨p1, p2, lw_X_sub p3 (my_or1 q.2.2.2), p4, p5, by omega, by omega⟩ u
    rw [h1]
    dsimp only
    have mb1 : 1 * sm_zc T tr (sm_b (T t)) ≤ m * sm_zc T tr (sm_b (T t)) := Nat.mul_le_mul_right _ p4
    obtain ⟨s2, K2, R2, u2, g1, g2, g3, g4, g5, g6, g7, g8, g9⟩ := lw_call H (show sm_b (T t) < N by omega) q.2.1.2.2 (ih _ blt q.2.1.2.2) (x := cp_U) (Xr := [[]]) (m := 1) ⟨h2, ⟨0, List.mem_cons_of_mem _ p1.2.1⟩, lw_U h2 hl, by omega, by simp, by omega, by rw [cv_n_cons]; show _ + _ + _ ≤ _; omega⟩ u1
    rw [g1]
    have h3' := cv_at_app h3 K2
    rw [List.append_assoc] at g2 g3 h3' ⊢
    have g3 : cv_at tc tb (L ++ (K1 ++ K2)) s2 (sm_w (T (sm_b (T t)))) R2 := by
      have e0 : cp_U.2.2.1 + sm_w (T (sm_b (T t))) = sm_w (T (sm_b (T t))) := Nat.zero_add _
      rw [e0] at g3; exact g3
    have R2l : R2.length ≤ sm_zs T tr (sm_b (T t)) := by rw [Nat.one_mul] at g5; exact g5
    have cnt : R1.length * R2.length ≤ m * sm_zs T tr t := by
      rw [zst, ← Nat.mul_assoc]; exact Nat.mul_le_mul h5 R2l
    have cel : R1.length * R2.length * (x.2.2.1 + sm_w (T (sm_a (T t))) + sm_w (T (sm_b (T t)))) ≤ 40 * (m * sm_zs T tr t) := lw_cells cnt (by omega)
    have zb1 : 1 * sm_zs T tr (sm_b (T t)) ≤ 1 * sm_zc T tr (sm_b (T t)) := g7
    have e := em_cross (Z := X) g2.1 (cv_in_tl cv_in_cons) h3' cv_in_cons g3 (by omega) (by omega) (by rw [cv_n_cons, cv_n_cons]; show _ + (_ + _) + _ ≤ _; omega) (fun _ h => by simp [h])
    refine lw_fin (by rw [ew, Nat.add_assoc]) e (fun _ h => h) ?_ (by rw [List.length_append]; omega) (by show u2 + 10 ≤ _; omega)
    have g4 : R2.Perm (sm_S T tb (sm_b (T t)) (lw_E cp_U.2.2.2 [])).2 := by
      refine g4.trans (List.Perm.of_eq ?_)
      rw [lw_J_cons, lw_J_nil, List.append_nil]
      exact List.map_id' _
    refine (lw_J_perm h4 fun _ _ => g4).trans (List.Perm.of_eq ?_)
    rw [lw_J_J]
    refine lw_J_congr fun xr _ => ?_
    rw [body xr, lw_closed H.1 (show sm_b (T t) < N by omega) hl (lw_E cp_U.2.2.2 []) (lw_E x.2.2.2 xr)]
  · rw [if_neg hl]
    obtain ⟨s1, K1, R1, u1, s2, K2, R2, u2, h1, h2, h3, h4, h5, h6, h7, h8, h9, h10, h11, h12, h13, h14, h15⟩ := lw_call2 H ht q.1.2.1 q.2.1.2.1 q.1.2.2 q.2.1.2.2 ih hp (my_or1 q.2.2.2) (my_or2 q.2.2.2) (by omega) u
    rw [h1]
    dsimp only
    rw [h2]
    have W1 := cv_W h3.1 h4
    have sp := cp_sp_len x.2.2.1
    have more : ex_more 0 (x.2.2.1 + sm_w (T (sm_b (T t)))) (cp_sp x.2.2.1).length = sm_w (T (sm_b (T t))) := by unfold ex_more; rw [if_pos (by omega), sp, Nat.add_sub_cancel_left]
    have prm : (R1.flatMap (ex_join1 0 (cp_sp x.2.2.1) 0 (x.2.2.1 + sm_w (T (sm_b (T t)))) R2)).Perm (lw_J Xr fun xr => (sm_S T tb t (lw_E x.2.2.2 xr)).2) := by
      refine (h6.flatMap_right _).trans ((lw_J_flatMap (h' := fun xr r => sm_apply 0 (sm_w (T (sm_b (T t)))) [r] fun _ => (sm_S T tb (sm_b (T t)) (lw_E x.2.2.2 xr)).2) fun xr hx r hr => ?_).trans (List.Perm.of_eq (lw_J_congr fun xr _ => ?_)))
      · rw [← lw_apply_map (by omega)]
        refine lw_join (n := x.2.2.1) p3.2.1 p3.2.2.1 h7 sp ?_ hx (by omega) (fun h => by omega)
        have hxl := p3.2.1 xr hx
        rw [ex_key_sp (by rw [List.length_append]; omega) (by omega), lw_tk hxl]
      · rw [body xr]
        unfold lw_J
        congr 1
        funext r
        exact sm_apply_0
    have rl : (R1.flatMap (ex_join1 0 (cp_sp x.2.2.1) 0 (x.2.2.1 + sm_w (T (sm_b (T t)))) R2)).length ≤ m * sm_zs T tr t := by
      rw [prm.length_eq]
      exact Nat.le_trans (lw_J_len fun _ _ => sz.2.2 _) (Nat.mul_le_mul_right _ p5)
    have cel := lw_cells (w := x.2.2.1 + sm_w (T (sm_a (T t))) + sm_w (T (sm_b (T t)))) (b := 40) rl (by omega)
    have e := em_join (Z := X) (k := 0) (v := 0) h3.1 (cv_in_tl cv_in_cons) h4 cv_in_cons h5 (ls := cp_sp x.2.2.1) (cp_sp_mem (by omega)) (by omega) (by omega) (by omega) rfl (by omega) (by rw [more]; omega) (by rw [more, cv_n_cons, cv_n_cons]; show _ + (_ + _) + _ ≤ _; omega) (fun _ h => by simp [h])
    rw [more] at e
    exact lw_fin (by rw [ew, Nat.add_assoc]) e (fun _ h => h) prm (by omega) (by show u2 + x.2.2.1 + 10 ≤ _; omega)
theorem lw_zsA (H : lw_H T tc nt N tb tr) (ht : t < N) (hk : sm_k (T t) = 16) (z3 : sm_zc T tr t ≤ 3000) : sm_zs T tr t ≤ sm_zs T tr (sm_a (T t)) * sm_zc T tr (sm_b (T t)) := by
  have q := sm_wf16 (H.1 t ht).1 hk
  have blt := q.2.1.2.1
  have cc := sm_zcI H.1 ht z3 q.2.1.1 (by omega) (by omega) (by rw [hk]; rfl)
  have cb : sm_zc T tr (sm_b (T t)) ≤ (sm_zs T tr (sm_a (T t)) + 1) * sm_zc T tr (sm_b (T t)) := Nat.le_mul_of_pos_left _ (by omega)
  have hT := fun k hk => (⟨(H.2 k hk).1, (H.2 k hk).2.1⟩ : k < 6 ∧ (tb k).length = tr k)
  have szb := sm_sizes H.1 hT (sm_b (T t)) (by omega) (by omega) q.2.1.2.2
  have zst := (sm_sizes H.1 hT t ht z3 (by rw [hk]; rfl)).2.1 (by omega)
  have own : sm_own (T t) (sm_zs T tr (sm_a (T t))) (sm_p2 (T t).2.2.2.1 (sm_zs T tr)) = if sm_o (T t) = 0 then sm_zs T tr (sm_a (T t)) * sm_zs T tr (sm_b (T t)) else if sm_o (T t) = 1 then sm_zs T tr (sm_a (T t)) * max 1 (sm_zs T tr (sm_b (T t))) else sm_zs T tr (sm_a (T t)) := by rw [q.2.1.1]; simp [sm_own, hk, sm_p2]
  have bpos := sm_zc_pos (tr := tr) H.1 (show sm_b (T t) < N by omega)
  rw [zst, own]
  split
  · exact Nat.mul_le_mul_left _ szb.1
  · split
    · exact Nat.mul_le_mul_left _ (by omega)
    · exact Nat.le_mul_of_pos_right _ bpos
theorem lw_apply (H : lw_H T tc nt N tb tr) (ht : t < N) (hk : sm_k (T t) = 16) (ih : ∀ s, s < t → sm_sort (sm_k (T s)) = 2 → lw_BC T tc nt tb tr bag s) (hp : lw_pre T tc nt tb tr x L X Xr m B t) : lw_P T tc nt tb tr 5 x L u X Xr B t (cp_sw T bag att t x (L, u)) := by
  obtain ⟨p1, p2, p3, p4, p5, p6, p7⟩ := id hp
  have z3 := lw_z3 p4 p6
  have q := sm_wf16 (H.1 t ht).1 hk
  have alt := q.1.2.1
  have blt := q.2.1.2.1
  have cc := sm_zcI H.1 ht z3 q.2.1.1 (by omega) (by omega) (by rw [hk]; rfl)
  have mz : m * sm_zc T tr t = m + m * sm_zc T tr (sm_a (T t)) + m * (sm_zs T tr (sm_a (T t)) + 1) * sm_zc T tr (sm_b (T t)) := by rw [cc, Nat.mul_add, Nat.mul_add, Nat.mul_one, Nat.mul_assoc]
  have cb1 : sm_zc T tr (sm_b (T t)) ≤ (sm_zs T tr (sm_a (T t)) + 1) * sm_zc T tr (sm_b (T t)) := Nat.le_mul_of_pos_left _ (by omega)
  have m' : m * (sm_zs T tr (sm_a (T t)) + 1) = m * sm_zs T tr (sm_a (T t)) + m := Nat.mul_succ ..
  have x32 := p3.2.2.2.1
  have w8 := (H.1 t ht).2.1
  have wb8 := (H.1 (sm_b (T t)) (by omega)).2.1
  have o3 := q.2.2.1
  have ew : sm_w (T t) = if sm_o (T t) < 2 then sm_w (T (sm_a (T t))) + sm_w (T (sm_b (T t))) else sm_w (T (sm_a (T t))) := q.2.2.2.2.1
  have lt := q.2.2.2.2.2
  have sz := sm_sizes H.1 (fun k hk => ⟨(H.2 k hk).1, (H.2 k hk).2.1⟩) t ht z3 (by rw [hk]; rfl)
  have zsA := Nat.mul_le_mul_left m (lw_zsA H ht hk z3)
  have zsA2 : m * (sm_zs T tr (sm_a (T t)) * sm_zc T tr (sm_b (T t))) ≤ m * (sm_zs T tr (sm_a (T t)) + 1) * sm_zc T tr (sm_b (T t)) := by rw [← Nat.mul_assoc]; exact Nat.mul_le_mul_right _ (by omega)
  obtain ⟨s1, K1, R1, u1, h1, h2, h3, h4, h5, h6, h7, h8, h9⟩ := lw_call H (show sm_a (T t) < N by omega) q.1.2.2 (ih _ alt q.1.2.2) (x := x) (m := m) ⟨p1, p2, lw_X_sub p3 (my_or1 lt), p4, p5, by omega, by omega⟩ u
  have W1 := cv_W h2.1 h3
  have apl := lw_apl (x := x) (b := sm_b (T t)) q.2.2.2.1 p3.2.2.2.2 lt
  have apl : ∀ k, k < 32 → (sm_l (T (sm_b (T t)))).testBit k = true → cp_apl x k < x.2.2.1 + sm_w (T (sm_a (T t))) := apl
  rw [cp_sw16 hk]
  unfold cp_apply
  dsimp only
  rw [h1]
  dsimp only
  obtain ⟨c, c1, c2, c3⟩ := lw_ch h2 cv_in_cons h3 apl (by rw [cv_n_cons]; show _ + _ + _ ≤ _; omega) u1
  have kl : (sm_once (R1.map (lw_key (sm_l (T (sm_b (T t)))) (cp_apl x)))).length ≤ R1.length := Nat.le_trans (sm_once_len _) (by rw [List.length_map]; exact Nat.le_refl _)
  obtain ⟨s2, K2, R2, u2, g1, g2, g3, g4, g5, g6, g7, g8, g9⟩ := lw_call H (show sm_b (T t) < N by omega) q.2.1.2.2 (ih _ blt q.2.1.2.2) (x := cp_chX (sm_l (T (sm_b (T t)))) (L ++ K1, u1)) (m := m * (sm_zs T tr (sm_a (T t)) + 1)) ⟨c2, cv_in_cons, c3, by omega, by omega, by omega, by rw [cv_n_cons, cv_n_cons]; show _ + (_ + _) + _ ≤ _; omega⟩ (u1 + (cp_bits (sm_l (T (sm_b (T t))))).length)
  have g1' : bag (sm_b (T t)) (cp_chX (sm_l (T (sm_b (T t)))) (L ++ K1, u1)) (cp_ch (sm_l (T (sm_b (T t)))) s1 (cp_apl x) (L ++ K1, u1)) = _ := g1
  rw [g1']
  have h3' := cv_at_app (cv_at_app h3 [cp_pick s1 (cp_cl (sm_l (T (sm_b (T t)))) (cp_apl x)), cp_uniq (L ++ K1).length]) K2
  rw [List.append_assoc, List.append_assoc] at g2 g3 h3' ⊢
  have n32 := cp_bits_len (l := sm_l (T (sm_b (T t))))
  have ll := cp_cl_len (l := sm_l (T (sm_b (T t)))) (pl := cp_apl x)
  have chw : (cp_chX (sm_l (T (sm_b (T t)))) (L ++ K1, u1)).2.2.1 = (cp_bits (sm_l (T (sm_b (T t))))).length := rfl
  rw [chw] at g2 g3 g6
  have more : x.2.2.1 + sm_w (T (sm_a (T t))) + ex_more (sm_o (T t)) ((cp_bits (sm_l (T (sm_b (T t))))).length + sm_w (T (sm_b (T t)))) (cp_cl (sm_l (T (sm_b (T t)))) (cp_apl x)).length = x.2.2.1 + sm_w (T t) := by
    unfold ex_more
    rw [ew, ll, Nat.add_sub_cancel_left, if_neg (show ¬ sm_o (T t) = 4 by omega)]
    by_cases h : sm_o (T t) < 2
    · rw [if_pos (by omega), if_pos h]; omega
    · rw [if_neg (by omega), if_neg h]; omega
  have prm : (R1.flatMap (ex_join1 (sm_o (T t)) (cp_cl (sm_l (T (sm_b (T t)))) (cp_apl x)) (-2147483648 : Int32) ((cp_bits (sm_l (T (sm_b (T t))))).length + sm_w (T (sm_b (T t)))) R2)).Perm (lw_J Xr fun xr => (sm_S T tb t (lw_E x.2.2.2 xr)).2) := by
    have st1 : (R1.flatMap (ex_join1 (sm_o (T t)) (cp_cl (sm_l (T (sm_b (T t)))) (cp_apl x)) (-2147483648 : Int32) ((cp_bits (sm_l (T (sm_b (T t))))).length + sm_w (T (sm_b (T t)))) R2)).Perm (R1.flatMap fun er => sm_apply (sm_o (T t)) (sm_w (T (sm_b (T t)))) [er] fun _ => (sm_S T tb (sm_b (T t)) (lw_E (cp_apl x) er)).2) := by
      refine sm_flat_perm fun er her => ?_
      have hj := lw_join (k := sm_o (T t)) (wb := sm_w (T (sm_b (T t)))) (v := (-2147483648 : Int32)) (er := er) (κ := lw_key (sm_l (T (sm_b (T t)))) (cp_apl x) er) (n := (cp_bits (sm_l (T (sm_b (T t))))).length) c3.2.1 c3.2.2.1 g4 ll (ex_key_cl fun k k1 k2 => by have := apl k k1 k2; omega) ((sm_once_mem _ _).mpr (List.mem_map.mpr ⟨er, her, rfl⟩)) o3 (fun _ => rfl)
      have eS := lw_key_S (tb := tb) (pl := cp_apl x) (er := er) H.1 (show sm_b (T t) < N by omega)
      have e2 : (cp_chX (sm_l (T (sm_b (T t)))) (L ++ K1, u1)).2.2.2 = cp_rank (sm_l (T (sm_b (T t)))) := rfl
      rw [e2] at hj
      rw [eS] at hj
      exact hj
    refine st1.trans ((h4.flatMap_right _).trans ((lw_J_flatMap (h' := fun xr r => sm_apply (sm_o (T t)) (sm_w (T (sm_b (T t)))) [r] fun _ => (sm_S T tb (sm_b (T t)) (sm_enter r (lw_E x.2.2.2 xr))).2) fun xr hx r hr => ?_).trans (List.Perm.of_eq (lw_J_congr fun xr _ => ?_))))
    · rw [← lw_apply_map o3, lw_enter H.1 (by omega) (p3.2.1 xr hx) p3.2.2.2.2 lt]
    · rw [sm_S_eq H.1 ht, sm_body16 hk]
      show _ = sm_apply (sm_o (T t)) (sm_w (T (sm_b (T t)))) _ _
      rw [sm_apply_flat]
      congr 1
  have rl : (R1.flatMap (ex_join1 (sm_o (T t)) (cp_cl (sm_l (T (sm_b (T t)))) (cp_apl x)) (-2147483648 : Int32) ((cp_bits (sm_l (T (sm_b (T t))))).length + sm_w (T (sm_b (T t)))) R2)).length ≤ m * sm_zs T tr t := by
    rw [prm.length_eq]
    exact Nat.le_trans (lw_J_len fun _ _ => sz.2.2 _) (Nat.mul_le_mul_right _ p5)
  have cel := lw_cells (w := x.2.2.1 + sm_w (T t)) (b := 40) rl (by omega)
  have e := em_join (Z := X) (k := sm_o (T t)) (v := (-2147483648 : Int32)) g2.1 (cv_in_tl (cv_in_tl cv_in_cons)) h3' cv_in_cons g3 (ls := cp_cl (sm_l (T (sm_b (T t)))) (cp_apl x)) (lw_cl_mem apl) (by omega) (by omega) (by omega) rfl (by omega) (by rw [more]; omega) (by rw [more, cv_n_cons, cv_n_cons, cv_n_cons]; show _ + (_ + (_ + _)) + _ ≤ _; omega) (fun _ h => by simp [h])
  rw [more] at e
  refine lw_fin rfl e (fun _ h => h) prm (by rw [List.length_append, List.length_append]; show K1.length + (2 + K2.length) + 6 ≤ _; omega) (by show u2 + 10 ≤ _; omega)
end LW
