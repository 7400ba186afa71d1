/-! LAW: filter and more -/
section LW
variable {T : Nat → sm_T} {tc : Nat → Nat} {nt N : Nat} {tb : Nat → List ay_Row} {tr : Nat → Nat}
variable {bag : cp_B} {att : cp_A} {t : Nat} {x : cp_X} {L : List cp_St} {u : Nat} {X : cv_X} {Xr : List ay_Row} {m B : Nat}
/-- the first part, and what is asked beside its rows -/
theorem lw_beside (H : lw_H T tc nt N tb tr) (ht : t < N) (ka : sm_pa T t 2) (hb : (T t).2.2.2.1 = some (sm_b (T t))) (blt : sm_b (T t) < t) (hin : sm_inside (sm_k (T t)) = true) (hk1 : 1 < sm_k (T t)) (hk2 : sm_k (T t) ≠ 11) (fits : sm_fits T t) (lt : sm_l (T t) = sm_lA T t ||| sm_lB T t >>> 8) (ih : ∀ s, s < t → sm_sort (sm_k (T s)) = 2 → lw_BC T tc nt tb tr bag s) (iha : lw_AC T tc nt tb tr att (sm_b (T t))) (hp : lw_pre T tc nt tb tr x L X Xr m B t) :
    ∃ s1 K1 R1 u1 e' w' fs K2 u2 g, bag (sm_a (T t)) x (L, u) = (s1, (L ++ K1, u1)) ∧ att (sm_b (T t)) s1 (x.2.2.1 + sm_w (T (sm_a (T t)))) (cp_apl x) (L ++ K1, u1) = ((e', w', fs), (L ++ (K1 ++ K2), u2)) ∧ lw_I tc nt tb (L ++ (K1 ++ K2)) ((e', R1.length * w') :: X) B ∧ cv_at tc tb (L ++ (K1 ++ K2)) e' w' (R1.map fun er => er ++ g er) ∧ x.2.2.1 + sm_w (T (sm_a (T t))) ≤ w' ∧ w' ≤ x.2.2.1 + sm_w (T (sm_a (T t))) + 3 * sm_zc T tr (sm_b (T t)) ∧ lw_prog T tb tr (sm_b (T t)) (cp_apl x) fs R1 g u1 u2 ∧ R1.Perm (lw_J Xr fun xr => (sm_S T tb (sm_a (T t)) (lw_E x.2.2.2 xr)).2) ∧ R1.length ≤ m * sm_zs T tr (sm_a (T t)) ∧ R1.length * w' ≤ 40 * (m * sm_zs T tr (sm_a (T t))) + 3 * (m * (sm_zs T tr (sm_a (T t)) + 1) * sm_zc T tr (sm_b (T t))) ∧ sl_W (x.2.2.1 + sm_w (T (sm_a (T t)))) R1 ∧ m * sm_zs T tr (sm_a (T t)) ≤ m * sm_zc T tr (sm_a (T t)) ∧ (K1 ++ K2).length + 8 ≤ 10 * sm_zc T tr (sm_a (T t)) + 10 * sm_zc T tr (sm_b (T t)) ∧ u1 + 10 ≤ u + 174 * sm_zc T tr (sm_a (T t)) ∧ m * sm_zc T tr t = m + m * sm_zc T tr (sm_a (T t)) + m * (sm_zs T tr (sm_a (T t)) + 1) * sm_zc T tr (sm_b (T t)) := by
  obtain ⟨p1, p2, p3, p4, p5, p6, p7⟩ := id hp
  have z3 := lw_z3 p4 p6
  have alt := ka.2.1
  have cc := sm_zcI H.1 ht z3 hb hk1 hk2 hin
  have mz : m * sm_zc T tr t = m + m * sm_zc T tr (sm_a (T t)) + m * (sm_zs T tr (sm_a (T t)) + 1) * sm_zc T tr (sm_b (T t)) := by rw [cc, Nat.mul_add, Nat.mul_add, Nat.mul_one, Nat.mul_assoc]
  have cb1 : sm_zc T tr (sm_b (T t)) ≤ (sm_zs T tr (sm_a (T t)) + 1) * sm_zc T tr (sm_b (T t)) := Nat.le_mul_of_pos_left _ (by omega)
  have m' : m * (sm_zs T tr (sm_a (T t)) + 1) = m * sm_zs T tr (sm_a (T t)) + m := Nat.mul_succ ..
  have x32 := p3.2.2.2.1
  have wa8 := (H.1 (sm_a (T t)) (by omega)).2.1
  obtain ⟨s1, K1, R1, u1, h1, h2, h3, h4, h5, h6, h7, h8, h9⟩ := lw_call H (show sm_a (T t) < N by omega) ka.2.2 (ih _ alt ka.2.2) (x := x) (m := m) ⟨p1, p2, lw_X_sub p3 (my_or1 lt), p4, p5, by omega, by omega⟩ u
  have W1 := cv_W h2.1 h3
  have apl : ∀ k, k < 32 → (sm_l (T (sm_b (T t)))).testBit k = true → cp_apl x k < x.2.2.1 + sm_w (T (sm_a (T t))) := lw_apl (x := x) (b := sm_b (T t)) fits p3.2.2.2.2 lt
  obtain ⟨e', w', fs, K2, u2, g, g1, g2, g3, g4, g5, g6, g7⟩ := iha s1 (x.2.2.1 + sm_w (T (sm_a (T t)))) (cp_apl x) (L ++ K1) u1 X R1 (m * (sm_zs T tr (sm_a (T t)) + 1)) B h2 p1.2.1 h3 apl (by omega) (by omega) (by omega) (by omega) (by omega)
  rw [List.append_assoc] at g1 g2 g3
  refine ⟨s1, K1, R1, u1, e', w', fs, K2, u2, g, h1, g1, g2, g3, g4, g5, g6, h4, h5, ?_, W1, h7, by rw [List.length_append]; omega, h9, mz⟩
  have e1 : R1.length * w' ≤ R1.length * (x.2.2.1 + sm_w (T (sm_a (T t))) + 3 * sm_zc T tr (sm_b (T t))) := Nat.mul_le_mul_left _ g5
  have e2 : R1.length * (3 * sm_zc T tr (sm_b (T t))) ≤ m * (sm_zs T tr (sm_a (T t)) + 1) * (3 * sm_zc T tr (sm_b (T t))) := Nat.mul_le_mul_right _ (by omega)
  have e3 : m * (sm_zs T tr (sm_a (T t)) + 1) * (3 * sm_zc T tr (sm_b (T t))) = 3 * (m * (sm_zs T tr (sm_a (T t)) + 1) * sm_zc T tr (sm_b (T t))) := Nat.mul_left_comm ..
  rw [Nat.mul_add] at e1
  omega
theorem lw_filter (H : lw_H T tc nt N tb tr) (hN : N ≤ 120) (ht : t < N) (hk : sm_k (T t) = 12) (ih : ∀ s, s < t → sm_sort (sm_k (T s)) = 2 → lw_BC T tc nt tb tr bag s) (iha : lw_AC T tc nt tb tr att (sm_b (T t))) (hp : lw_pre T tc nt tb tr x L X Xr m B t) : lw_P T tc nt tb tr 5 x L u X Xr B t (cp_sw T bag att t x (L, u)) := by
  have q := sm_wf12 (H.1 t ht).1 hk
  have alt := q.1.2.1
  have blt := q.2.1.2.1
  obtain ⟨s1, K1, R1, u1, e', w', fs, K2, u2, g, h1, h2, h3, h4, h5, h6, h7, h8, h9, h10, h11, h12, h13, h14, h15⟩ := lw_beside (u := u) H ht q.1 q.2.1.1 blt (by rw [hk]; rfl) (by omega) (by omega) q.2.2.1 q.2.2.2.2 ih iha hp
  obtain ⟨p1, p2, p3, p4, p5, p6, p7⟩ := id hp
  have z3 := lw_z3 p4 p6
  have x32 := p3.2.2.2.1
  have wa8 := (H.1 (sm_a (T t)) (by omega)).2.1
  have ew : sm_w (T t) = sm_w (T (sm_a (T t))) := q.2.2.2.1
  have cc := sm_zcI H.1 ht z3 q.2.1.1 (by omega) (by omega) (by rw [hk]; rfl)
  have cb1 : sm_zc T tr (sm_b (T t)) ≤ (sm_zs T tr (sm_a (T t)) + 1) * sm_zc T tr (sm_b (T t)) := Nat.le_mul_of_pos_left _ (by omega)
  have apl : ∀ k, k < 32 → (sm_l (T (sm_b (T t)))).testBit k = true → cp_apl x k < x.2.2.1 + sm_w (T (sm_a (T t))) := lw_apl (x := x) (b := sm_b (T t)) q.2.2.1 p3.2.2.2.2 q.2.2.2.2
  obtain ⟨r1, r2, r3⟩ := h7 (sm_b (T t) + 1) (by omega) []
  rw [List.append_nil] at r1 r2 r3
  generalize hpp : (cp_wr T (sm_b (T t) + 1) (sm_b (T t)) (cp_apl x) fs).1 = p at r2 r3
  have lm : (R1.map fun er => er ++ g er).length = R1.length := List.length_map ..
  have es := em_sel (Z := X) (ls := p) (P := fun r => (sm_S T tb (sm_b (T t)) (lw_E (cp_apl x) r)).1) h3.1 cv_in_cons h4 (fun r hr => by
    obtain ⟨er, her, rfl⟩ := List.mem_map.mp hr
    have := r3 er her [] [] (by show 0 + _ + 1 ≤ 256; omega)
    rw [List.append_nil] at this
    rw [lw_E_sub H.1 (by omega) (h11 er her) apl]
    exact this) (by rw [cv_n_cons, lm]; show _ + _ + _ ≤ _; omega) (fun _ h => by simp [h])
  have W4 := cv_W h3.1 h4
  have fe : ((R1.map fun er => er ++ g er).filter fun r => (sm_S T tb (sm_b (T t)) (lw_E (cp_apl x) r)).1 == 1) = (R1.filter fun er => (sm_S T tb (sm_b (T t)) (lw_E (cp_apl x) er)).1 == 1).map fun er => er ++ g er := by
    rw [List.filter_map]
    congr 1
    refine List.filter_congr fun er her => ?_
    show ((sm_S T tb (sm_b (T t)) (lw_E (cp_apl x) (er ++ g er))).1 == 1) = _
    rw [lw_E_sub H.1 (by omega) (h11 er her) apl]
  rw [fe] at es
  have prm : (R1.filter fun er => (sm_S T tb (sm_b (T t)) (lw_E (cp_apl x) er)).1 == 1).Perm (lw_J Xr fun xr => (sm_S T tb t (lw_E x.2.2.2 xr)).2) := by
    refine (h8.filter _).trans (List.Perm.of_eq ?_)
    rw [lw_J_filter]
    refine lw_J_congr fun xr hx => ?_
    rw [sm_S_eq H.1 ht, sm_body12 hk]
    refine List.filter_congr fun r _ => ?_
    rw [lw_enter H.1 (by omega) (p3.2.1 xr hx) p3.2.2.2.2 q.2.2.2.2]
  have fl : (R1.filter fun er => (sm_S T tb (sm_b (T t)) (lw_E (cp_apl x) er)).1 == 1).length ≤ R1.length := List.length_filter_le _ _
  generalize hF : (R1.filter fun er => (sm_S T tb (sm_b (T t)) (lw_E (cp_apl x) er)).1 == 1) = F at *
  have WF : sl_W (x.2.2.1 + sm_w (T (sm_a (T t)))) F := by rw [← hF]; exact sl_W_sub h11 fun r hr => (List.mem_filter.mp hr).1
  rw [cp_sw12 hk]
  unfold cp_within
  dsimp only
  rw [h1]
  dsimp only
  rw [h2]
  dsimp only
  rw [hpp]
  by_cases hb : x.2.2.1 + sm_w (T (sm_a (T t))) < w'
  · rw [if_pos hb]
    obtain ⟨es1, es2⟩ := es
    have sp := cp_sp_len (x.2.2.1 + sm_w (T (sm_a (T t))))
    have lF : (F.map fun er => er ++ g er).length = F.length := List.length_map ..
    have cF := lw_cells (w := x.2.2.1 + sm_w (T (sm_a (T t)))) (b := 40) (Nat.le_trans fl h9) (by omega)
    have cF2 : F.length * w' ≤ R1.length * w' := Nat.mul_le_mul_right _ fl
    have ep := em_pick (Z := X) (ls := cp_sp (x.2.2.1 + sm_w (T (sm_a (T t))))) es1 cv_in_cons es2 (cp_sp_mem (by omega)) (by omega) (by rw [sp, lF, cv_n_cons]; show _ + _ + _ ≤ _; omega) (fun _ h => by simp [h])
    rw [sp] at ep
    have g0 : (F.map fun er => er ++ g er).map (ex_key (cp_sp (x.2.2.1 + sm_w (T (sm_a (T t)))))) = F := by
      rw [List.map_map]
      have : ∀ er, er ∈ F → ex_key (cp_sp (x.2.2.1 + sm_w (T (sm_a (T t))))) (er ++ g er) = er := fun er her => by
        have hl := WF er her
        rw [ex_key_sp (by rw [List.length_append]; omega) (by omega), lw_tk hl]
      have e2 := List.map_congr_left this
      rw [List.map_id'] at e2
      exact e2
    rw [g0] at ep
    rw [List.append_assoc L] at ep
    have := lw_fin (tr := tr) (x := x) (u := u) (t := t) (u2 := u2 + p.length + (cp_sp (x.2.2.1 + sm_w (T (sm_a (T t))))).length) (by rw [ew]) ep (fun _ h => h) prm (by rw [List.length_append]; show _ + 1 + 6 ≤ _; omega) (by rw [sp]; omega)
    rw [← List.append_assoc L] at this
    have el : ((L ++ (K1 ++ K2)) ++ [cp_sel e' p]).length = (L ++ (K1 ++ K2)).length + 1 := by rw [List.length_append (as := L ++ (K1 ++ K2))]; rfl
    rw [el] at this
    exact this
  · rw [if_neg hb]
    have e0 : w' = x.2.2.1 + sm_w (T (sm_a (T t))) := by omega
    have g0 : (F.map fun er => er ++ g er) = F := by
      have : ∀ er, er ∈ F → er ++ g er = er := fun er her => by
        have hm : er ∈ R1 := by rw [← hF] at her; exact (List.mem_filter.mp her).1
        have := W4 _ (List.mem_map.mpr ⟨er, hm, rfl⟩)
        rw [List.length_append, h11 er hm, e0] at this
        have : g er = [] := List.eq_nil_of_length_eq_zero (by omega)
        rw [this, List.append_nil]
      rw [List.map_congr_left this, List.map_id']
    rw [g0, e0] at es
    exact lw_fin (by rw [ew]) es (fun _ h => h) prm (by omega) (by show u2 + p.length + 10 ≤ _; omega)
end LW
