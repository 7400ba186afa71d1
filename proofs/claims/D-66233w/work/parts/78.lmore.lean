/-! LAW: more -/
section LW
variable {T : Nat → sm_T} {tc : Nat → Nat} {nt N : Nat} {tb : Nat → List ay_Row} {tr : Nat → Nat}
variable {bag : cp_B} {att : cp_A} {t : Nat} {x : cp_X} {L : List cp_St} {u : Nat} {X : cv_X} {Xr : List ay_Row} {m B : Nat}
theorem lw_more (H : lw_H T tc nt N tb tr) (hN : N ≤ 120) (ht : t < N) (hk : sm_k (T t) = 13) (ih : ∀ s, s < t → sm_sort (sm_k (T s)) = 2 → lw_BC T tc nt tb tr bag s) (iha : lw_AC T tc nt tb tr att (sm_b (T t))) (hp : lw_pre T tc nt tb tr x L X Xr m B t) : lw_P T tc nt tb tr 5 x L u X Xr B t (cp_sw T bag att t x (L, u)) := by
  have q := sm_wf13 (H.1 t ht).1 hk
  have alt := q.1.2.1
  have blt := q.2.1.2.1
  obtain ⟨s1, K1, R1, u1, e', w', fs, K2, u2, g, h1, h2, h3, h4, h5, h6, h7, h8, h9, h10, h11, h12, h13, h14, h15⟩ := lw_beside (u := u) H ht q.1 q.2.1.1 blt (by rw [hk]; rfl) (by omega) (by omega) q.2.2.1 q.2.2.2.2 ih iha hp
  obtain ⟨p1, p2, p3, p4, p5, p6, p7⟩ := id hp
  have z3 := lw_z3 p4 p6
  have x32 := p3.2.2.2.1
  have wa8 := (H.1 (sm_a (T t)) (by omega)).2.1
  have w8 := (H.1 t ht).2.1
  have ew : sm_w (T t) = sm_w (T (sm_a (T t))) + 1 := q.2.2.2.1
  have cc := sm_zcI H.1 ht z3 q.2.1.1 (by omega) (by omega) (by rw [hk]; rfl)
  have cb1 : sm_zc T tr (sm_b (T t)) ≤ (sm_zs T tr (sm_a (T t)) + 1) * sm_zc T tr (sm_b (T t)) := Nat.le_mul_of_pos_left _ (by omega)
  have apl : ∀ k, k < 32 → (sm_l (T (sm_b (T t)))).testBit k = true → cp_apl x k < x.2.2.1 + sm_w (T (sm_a (T t))) := lw_apl (x := x) (b := sm_b (T t)) q.2.2.1 p3.2.2.2.2 q.2.2.2.2
  obtain ⟨r1, r2, r3⟩ := h7 (sm_b (T t) + 1) (by omega) []
  rw [List.append_nil] at r1 r2 r3
  generalize hpp : (cp_wr T (sm_b (T t) + 1) (sm_b (T t)) (cp_apl x) fs).1 = p at r2 r3
  have lm : (R1.map fun er => er ++ g er).length = R1.length := List.length_map ..
  have eW : R1.length * (w' + 1) = R1.length * w' + R1.length := Nat.mul_succ ..
  have es := em_ext (Z := X) (ls := p) (P := fun r => (sm_S T tb (sm_b (T t)) (lw_E (cp_apl x) r)).1) h3.1 cv_in_cons h4 (fun r hr => by
    obtain ⟨er, her, rfl⟩ := List.mem_map.mp hr
    have := r3 er her [] [] (by show 0 + _ + 1 ≤ 256; omega)
    rw [List.append_nil] at this
    rw [lw_E_sub H.1 (by omega) (h11 er her) apl]
    exact this) (by omega) (by rw [cv_n_cons, lm, eW]; show _ + _ + _ ≤ _; omega) (fun _ h => by simp [h])
  have W4 := cv_W h3.1 h4
  have fe : ((R1.map fun er => er ++ g er).map fun r => r ++ [(sm_S T tb (sm_b (T t)) (lw_E (cp_apl x) r)).1]) = R1.map fun er => er ++ g er ++ [(sm_S T tb (sm_b (T t)) (lw_E (cp_apl x) er)).1] := by
    rw [List.map_map]
    refine List.map_congr_left fun er her => ?_
    show (er ++ g er) ++ [(sm_S T tb (sm_b (T t)) (lw_E (cp_apl x) (er ++ g er))).1] = _
    rw [lw_E_sub H.1 (by omega) (h11 er her) apl]
  rw [fe] at es
  have prm : (R1.map fun er => er ++ [(sm_S T tb (sm_b (T t)) (lw_E (cp_apl x) er)).1]).Perm (lw_J Xr fun xr => (sm_S T tb t (lw_E x.2.2.2 xr)).2) := by
    refine (h8.map _).trans (List.Perm.of_eq ?_)
    rw [lw_J_map (h' := fun xr r => r ++ [(sm_S T tb (sm_b (T t)) (sm_enter r (lw_E x.2.2.2 xr))).1]) fun xr hx r _ => ?_]
    · refine lw_J_congr fun xr _ => ?_
      rw [sm_S_eq H.1 ht, sm_body13 hk]
    · rw [lw_enter H.1 (by omega) (p3.2.1 xr hx) p3.2.2.2.2 q.2.2.2.2, List.append_assoc]
  rw [cp_sw13 hk]
  unfold cp_within
  dsimp only
  rw [h1]
  dsimp only
  rw [h2]
  dsimp only
  rw [hpp]
  by_cases hb : x.2.2.1 + sm_w (T (sm_a (T t))) < w'
  · rw [if_pos hb]
    obtain ⟨es1, es2⟩ := es
    have sp : (cp_sp (x.2.2.1 + sm_w (T (sm_a (T t)))) ++ [nI w']).length = x.2.2.1 + sm_w (T (sm_a (T t))) + 1 := by rw [List.length_append, cp_sp_len]; rfl
    have lF : (R1.map fun er => er ++ g er ++ [(sm_S T tb (sm_b (T t)) (lw_E (cp_apl x) er)).1]).length = R1.length := List.length_map ..
    have cF := lw_cells (w := x.2.2.1 + sm_w (T (sm_a (T t))) + 1) (b := 41) h9 (by omega)
    have ep := em_pick (Z := X) (ls := cp_sp (x.2.2.1 + sm_w (T (sm_a (T t)))) ++ [nI w']) es1 cv_in_cons es2 (fun c hc => by
      rcases List.mem_append.mp hc with hc | hc
      · exact cp_sp_mem (show x.2.2.1 + sm_w (T (sm_a (T t))) ≤ w' + 1 by omega) c hc
      · rw [List.mem_singleton] at hc; exact ⟨w', hc, by omega⟩) (by omega) (by rw [sp, lF, cv_n_cons, eW]; show _ + _ + _ ≤ _; omega) (fun _ h => by simp [h])
    rw [sp] at ep
    have g0 : (R1.map fun er => er ++ g er ++ [(sm_S T tb (sm_b (T t)) (lw_E (cp_apl x) er)).1]).map (ex_key (cp_sp (x.2.2.1 + sm_w (T (sm_a (T t)))) ++ [nI w'])) = R1.map fun er => er ++ [(sm_S T tb (sm_b (T t)) (lw_E (cp_apl x) er)).1] := by
      rw [List.map_map]
      refine List.map_congr_left fun er her => ?_
      have hl := h11 er her
      have hl2 := W4 _ (List.mem_map.mpr ⟨er, her, rfl⟩)
      show ex_key (cp_sp (x.2.2.1 + sm_w (T (sm_a (T t)))) ++ [nI w']) (er ++ g er ++ [(sm_S T tb (sm_b (T t)) (lw_E (cp_apl x) er)).1]) = _
      have e1 : ∀ y : ay_Row, ex_key (cp_sp (x.2.2.1 + sm_w (T (sm_a (T t)))) ++ [nI w']) y = ex_key (cp_sp (x.2.2.1 + sm_w (T (sm_a (T t))))) y ++ [y.getD (nI w').toNatClampNeg 0] := fun y => by unfold ex_key; rw [List.map_append]; rfl
      have gv := lw_gd (c := 0) (r := [(sm_S T tb (sm_b (T t)) (lw_E (cp_apl x) er)).1]) hl2
      rw [Nat.add_zero] at gv
      rw [e1, nI_clamp (by omega), gv, List.append_assoc, ex_key_sp (by rw [List.length_append]; omega) (by omega), lw_tk hl]; rfl
    rw [g0] at ep
    rw [List.append_assoc L] at ep
    have := lw_fin (tr := tr) (x := x) (u := u) (t := t) (u2 := u2 + p.length + (cp_sp (x.2.2.1 + sm_w (T (sm_a (T t)))) ++ [nI w']).length) (by rw [ew, ← Nat.add_assoc]) ep (fun _ h => h) prm (by rw [List.length_append]; show _ + 1 + 6 ≤ _; omega) (by rw [sp]; omega)
    rw [← List.append_assoc L] at this
    have el : ((L ++ (K1 ++ K2)) ++ [cp_ext e' p]).length = (L ++ (K1 ++ K2)).length + 1 := by rw [List.length_append (as := L ++ (K1 ++ K2))]; rfl
    rw [el] at this
    exact this
  · rw [if_neg hb]
    have e0 : w' = x.2.2.1 + sm_w (T (sm_a (T t))) := by omega
    have g0 : (R1.map fun er => er ++ g er ++ [(sm_S T tb (sm_b (T t)) (lw_E (cp_apl x) er)).1]) = R1.map fun er => er ++ [(sm_S T tb (sm_b (T t)) (lw_E (cp_apl x) er)).1] := by
      refine List.map_congr_left fun er hm => ?_
      have := W4 _ (List.mem_map.mpr ⟨er, hm, rfl⟩)
      rw [List.length_append, h11 er hm, e0] at this
      have : g er = [] := List.eq_nil_of_length_eq_zero (by omega)
      rw [this, List.append_nil]
    rw [g0, e0] at es
    exact lw_fin (by rw [ew, ← Nat.add_assoc]) es (fun _ h => h) prm (by omega) (by show u2 + p.length + 10 ≤ _; omega)
end LW
