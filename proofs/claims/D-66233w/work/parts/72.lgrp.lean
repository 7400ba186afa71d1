/-! LAW: folds and groups -/
theorem lw_no {k : Nat} (hk : k ≤ 5) : sm_fold k [] = cp_no k := by
  have o : k = 0 ∨ k = 1 ∨ k = 2 ∨ k = 3 ∨ k = 4 ∨ k = 5 := by omega
  rcases o with rfl | rfl | rfl | rfl | rfl | rfl <;> rfl
theorem lw_flat_congr {α β : Type} {l : List α} {f g : α → List β} (h : ∀ x, x ∈ l → f x = g x) : l.flatMap f = l.flatMap g := by
  induction l with
  | nil => rfl
  | cons x l ih => rw [List.flatMap_cons, List.flatMap_cons, h x (by simp), ih fun y hy => h y (by simp [hy])]
section LW
variable {T : Nat → sm_T} {tc : Nat → Nat} {nt N : Nat} {tb : Nat → List ay_Row} {tr : Nat → Nat}
variable {bag : cp_B} {att : cp_A} {t : Nat} {x : cp_X} {L : List cp_St} {u : Nat} {X : cv_X} {Xr : List ay_Row} {m B : Nat}
theorem lw_fold {s w n mp k c cs : Nat} {R : List ay_Row} {f : ay_Row → List ay_Row} {ls : List Int32} {pk : ay_Row → ay_Row} (hI : lw_I tc nt tb L ((s, cs) :: X) B) (hz : (0, 0) ∈ X) (ha : cv_at tc tb L s w R) (hR : R.Perm (lw_J Xr f)) (hW : sl_W n Xr) (hN : Xr.Nodup) (hl : ∀ c, c ∈ ls → ∃ j, c = nI j ∧ j < w) (hll : ls.length = n + mp) (h200 : n + mp < 200) (hkey : ∀ x, x ∈ Xr → ∀ r, r ∈ f x → ex_key ls (x ++ r) = x ++ pk r) (hpk : ∀ x, x ∈ Xr → ∀ r, r ∈ f x → (pk r).length = mp) (hk : k ≤ 5) (hc : n + c < w) (hB : cv_n X + cs + 2 * (R.length * (ls.length + 1)) ≤ B) :
    ∃ s2 K G u', cp_fold s ls k (n + c) (L, u) = (s2, (L ++ K, u')) ∧ lw_I tc nt tb (L ++ K) ((s2, G.length * (ls.length + 1)) :: X) B ∧ cv_at tc tb (L ++ K) s2 (ls.length + 1) G ∧ G.Perm (lw_J Xr fun x => lw_grp k c pk (f x)) ∧ G.length ≤ R.length ∧ K.length ≤ 3 ∧ u' ≤ u + (ls.length + 1) + ls.length := by
  have hw := (cv_w hI.1 ha).2
  have gl : ∀ {ls : List Int32} {k c : Nat} {R : List ay_Row}, (ex_gath ls k c R).length ≤ R.length := fun {ls k c R} => by
    unfold ex_gath
    rw [List.length_map]
    exact Nat.le_trans (sm_once_len _) (by rw [List.length_map]; exact Nat.le_refl _)
  unfold cp_fold
  by_cases h5 : k < 5
  · rw [if_pos h5]
    obtain ⟨e, a⟩ := em_gath (Z := X) hI.1 cv_in_cons ha hl (by omega) (show k ≤ 4 by omega) hc (by rw [cv_n_cons]; show _ + _ + _ ≤ _; omega) (fun _ h => by simp [h])
    exact ⟨_, _, _, _, rfl, lw_I_mv hI e (by simp [hz]), a, lw_gath hW hN hR hkey, gl, by show 1 ≤ 3; omega, by show u ≤ _; omega⟩
  · rw [if_neg h5]
    have k5 : k = 5 := by omega
    subst k5
    have ll1 : (ls ++ [nI (n + c)]).length = ls.length + 1 := by rw [List.length_append]; rfl
    obtain ⟨e1, a1⟩ := em_pick (Z := X) (ls := ls ++ [nI (n + c)]) hI.1 cv_in_cons ha (fun d hd => by
      rcases List.mem_append.mp hd with hd | hd
      · exact hl d hd
      · rw [List.mem_singleton] at hd; exact ⟨n + c, hd, hc⟩) (by omega) (by rw [ll1, cv_n_cons]; show _ + _ + _ ≤ _; omega) (fun _ h => by simp [h])
    rw [ll1] at e1 a1
    have lm : (R.map (ex_key (ls ++ [nI (n + c)]))).length = R.length := List.length_map ..
    have ol := sm_once_len (R.map (ex_key (ls ++ [nI (n + c)])))
    have olw : (sm_once (R.map (ex_key (ls ++ [nI (n + c)])))).length * (ls.length + 1) ≤ R.length * (ls.length + 1) := Nat.mul_le_mul_right _ (by omega)
    obtain ⟨e2, a2⟩ := em_uniq (Z := X) e1 cv_in_cons a1 (by omega) (by rw [cv_n_cons, lm]; show _ + _ + _ ≤ _; omega) (fun _ h => by simp [h])
    have hR2 : (sm_once (R.map (ex_key (ls ++ [nI (n + c)])))).Perm (lw_J Xr fun x => sm_once ((f x).map fun r => pk r ++ [r.getD c 0])) := by
      refine (sm_once_perm (hR.map _)).trans ?_
      rw [lw_J_map (h' := fun _ r => pk r ++ [r.getD c 0]) fun x hx r hr => ?_]
      · exact lw_J_once hW hN
      · have : ex_key (ls ++ [nI (n + c)]) (x ++ r) = ex_key ls (x ++ r) ++ [(x ++ r).getD (nI (n + c)).toNatClampNeg 0] := by unfold ex_key; rw [List.map_append]; rfl
        rw [this, hkey x hx r hr, nI_clamp (by omega), lw_gd (hW x hx), List.append_assoc]
    have sp := cp_sp_len ls.length
    obtain ⟨e3, a3⟩ := em_gath (Z := X) (k := 1) (c := ls.length) (ls := cp_sp ls.length) e2 cv_in_cons a2 (cp_sp_mem (by omega)) (by omega) (by omega) (by omega) (by rw [sp, cv_n_cons]; show _ + _ + _ ≤ _; omega) (fun _ h => by simp [h])
    rw [sp] at e3 a3
    rw [List.append_assoc, List.append_assoc] at e3 a3
    rw [List.length_append, List.length_append] at e3 a3
    refine ⟨_, _, ex_gath (cp_sp ls.length) 1 ls.length (sm_once (R.map (ex_key (ls ++ [nI (n + c)])))), _, rfl, ?_, ?_, ?_, Nat.le_trans gl (by omega), by show 3 ≤ 3; omega, Nat.le_refl _⟩
    · exact lw_I_mv hI (K := [cp_pick s (ls ++ [nI (n + c)]), cp_uniq L.length, cp_gath (L.length + 1) (cp_sp ls.length) 1 (nI ls.length)]) (by rw [List.length_append] at e3; exact e3) (by simp [hz])
    · rw [List.length_append] at a3; exact a3
    · have key2 : ∀ x, x ∈ Xr → ∀ r, r ∈ sm_once ((f x).map fun r => pk r ++ [r.getD c 0]) → ex_key (cp_sp ls.length) (x ++ r) = x ++ r.take mp := fun x hx r hr => by
        rw [sm_once_mem, List.mem_map] at hr
        obtain ⟨r', hr', rfl⟩ := hr
        have lx := hW x hx
        have lp := hpk x hx r' hr'
        rw [hll, ex_key_sp (by simp only [List.length_append, List.length_cons, List.length_nil]; omega) (by omega), lw_tk lp, ← List.append_assoc, List.take_append_of_le_length (by rw [List.length_append]; omega), List.take_of_length_le (by rw [List.length_append]; omega)]
      have := lw_gath (k := 1) (c := mp) hW hN hR2 key2
      rw [hll]
      rw [hll] at this
      refine this.trans (lw_J_perm (List.Perm.refl _) fun x hx => ?_)
      exact lw_grp5 (hpk x hx) (List.Perm.refl _)
theorem lw_groups (H : lw_H T tc nt N tb tr) (ht : t < N) (hk : sm_k (T t) = 20) (ih : ∀ s, s < t → sm_sort (sm_k (T s)) = 2 → lw_BC T tc nt tb tr bag s) (hp : lw_pre T tc nt tb tr x L X Xr m B t) : lw_P T tc nt tb tr 5 x L u X Xr B t (cp_sw T bag att t x (L, u)) := by
  obtain ⟨p1, p2, p3, p4, p5, p6, p7⟩ := hp
  have z3 := lw_z3 p4 p6
  have q := sm_wf20 (H.1 t ht).1 hk
  obtain ⟨g, gl1, gl2, gl3, gl4⟩ := q.2.2.2.2.2
  have alt := q.1.2.1
  have cc := sm_zc1 H.1 ht z3 q.2.1 (by omega) (by omega) (by rw [hk]; rfl) (by omega)
  have mz : m * sm_zc T tr t = m + m * sm_zc T tr (sm_a (T t)) := by rw [cc, Nat.mul_add, Nat.mul_one]
  have x32 := p3.2.2.2.1
  have w8 := (H.1 t ht).2.1
  have wa8 := (H.1 (sm_a (T t)) (by omega)).2.1
  have zp := sm_zc_pos (tr := tr) H.1 (show sm_a (T t) < N by omega)
  have hcA : sm_c (T t) < sm_w (T (sm_a (T t))) := q.2.2.2.1
  have gl1 : g < 2 ^ sm_w (T (sm_a (T t))) := gl1
  obtain ⟨s1, K1, R1, u1, h1, h2, h3, h4, h5, h6, h7, h8, h9⟩ := lw_call H (show sm_a (T t) < N by omega) q.1.2.2 (ih _ alt q.1.2.2) (x := x) (m := m) ⟨p1, p2, lw_X_sub p3 (fun k h => by rw [q.2.2.2.2.1]; exact h), p4, p5, by omega, by omega⟩ u
  have ksw : ∀ c, c ∈ sm_ks (nI g) → c < sm_w (T (sm_a (T t))) := fun c hc => by
    unfold sm_ks at hc
    rw [List.mem_filter, List.mem_range] at hc
    exact my_bit_w gl1 wa8 hc.1 hc.2
  have ll : (cp_sp x.2.2.1 ++ (sm_ks (nI g)).map fun c => nI (x.2.2.1 + c)).length = x.2.2.1 + (sm_ks (nI g)).length := by rw [List.length_append, cp_sp_len, List.length_map]
  have cel : R1.length * (x.2.2.1 + (sm_ks (nI g)).length + 1) ≤ 40 * (m * sm_zs T tr (sm_a (T t))) := lw_cells h5 (by omega)
  rw [cp_sw20 hk]
  unfold cp_groups
  dsimp only
  rw [h1, gl3]
  dsimp only
  obtain ⟨s2, K2, G, u2, g1, g2, g3, g4, g5, g6, g7⟩ := lw_fold (u := u1 + x.2.2.1 + (sm_ks (nI g)).length) (mp := (sm_ks (nI g)).length) (k := sm_o (T t)) (c := sm_c (T t)) (pk := sm_pick (sm_ks (nI g))) h2 p1.2.1 h3 h4 p3.2.1 p3.2.2.1 (lw_cols ksw) ll (by omega) (fun xr hx r _ => lw_key_app (p3.2.1 xr hx) (by omega) fun c hc => by have := ksw c hc; omega) (fun _ _ r _ => by unfold sm_pick; rw [List.length_map]) q.2.2.1 (by omega) (by rw [ll]; omega)
  rw [g1]
  rw [ll] at g2 g3 g7
  rw [List.append_assoc] at g2 g3 ⊢
  have body : ∀ xr, (sm_S T tb t (lw_E x.2.2.2 xr)).2 = sm_groups (nI g) (sm_o (T t)) (sm_c (T t)) (sm_S T tb (sm_a (T t)) (lw_E x.2.2.2 xr)).2 := fun xr => by rw [sm_S_eq H.1 ht, sm_body20 hk, gl3]
  have Gm : G.length * (x.2.2.1 + (sm_ks (nI g)).length + 1) ≤ 40 * (m * sm_zs T tr (sm_a (T t))) := lw_cells (by omega) (by omega)
  by_cases k0 : sm_ks (nI g) = []
  · rw [if_pos k0]
    rw [k0] at g2 g3 g4 gl4 Gm g7
    simp only [List.length_nil, Nat.add_zero, Nat.zero_add] at g2 g3 gl4 Gm g7
    have sp := cp_sp_len x.2.2.1
    have more : ex_more 1 (x.2.2.1 + 1) (cp_sp x.2.2.1).length = 1 := by unfold ex_more; rw [if_pos (by omega), sp, Nat.add_sub_cancel_left]
    have eR : Xr.flatMap (ex_join1 1 (cp_sp x.2.2.1) (cp_no (sm_o (T t))) (x.2.2.1 + 1) G) = lw_J Xr fun xr => (sm_S T tb t (lw_E x.2.2.2 xr)).2 := by
      unfold lw_J
      refine lw_flat_congr fun xr hx => ?_
      have hj := lw_join1 (n := x.2.2.1) (wr := x.2.2.1 + 1) (ls := cp_sp x.2.2.1) (v := cp_no (sm_o (T t))) (a := sm_fold (sm_o (T t)) (sm_at (sm_c (T t)) (sm_S T tb (sm_a (T t)) (lw_E x.2.2.2 xr)).2)) (er := xr) (κ := xr) p3.2.1 p3.2.2.1 g4 sp rfl (by rw [ex_key_sp (by rw [p3.2.1 xr hx]; exact Nat.le_refl _) (by omega), List.take_of_length_le (by rw [p3.2.1 xr hx]; exact Nat.le_refl _)]) hx (by
        have e0 : sm_pick ([] : List Nat) = fun _ => [] := rfl
        rw [e0, lw_grp0]
        by_cases hf : (sm_S T tb (sm_a (T t)) (lw_E x.2.2.2 xr)).2 = []
        · rw [if_pos hf, hf]; exact Or.inl ⟨rfl, lw_no q.2.2.1⟩
        · rw [if_neg hf]; exact Or.inr rfl)
      rw [hj]
      dsimp only
      rw [body xr]
      unfold sm_groups
      rw [if_pos k0]; rfl
    have rl : (lw_J Xr fun xr => (sm_S T tb t (lw_E x.2.2.2 xr)).2).length ≤ m := by
      refine Nat.le_trans (lw_J_len (b := 1) fun xr _ => ?_) (by omega)
      rw [body xr]
      unfold sm_groups
      rw [if_pos k0]; exact Nat.le_refl _
    have cel2 := lw_cells (w := x.2.2.1 + 1) (b := 40) rl (by omega)
    have p3' := cv_at_app p3.1 (K1 ++ K2)
    have m3 : m ≤ 3000 := by
      have : m * 1 ≤ m * sm_zc T tr t := Nat.mul_le_mul_left _ (by omega)
      omega
    have e := em_join (Z := X) (k := 1) (v := cp_no (sm_o (T t))) g2.1 (cv_in_tl p2) p3' cv_in_cons g3 (ls := cp_sp x.2.2.1) (cp_sp_mem (by omega)) (by omega) (by omega) (by omega) eR (by omega) (by rw [more]; omega) (by rw [more, cv_n_cons]; show _ + _ + _ ≤ _; omega) (fun _ h => by simp [h])
    rw [more] at e
    exact lw_fin (by rw [gl4]) e (fun _ h => h) (List.Perm.refl _) (by rw [List.length_append]; omega) (by show u2 + x.2.2.1 + 10 ≤ _; omega)
  · rw [if_neg k0]
    refine ⟨K1 ++ K2, G, rfl, ?_, ?_, ?_, by rw [List.length_append]; omega, by show u2 + 10 ≤ _; omega⟩
    · rw [gl4, ← Nat.add_assoc]; exact g2.1
    · rw [gl4, ← Nat.add_assoc]; exact g3
    · refine g4.trans (List.Perm.of_eq (lw_J_congr fun xr _ => ?_))
      rw [body xr]
      unfold sm_groups lw_grp
      rw [if_neg k0]
end LW
