/-! LAW: questions: fold, has -/
section LW
variable {T : Nat → sm_T} {tc : Nat → Nat} {nt N : Nat} {tb : Nat → List ay_Row} {tr : Nat → Nat}
variable {bag : cp_B} {att : cp_A} {t : Nat}
abbrev lw_ks (l : Nat) (pl : Nat → Nat) (E : List ay_Row) : List ay_Row := sm_once (E.map (lw_key l pl))
theorem lw_ks_mem {l : Nat} {pl : Nat → Nat} {E : List ay_Row} {er : ay_Row} (h : er ∈ E) : lw_key l pl er ∈ lw_ks l pl E := (sm_once_mem _ _).mpr (List.mem_map.mpr ⟨er, h, rfl⟩)
/-- a bag is asked for each key of some rows -/
theorem lw_ask {s e w m B : Nat} {pl : Nat → Nat} {L : List cp_St} {Y : cv_X} {E : List ay_Row} (H : lw_H T tc nt N tb tr) (hs : s < N) (hk : sm_sort (sm_k (T s)) = 2) (ih : lw_BC T tc nt tb tr bag s) (hI : lw_I tc nt tb L ((e, E.length * w) :: Y) B) (ha : cv_at tc tb L e w E) (hpl : ∀ k, k < 32 → (sm_l (T s)).testBit k = true → pl k < w) (hm : 1 ≤ m) (hE : E.length ≤ m) (hmz : m * sm_zc T tr s ≤ 3000) (hB : cv_n Y + E.length * w + 64 * m + 150 * (m * sm_zc T tr s) ≤ B) (u : Nat) :
    ∃ s' q c K R u', bag s (cp_chX (sm_l (T s)) (L, u)) (cp_ch (sm_l (T s)) e pl (L, u)) = (s', (L ++ K, u')) ∧ c ≤ 32 * m ∧ lw_I tc nt tb (L ++ K) ((s', R.length * ((cp_bits (sm_l (T s))).length + sm_w (T s))) :: (q, c) :: (e, E.length * w) :: Y) B ∧ cv_at tc tb (L ++ K) s' ((cp_bits (sm_l (T s))).length + sm_w (T s)) R ∧ cv_at tc tb (L ++ K) e w E ∧ R.Perm (lw_J (lw_ks (sm_l (T s)) pl E) fun κ => (sm_S T tb s (lw_E (cp_rank (sm_l (T s))) κ)).2) ∧ R.length ≤ m * sm_zs T tr s ∧ R.length * ((cp_bits (sm_l (T s))).length + sm_w (T s)) ≤ 40 * (m * sm_zs T tr s) ∧ m * sm_zs T tr s ≤ m * sm_zc T tr s ∧ K.length + 2 ≤ 10 * sm_zc T tr s ∧ u' + 10 ≤ u + (cp_bits (sm_l (T s))).length + 174 * sm_zc T tr s ∧ sl_W (cp_bits (sm_l (T s))).length (lw_ks (sm_l (T s)) pl E) ∧ (lw_ks (sm_l (T s)) pl E).Nodup := by
  obtain ⟨c, c1, c2, c3⟩ := lw_ch (L := L) hI cv_in_cons ha hpl (by rw [cv_n_cons]; show _ + _ + _ ≤ _; omega) u
  have kl : (lw_ks (sm_l (T s)) pl E).length ≤ E.length := Nat.le_trans (sm_once_len _) (by rw [List.length_map]; exact Nat.le_refl _)
  obtain ⟨s2, K2, R2, u2, g1, g2, g3, g4, g5, g6, g7, g8, g9⟩ := lw_call H hs hk ih (x := cp_chX (sm_l (T s)) (L, u)) (Xr := lw_ks (sm_l (T s)) pl E) (m := m) ⟨c2, cv_in_cons, c3, hm, by omega, hmz, by rw [cv_n_cons, cv_n_cons]; show _ + (_ + _) + _ ≤ _; omega⟩ (u + (cp_bits (sm_l (T s))).length)
  have ha' := cv_at_app (cv_at_app ha [cp_pick e (cp_cl (sm_l (T s)) pl), cp_uniq L.length]) K2
  rw [List.append_assoc] at g1 g2 g3 ha'
  exact ⟨s2, _, c, _, R2, u2, g1, by omega, g2, g3, ha', g4, g5, g6, g7, by rw [List.length_append]; show 2 + K2.length + 2 ≤ _; omega, g9, c3.2.1, c3.2.2.1⟩
theorem lw_map_one {E : List ay_Row} {J : ay_Row → List ay_Row} {a : ay_Row → Int32} (h : ∀ er, er ∈ E → J er = [er ++ [a er]]) : E.flatMap J = E.map fun er => er ++ [a er] := by
  induction E with
  | nil => rfl
  | cons x E ih => rw [List.flatMap_cons, List.map_cons, h x (by simp), ih fun y hy => h y (by simp [hy])]; rfl
/-- a value that lies in a column of its own -/
theorem lw_prog_col {w : Nat} {pl : Nat → Nat} {E : List ay_Row} {a : ay_Row → Int32} {u u' : Nat} (hk : sm_k (T t) = 4 ∨ sm_k (T t) = 8) (W : sl_W w E) (hw : w < 100000) (ha : ∀ er, er ∈ E → (sm_S T tb t (lw_E pl er)).1 = a er) (hu : u' + 2 ≤ u + 174 * sm_zc T tr t) : lw_prog T tb tr t pl [w] E (fun er => [a er]) u u' := fun n hn rest => by
  obtain ⟨n, rfl⟩ : ∃ j, n = j + 1 := ⟨n - 1, by omega⟩
  rw [cp_wr4 hk]
  refine ⟨rfl, hu, fun er her more st hst => ?_⟩
  have hl := W er her
  show rk_go _ [1, nI w] st _
  have := lw_rk_col (r := er ++ [a er] ++ more) (c := w) (st := st) (by omega) (by rw [List.append_assoc, List.length_append, List.length_append]; show w < _ + (1 + _); omega)
  rw [ha er her]
  have e : (er ++ [a er] ++ more).getD w 0 = a er := by
    have := lw_gd (c := 0) (x := er) (r := [a er] ++ more) hl
    rw [Nat.add_zero, ← List.append_assoc] at this
    rw [this]; rfl
  rw [e] at this
  exact this
theorem lw_att_fld (H : lw_H T tc nt N tb tr) (ht : t < N) (hk : sm_k (T t) = 4) (ih : lw_BC T tc nt tb tr bag (sm_a (T t))) : lw_AC T tc nt tb tr (cp_att0 T bag att) t := by
  intro e w pl L u Y E m B hI hz ha hpl hm hE hmz hw hB
  have z3 := lw_z3 hm hmz
  have W := cv_W hI.1 ha
  have q := sm_wf4 (H.1 t ht).1 hk
  have alt := q.1.2.1
  have hcA : sm_c (T t) < sm_w (T (sm_a (T t))) := q.2.2.2.1
  have cc := sm_zc1 H.1 ht z3 q.2.1 (by omega) (by omega) (by rw [hk]; rfl) (by omega)
  have mz : m * sm_zc T tr t = m + m * sm_zc T tr (sm_a (T t)) := by rw [cc, Nat.mul_add, Nat.mul_one]
  have zp := sm_zc_pos (tr := tr) H.1 (show sm_a (T t) < N by omega)
  have pla : ∀ k, k < 32 → (sm_l (T (sm_a (T t)))).testBit k = true → pl k < w := fun k k1 k2 => hpl k k1 (by rw [q.2.2.2.2]; exact k2)
  obtain ⟨s1, q1, c, K1, R1, u1, h1, h2, h3, h4, h5, h6, h7, h8, h9, h10, h11, h12, h13⟩ := lw_ask H (show sm_a (T t) < N by omega) q.1.2.2 ih hI ha pla hm hE (by omega) (by omega) u
  have n32 := cp_bits_len (l := sm_l (T (sm_a (T t))))
  have sp := cp_sp_len (cp_bits (sm_l (T (sm_a (T t))))).length
  have c33 := lw_cells (w := (cp_bits (sm_l (T (sm_a (T t))))).length + 1) (b := 33) h7 (by omega)
  have W1 := cv_W h3.1 h4
  obtain ⟨s2, K2, G, u2, g1, g2, g3, g4, g5, g6, g7⟩ := lw_fold (u := u1 + (cp_bits (sm_l (T (sm_a (T t))))).length) (n := (cp_bits (sm_l (T (sm_a (T t))))).length) (mp := 0) (k := sm_o (T t)) (c := sm_c (T t)) (pk := fun _ => []) (ls := cp_sp (cp_bits (sm_l (T (sm_a (T t))))).length) h3 (by simp [hz]) h4 h6 h12 h13 (cp_sp_mem (by omega)) sp (by omega) (fun xr hx r _ => by
    have hl := h12 xr hx
    rw [ex_key_sp (by rw [List.length_append]; omega) (by omega), lw_tk hl, List.append_nil]) (fun _ _ _ _ => rfl) q.2.2.1 (by omega) (by rw [sp, cv_n_cons, cv_n_cons]; show (_ + (_ + _)) + _ + _ ≤ _; omega)
  rw [sp] at g2 g3 g7
  have h5' := cv_at_app h5 K2
  rw [List.append_assoc] at g2 g3 h5'
  have ll := cp_cl_len (l := sm_l (T (sm_a (T t)))) (pl := pl)
  have more : ex_more 1 ((cp_bits (sm_l (T (sm_a (T t))))).length + 1) (cp_cl (sm_l (T (sm_a (T t)))) pl).length = 1 := by unfold ex_more; rw [if_pos (by omega), ll, Nat.add_sub_cancel_left]
  have val : ∀ er, (sm_S T tb t (lw_E pl er)).1 = sm_fold (sm_o (T t)) (sm_at (sm_c (T t)) (sm_S T tb (sm_a (T t)) (lw_E pl er)).2) := fun er => by rw [sm_S_eq H.1 ht, sm_body4 hk]
  have eR : E.flatMap (ex_join1 1 (cp_cl (sm_l (T (sm_a (T t)))) pl) (cp_no (sm_o (T t))) ((cp_bits (sm_l (T (sm_a (T t))))).length + 1) G) = E.map fun er => er ++ [(sm_S T tb t (lw_E pl er)).1] := by
    refine lw_map_one fun er her => ?_
    refine lw_join1 (κ := lw_key (sm_l (T (sm_a (T t)))) pl er) h12 h13 g4 ll rfl (ex_key_cl fun k k1 k2 => by have := pla k k1 k2; omega) (lw_ks_mem her) ?_
    rw [lw_grp0, lw_key_S H.1 (by omega), val er]
    by_cases hf : (sm_S T tb (sm_a (T t)) (lw_E pl er)).2 = []
    · rw [if_pos hf, hf]; exact Or.inl ⟨rfl, lw_no q.2.2.1⟩
    · rw [if_neg hf]; exact Or.inr rfl
  have lE : (E.map fun er => er ++ [(sm_S T tb t (lw_E pl er)).1]).length = E.length := List.length_map ..
  have eE : E.length * (w + 1) = E.length * w + E.length := Nat.mul_succ ..
  have e8 := (cv_w hI.1 ha).1
  have Gc := lw_cells (w := (cp_bits (sm_l (T (sm_a (T t))))).length + 1) (b := 33) (Nat.le_trans g5 h7) (by omega)
  have ej := em_join (Z := Y) (k := 1) (v := cp_no (sm_o (T t))) g2.1 (cv_in_tl (cv_in_tl cv_in_cons)) h5' cv_in_cons g3 (ls := cp_cl (sm_l (T (sm_a (T t)))) pl) (lw_cl_mem pla) (by omega) (by omega) (by omega) eR (by omega) (by rw [more]; omega) (by rw [more, lE, eE, cv_n_cons, cv_n_cons, cv_n_cons]; show _ + (_ + (_ + _)) + _ ≤ _; omega) (fun _ h => by simp [h])
  rw [more] at ej
  unfold em_P at ej
  rw [lE] at ej
  rw [List.append_assoc L] at ej
  refine ⟨_, w + 1, [w], (K1 ++ K2) ++ [cp_join 1 e s2 (cp_cl (sm_l (T (sm_a (T t)))) pl) (cp_no (sm_o (T t)))], u2, fun er => [(sm_S T tb t (lw_E pl er)).1], ?_, lw_I_mv hI ej.1 (by simp [hz]), ej.2, by omega, by omega, lw_prog_col (Or.inl hk) W (by omega) (fun _ _ => rfl) (by omega), by rw [List.length_append, List.length_append, List.length_singleton]; omega⟩
  rw [cp_att_4 hk]
  unfold cp_fld
  dsimp only
  rw [h1]
  dsimp only
  rw [g1]
  simp only [List.append_assoc]
theorem lw_att_has (H : lw_H T tc nt N tb tr) (ht : t < N) (hk : sm_k (T t) = 8) (ih : lw_BC T tc nt tb tr bag (sm_a (T t))) : lw_AC T tc nt tb tr (cp_att0 T bag att) t := by
  intro e w pl L u Y E m B hI hz ha hpl hm hE hmz hw hB
  have z3 := lw_z3 hm hmz
  have W := cv_W hI.1 ha
  have q := sm_wf8 (H.1 t ht).1 hk
  have alt := q.1.2.1
  have cc := sm_zc1 H.1 ht z3 q.2.1 (by omega) (by omega) (by rw [hk]; rfl) (by omega)
  have mz : m * sm_zc T tr t = m + m * sm_zc T tr (sm_a (T t)) := by rw [cc, Nat.mul_add, Nat.mul_one]
  have zp := sm_zc_pos (tr := tr) H.1 (show sm_a (T t) < N by omega)
  have pla : ∀ k, k < 32 → (sm_l (T (sm_a (T t)))).testBit k = true → pl k < w := fun k k1 k2 => hpl k k1 (by rw [q.2.2]; exact k2)
  obtain ⟨s1, q1, c, K1, R1, u1, h1, h2, h3, h4, h5, h6, h7, h8, h9, h10, h11, h12, h13⟩ := lw_ask H (show sm_a (T t) < N by omega) q.1.2.2 ih hI ha pla hm hE (by omega) (by omega) u
  have n32 := cp_bits_len (l := sm_l (T (sm_a (T t))))
  generalize hn : (cp_bits (sm_l (T (sm_a (T t))))).length = n at *
  have sp := cp_sp_len n
  have c32 := lw_cells (w := n) (b := 32) h7 (by omega)
  have W1 := cv_W h3.1 h4
  obtain ⟨e1, a1⟩ := em_pick (Z := (e, E.length * w) :: Y) (ls := cp_sp n) h3.1 cv_in_cons h4 (cp_sp_mem (by omega)) (by omega) (by rw [sp, cv_n_cons, cv_n_cons, cv_n_cons]; show _ + (_ + (_ + _)) + _ ≤ _; omega) (fun p h => by
    rcases List.mem_cons.mp h with rfl | h <;> simp [*])
  have ek : R1.map (ex_key (cp_sp n)) = R1.map (List.take n) := List.map_congr_left fun y hy => ex_key_sp (by rw [W1 y hy]; omega) (by omega)
  rw [ek, sp] at e1 a1
  have lm : (R1.map (List.take n)).length = R1.length := List.length_map ..
  have ol : (sm_once (R1.map (List.take n))).length ≤ R1.length := Nat.le_trans (sm_once_len _) (by rw [lm]; exact Nat.le_refl _)
  have oc := lw_cells (w := n) (b := 32) (Nat.le_trans ol h7) (by omega)
  obtain ⟨e2, a2⟩ := em_uniq (Z := (e, E.length * w) :: Y) e1 cv_in_cons a1 (by omega) (by rw [lm, cv_n_cons, cv_n_cons]; show _ + (_ + _) + _ ≤ _; omega) (fun p h => by
    rcases List.mem_cons.mp h with rfl | h <;> simp [*])
  have h5' := cv_at_app (cv_at_app h5 [cp_pick s1 (cp_sp n)]) [cp_uniq (L ++ K1).length]
  have ll := cp_cl_len (l := sm_l (T (sm_a (T t)))) (pl := pl)
  rw [hn] at ll
  have W2 := cv_W e2 a2
  have more : ex_more 4 n (cp_cl (sm_l (T (sm_a (T t)))) pl).length = 1 := by unfold ex_more; rw [if_neg (by omega), if_pos rfl]
  have val : ∀ er, (sm_S T tb t (lw_E pl er)).1 = if (sm_S T tb (sm_a (T t)) (lw_E pl er)).2 = [] then 0 else 1 := fun er => by rw [sm_S_eq H.1 ht, sm_body8 hk]
  have eR : E.flatMap (ex_join1 4 (cp_cl (sm_l (T (sm_a (T t)))) pl) 0 n (sm_once (R1.map (List.take n)))) = E.map fun er => er ++ [(sm_S T tb t (lw_E pl er)).1] := by
    refine lw_map_one fun er her => ?_
    rw [lw_join4 (κ := lw_key (sm_l (T (sm_a (T t)))) pl er) (by rw [ll]; exact W2) (ex_key_cl fun k k1 k2 => by have := pla k k1 k2; omega), val er]
    have iff : lw_key (sm_l (T (sm_a (T t)))) pl er ∈ sm_once (R1.map (List.take n)) ↔ (sm_S T tb (sm_a (T t)) (lw_E pl er)).2 ≠ [] := by
      have mt := lw_J_mt (f := fun κ => (sm_S T tb (sm_a (T t)) (lw_E (cp_rank (sm_l (T (sm_a (T t))))) κ)).2) h12 h13 (lw_ks_mem (pl := pl) (l := sm_l (T (sm_a (T t)))) her)
      rw [lw_key_S H.1 (by omega)] at mt
      have mt' := (h6.filter (fun y => y.take n == lw_key (sm_l (T (sm_a (T t)))) pl er)).trans (List.Perm.of_eq mt)
      rw [sm_once_mem, List.mem_map]
      constructor
      · rintro ⟨y, hy, hyk⟩ h0
        rw [h0] at mt'
        have := mt'.eq_nil
        rw [List.filter_eq_nil_iff] at this
        exact this y hy (by rw [hyk]; simp)
      · intro hne
        refine Classical.byContradiction fun hno => hne ?_
        have : R1.filter (fun y => y.take n == lw_key (sm_l (T (sm_a (T t)))) pl er) = [] := by
          rw [List.filter_eq_nil_iff]
          intro y hy hq
          exact hno ⟨y, hy, by simpa using hq⟩
        rw [this] at mt'
        exact List.map_eq_nil_iff.mp mt'.symm.eq_nil
    by_cases hf : (sm_S T tb (sm_a (T t)) (lw_E pl er)).2 = []
    · have e0 : (if lw_key (sm_l (T (sm_a (T t)))) pl er ∈ sm_once (R1.map (List.take n)) then (1 : Int32) else 0) = 0 := if_neg fun q => (iff.mp q) hf
      rw [e0, if_pos hf]
    · have e0 : (if lw_key (sm_l (T (sm_a (T t)))) pl er ∈ sm_once (R1.map (List.take n)) then (1 : Int32) else 0) = 1 := if_pos (iff.mpr hf)
      rw [e0, if_neg hf]
  have lE : (E.map fun er => er ++ [(sm_S T tb t (lw_E pl er)).1]).length = E.length := List.length_map ..
  have eE : E.length * (w + 1) = E.length * w + E.length := Nat.mul_succ ..
  have e8 := (cv_w hI.1 ha).1
  have ej := em_join (Z := Y) (k := 4) (v := 0) e2 (cv_in_tl cv_in_cons) h5' cv_in_cons a2 (ls := cp_cl (sm_l (T (sm_a (T t)))) pl) (lw_cl_mem pla) (by omega) (by omega) (by omega) eR (by omega) (by rw [more]; omega) (by rw [more, lE, eE, cv_n_cons, cv_n_cons]; show _ + (_ + _) + _ ≤ _; omega) (fun _ h => by simp [h])
  rw [more] at ej
  unfold em_P at ej
  rw [lE] at ej
  have el : ((L ++ K1) ++ [cp_pick s1 (cp_sp n)]).length = (L ++ K1).length + 1 := by rw [List.length_append]; rfl
  rw [el] at ej
  have el2 : (((L ++ K1) ++ [cp_pick s1 (cp_sp n)]) ++ [cp_uniq (L ++ K1).length]).length = (L ++ K1).length + 2 := by simp only [List.length_append, List.length_singleton]
  rw [el2] at ej
  simp only [List.append_assoc] at ej
  refine ⟨_, w + 1, [w], K1 ++ ([cp_pick s1 (cp_sp n)] ++ ([cp_uniq (L ++ K1).length] ++ [cp_join (nI 4) e ((L ++ K1).length + 1) (cp_cl (sm_l (T (sm_a (T t)))) pl) 0])), u1 + n, fun er => [(sm_S T tb t (lw_E pl er)).1], ?_, lw_I_mv hI ej.1 (by simp [hz]), ej.2, by omega, by omega, lw_prog_col (Or.inr hk) W (by omega) (fun _ _ => rfl) (by omega), by simp only [List.length_append, List.length_singleton]; omega⟩
  rw [cp_att_8 hk]
  unfold cp_has
  dsimp only
  rw [h1, hn]
  simp only [List.append_assoc]
  rfl
end LW
