/-! LAW: questions: some, each -/
section LW
variable {T : Nat → sm_T} {tc : Nat → Nat} {nt N : Nat} {tb : Nat → List ay_Row} {tr : Nat → Nat}
variable {bag : cp_B} {att : cp_A} {t : Nat}
theorem ex_key_cl1 {l own : Nat} {pl : Nat → Nat} {er : ay_Row} (h : ∀ k, k < 32 → l.testBit k = true → pl k < 2 ^ 31) (ho : own < 2 ^ 31) : ex_key (cp_cl l pl ++ [nI own]) er = lw_key l pl er ++ [er.getD own 0] := by
  have : ex_key (cp_cl l pl ++ [nI own]) er = ex_key (cp_cl l pl) er ++ [er.getD (nI own).toNatClampNeg 0] := by unfold ex_key; rw [List.map_append]; rfl
  rw [this, ex_key_cl h, nI_clamp ho]
/-- rows with a key and a value, and what is beside them: which are marked -/
theorem lw_mark {M : List ay_Row} {n : Nat} {κv : ay_Row} {P : ay_Row → Int32} (hκ : κv.length = n + 1) : κv ∈ sm_once (((M.filter fun y => P y == 1)).map (ex_key (cp_sp (n + 1)))) ↔ ∃ y, y ∈ M ∧ P y = 1 ∧ ex_key (cp_sp (n + 1)) y = κv := by
  rw [sm_once_mem, List.mem_map]
  constructor
  · rintro ⟨y, hy, e⟩
    rw [List.mem_filter, beq_iff_eq] at hy
    exact ⟨y, hy.1, hy.2, e⟩
  · rintro ⟨y, h1, h2, h3⟩
    exact ⟨y, List.mem_filter.mpr ⟨h1, by rw [beq_iff_eq]; exact h2⟩, h3⟩
theorem lw_rk_test {r : ay_Row} {n k : Nat} (hn : n + 1 < r.length) (hk : k < 15) : rk_go r [1, nI n, 1, nI (n + 1), nI (16 + k)] [] [rk_test k (r.getD n 0) (r.getD (n + 1) 0)] := by
  have h1 := lw_rk_col (r := r) (c := n) (st := []) (by simp) (by omega)
  have h2 := lw_rk_col (r := r) (c := n + 1) (st := [r.getD n 0]) (by simp) hn
  have h3 : rk_go r [nI (16 + k)] [r.getD (n + 1) 0, r.getD n 0] [rk_test k (r.getD n 0) (r.getD (n + 1) 0)] := by
    refine lw_rk_op (Or.inr (Or.inr ⟨16 + k, rfl, by omega, _, _, _, rfl, ?_⟩))
    unfold rk_2
    rw [if_pos (by omega), Nat.add_sub_cancel_left]
  exact rk_go_app (rk_go_app h3 _ _ _ (Nat.le_refl _) h2) _ _ _ (Nat.le_refl _) h1
/-- one mark: select, the keys once, and a flag beside each row -/
theorem lw_mk {M0 e w n k met : Nat} {pl : Nat → Nat} {l own : Nat} {L : List cp_St} {Y : cv_X} {E M : List ay_Row} {B m zb : Nat} (hI : lw_I tc nt tb L ((met, M0) :: (e, E.length * w) :: Y) B) (hmet : cv_at tc tb L met (n + 2) M) (ha : cv_at tc tb L e w E) (hn : (cp_bits l).length = n) (hn32 : n ≤ 32) (hpl : ∀ k, k < 32 → l.testBit k = true → pl k < w) (hown : own < w) (hw : w < 50000) (hk : k < 15) (hE : E.length ≤ m) (hM : M.length ≤ zb) (hB : cv_n Y + M0 + 2 * (E.length * w) + m + 68 * zb ≤ B) (hz : (0, 0) ∈ Y) :
    ∃ c, lw_I tc nt tb (L ++ cp_mark met e L.length n k (cp_cl l pl ++ [nI own])) ((L.length + 3, c) :: (met, M0) :: Y) B ∧ c = E.length * (w + 1) ∧ cv_at tc tb (L ++ cp_mark met e L.length n k (cp_cl l pl ++ [nI own])) (L.length + 3) (w + 1) (E.map fun er => er ++ [if ∃ y, y ∈ M ∧ rk_test k (y.getD n 0) (y.getD (n + 1) 0) = 1 ∧ y.take (n + 1) = lw_key l pl er ++ [er.getD own 0] then 1 else 0]) := by
  classical
  have W := cv_W hI.1 hmet
  have WE := cv_W hI.1 ha
  have c34 := lw_cells (w := n + 2) (b := 34) hM (by omega)
  obtain ⟨e1, a1⟩ := em_sel (Z := (met, M0) :: (e, E.length * w) :: Y) (ls := [1, nI n, 1, nI (n + 1), nI (16 + k)]) (P := fun r => rk_test k (r.getD n 0) (r.getD (n + 1) 0)) hI.1 cv_in_cons hmet (fun r hr => lw_rk_test (by rw [W r hr]; omega) hk) (by rw [cv_n_cons, cv_n_cons]; show _ + (_ + _) + _ ≤ _; omega) (fun _ h => h)
  have fl : (M.filter fun r => rk_test k (r.getD n 0) (r.getD (n + 1) 0) == 1).length ≤ M.length := List.length_filter_le _ _
  have sp := cp_sp_len (n + 1)
  have f34 := lw_cells (w := n + 2) (b := 34) (Nat.le_trans fl hM) (by omega)
  have f33 := lw_cells (w := n + 1) (b := 33) (Nat.le_trans fl hM) (by omega)
  generalize hF : (M.filter fun r => rk_test k (r.getD n 0) (r.getD (n + 1) 0) == 1) = F at *
  obtain ⟨e2, a2⟩ := em_pick (Z := (met, M0) :: (e, E.length * w) :: Y) (ls := cp_sp (n + 1)) e1 cv_in_cons a1 (cp_sp_mem (by omega)) (by omega) (by rw [sp, cv_n_cons, cv_n_cons, cv_n_cons]; show _ + (_ + (_ + _)) + _ ≤ _; omega) (fun _ h => by simp only [List.mem_cons] at h ⊢; exact Or.inr h)
  have WF : sl_W (n + 2) F := by rw [← hF]; exact sl_W_sub W fun r hr => (List.mem_filter.mp hr).1
  have ek : F.map (ex_key (cp_sp (n + 1))) = F.map (List.take (n + 1)) := List.map_congr_left fun y hy => ex_key_sp (by rw [WF y hy]; omega) (by omega)
  rw [ek, sp] at e2 a2
  have lm : (F.map (List.take (n + 1))).length = F.length := List.length_map ..
  have el1 : (L ++ [cp_sel met [1, nI n, 1, nI (n + 1), nI (16 + k)]]).length = L.length + 1 := by rw [List.length_append]; rfl
  rw [el1] at e2 a2
  obtain ⟨e3, a3⟩ := em_uniq (Z := (met, M0) :: (e, E.length * w) :: Y) e2 cv_in_cons a2 (by omega) (by rw [lm, cv_n_cons, cv_n_cons, cv_n_cons]; show _ + (_ + (_ + _)) + _ ≤ _; omega) (fun _ h => by simp only [List.mem_cons] at h ⊢; exact Or.inr h)
  have ol : (sm_once (F.map (List.take (n + 1)))).length ≤ F.length := Nat.le_trans (sm_once_len _) (by rw [lm]; exact Nat.le_refl _)
  have oc := lw_cells (w := n + 1) (b := 33) (Nat.le_trans ol (Nat.le_trans fl hM)) (by omega)
  have el2 : ((L ++ [cp_sel met [1, nI n, 1, nI (n + 1), nI (16 + k)]]) ++ [cp_pick L.length (cp_sp (n + 1))]).length = L.length + 2 := by simp only [List.length_append, List.length_singleton]
  rw [el2] at e3 a3
  have W3 := cv_W e3 a3
  have ha' := cv_at_app (cv_at_app (cv_at_app ha [cp_sel met [1, nI n, 1, nI (n + 1), nI (16 + k)]]) [cp_pick L.length (cp_sp (n + 1))]) [cp_uniq (L.length + 1)]
  have ll : (cp_cl l pl ++ [nI own]).length = n + 1 := by rw [List.length_append, cp_cl_len, hn]; rfl
  have more : ex_more 4 (n + 1) (cp_cl l pl ++ [nI own]).length = 1 := by unfold ex_more; rw [if_neg (by omega), if_pos rfl]
  have eR : E.flatMap (ex_join1 4 (cp_cl l pl ++ [nI own]) 0 (n + 1) (sm_once (F.map (List.take (n + 1))))) = E.map fun er => er ++ [if ∃ y, y ∈ M ∧ rk_test k (y.getD n 0) (y.getD (n + 1) 0) = 1 ∧ y.take (n + 1) = lw_key l pl er ++ [er.getD own 0] then 1 else 0] := by
    refine lw_map_one fun er her => ?_
    rw [lw_join4 (κ := lw_key l pl er ++ [er.getD own 0]) (by rw [ll]; exact W3) (ex_key_cl1 (fun k k1 k2 => by have := hpl k k1 k2; omega) (by omega))]
    have iff : lw_key l pl er ++ [er.getD own 0] ∈ sm_once (F.map (List.take (n + 1))) ↔ ∃ y, y ∈ M ∧ rk_test k (y.getD n 0) (y.getD (n + 1) 0) = 1 ∧ y.take (n + 1) = lw_key l pl er ++ [er.getD own 0] := by
      rw [sm_once_mem, List.mem_map, ← hF]
      constructor
      · rintro ⟨y, hy, e⟩
        rw [List.mem_filter, beq_iff_eq] at hy
        exact ⟨y, hy.1, hy.2, e⟩
      · rintro ⟨y, h1, h2, h3⟩
        exact ⟨y, List.mem_filter.mpr ⟨h1, by rw [beq_iff_eq]; exact h2⟩, h3⟩
    by_cases h : lw_key l pl er ++ [er.getD own 0] ∈ sm_once (F.map (List.take (n + 1)))
    · rw [if_pos (iff.mp h)]
      have : (if lw_key l pl er ++ [er.getD own 0] ∈ sm_once (F.map (List.take (n + 1))) then (1 : Int32) else 0) = 1 := if_pos h
      rw [this]
    · rw [if_neg (fun q => h (iff.mpr q))]
      have : (if lw_key l pl er ++ [er.getD own 0] ∈ sm_once (F.map (List.take (n + 1))) then (1 : Int32) else 0) = 0 := if_neg h
      rw [this]
  have eE : E.length * (w + 1) = E.length * w + E.length := Nat.mul_succ ..
  have e8 := (cv_w hI.1 ha).1
  have ej := em_join (Z := (met, M0) :: Y) (k := 4) (v := 0) e3 (cv_in_tl (cv_in_tl cv_in_cons)) ha' cv_in_cons a3 (ls := cp_cl l pl ++ [nI own]) (fun c hc => by
    rcases List.mem_append.mp hc with hc | hc
    · exact lw_cl_mem hpl c hc
    · rw [List.mem_singleton] at hc; exact ⟨own, hc, hown⟩) (by omega) (by omega) (by omega) eR (by rw [List.length_map]; exact e8) (by rw [more]; omega) (by rw [more, List.length_map, eE, cv_n_cons, cv_n_cons, cv_n_cons]; show _ + (_ + (_ + _)) + _ ≤ _; omega) (fun p h => by simp only [List.mem_cons] at h ⊢; rcases h with h | h <;> simp [h])
  rw [more] at ej
  unfold em_P at ej
  rw [List.length_map] at ej
  have el3 : (((L ++ [cp_sel met [1, nI n, 1, nI (n + 1), nI (16 + k)]]) ++ [cp_pick L.length (cp_sp (n + 1))]) ++ [cp_uniq (L.length + 1)]).length = L.length + 3 := by simp only [List.length_append, List.length_singleton]
  rw [el3] at ej
  simp only [List.append_assoc] at ej
  exact ⟨_, lw_I_mv hI (K := cp_mark met e L.length n k (cp_cl l pl ++ [nI own])) ej.1 (by simp [hz]), rfl, ej.2⟩
end LW
