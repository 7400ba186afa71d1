/-! LAW: values and truths beside rows -/
section LW
variable (T : Nat → sm_T) (tc : Nat → Nat) (nt : Nat) (tb : Nat → List ay_Row) (tr : Nat → Nat)
/-- the program of a term answers in every row that begins so -/
def lw_prog (t : Nat) (pl : Nat → Nat) (fs : List Nat) (E : List ay_Row) (g : ay_Row → ay_Row) (u u' : Nat) : Prop :=
  ∀ n, t < n → ∀ rest, (cp_wr T n t pl (fs ++ rest)).2 = rest ∧ u' + (cp_wr T n t pl (fs ++ rest)).1.length ≤ u + 174 * sm_zc T tr t ∧ ∀ er, er ∈ E → ∀ more st, st.length + t + 1 ≤ 256 → rk_go (er ++ g er ++ more) (cp_wr T n t pl (fs ++ rest)).1 st ((sm_S T tb t (lw_E pl er)).1 :: st)
def lw_AC (att : cp_A) (t : Nat) : Prop := ∀ e w pl L u Y E m B, lw_I tc nt tb L ((e, E.length * w) :: Y) B → (0, 0) ∈ Y → cv_at tc tb L e w E → (∀ k, k < 32 → (sm_l (T t)).testBit k = true → pl k < w) → 1 ≤ m → E.length ≤ m → m * sm_zc T tr t ≤ 3000 → w + 3 * sm_zc T tr t < 20000 → cv_n Y + 2 * (E.length * w) + 150 * (m * sm_zc T tr t) ≤ B →
  ∃ e' w' fs K u' g, att t e w pl (L, u) = ((e', w', fs), (L ++ K, u')) ∧ lw_I tc nt tb (L ++ K) ((e', E.length * w') :: Y) B ∧ cv_at tc tb (L ++ K) e' w' (E.map fun er => er ++ g er) ∧ w ≤ w' ∧ w' ≤ w + 3 * sm_zc T tr t ∧ lw_prog T tb tr t pl fs E g u u' ∧ K.length + 4 ≤ 10 * sm_zc T tr t
end LW
section LW
variable {T : Nat → sm_T} {tc : Nat → Nat} {nt N : Nat} {tb : Nat → List ay_Row} {tr : Nat → Nat}
variable {bag : cp_B} {att : cp_A} {t : Nat}
theorem lw_rk_push {r st : List Int32} {v : Int32} (h : st.length < 256) : rk_go r [0, v] st (v :: st) := by
  unfold rk_go
  exact Or.inl ⟨h, Or.inl ⟨rfl, by unfold rk_go; rfl⟩⟩
theorem lw_rk_col {r st : List Int32} {c : Nat} (h : st.length < 256) (hc : c < r.length) : rk_go r [1, nI c] st (r.getD c 0 :: st) := by
  unfold rk_go
  exact Or.inl ⟨h, Or.inr (Or.inl ⟨c, rfl, hc, rfl, by unfold rk_go; rfl⟩)⟩
theorem lw_rk_dec1 {r st : List Int32} {c : Nat} (h : st.length < 256) (hc : c + 1 < r.length) : rk_go r [2, nI c] st (rk_dec 1 r c :: st) := by
  unfold rk_go
  exact Or.inl ⟨h, Or.inr (Or.inr (Or.inl ⟨c, rfl, hc, rfl, by unfold rk_go; rfl⟩))⟩
theorem lw_rk_dec0 {r st : List Int32} {c : Nat} (h : st.length < 256) (hc : c + 1 < r.length) : rk_go r [3, nI c] st (rk_dec 0 r c :: st) := by
  unfold rk_go
  exact Or.inl ⟨h, Or.inr (Or.inr (Or.inr ⟨c, rfl, hc, rfl, by unfold rk_go; rfl⟩))⟩
theorem lw_rk_op {r : ay_Row} {op : Int32} {s s' : List Int32} (h : rk_one op s s') : rk_go r [op] s s' := by unfold rk_go; exact h
theorem lw_E_sub {t w : Nat} {pl : Nat → Nat} {er s : ay_Row} (wf : sm_wf T tc nt N) (ht : t < N) (he : er.length = w) (hpl : ∀ k, k < 32 → (sm_l (T t)).testBit k = true → pl k < w) : sm_S T tb t (lw_E pl (er ++ s)) = sm_S T tb t (lw_E pl er) :=
  sm_looks wf t ht _ _ fun k hk hb => lw_gl he (hpl k hk hb)
/-- no question: rows stay as they are -/
theorem lw_att_0 (H : lw_H T tc nt N tb tr) (ht : t < N) (hk : sm_k (T t) = 0 ∨ sm_k (T t) = 1) : lw_AC T tc nt tb tr (cp_att0 T bag att) t := by
  intro e w pl L u Y E m B hI hz ha hpl hm hE hmz hw hB
  have zp := sm_zc_pos (tr := tr) H.1 ht
  have W := cv_W hI.1 ha
  refine ⟨e, w, [], [], u, fun _ => [], ?_, ?_, ?_, Nat.le_refl _, by omega, fun n hn rest => ?_, by show 0 + 4 ≤ _; omega⟩
  · rw [cp_att_0 hk, List.append_nil]
  · rw [List.append_nil]; exact hI
  · rw [List.append_nil]
    have : (E.map fun er => er ++ ([] : ay_Row)) = E := by simp
    rw [this]; exact ha
  · obtain ⟨n, rfl⟩ : ∃ j, n = j + 1 := ⟨n - 1, by omega⟩
    rw [List.nil_append]
    rcases hk with hk | hk
    · rw [cp_wr0 hk]
      refine ⟨rfl, by show u + 2 ≤ _; omega, fun er _ more st hst => ?_⟩
      rw [sm_S_eq H.1 ht, sm_body0 hk]
      exact lw_rk_push (by omega)
    · rw [cp_wr1 hk]
      obtain ⟨-, -, -, k, k1, k2, k3⟩ := sm_wf1 (H.1 t ht).1 hk
      have hp := hpl k k1 (by rw [k3]; exact Nat.testBit_two_pow_self)
      refine ⟨rfl, by show u + 2 ≤ _; omega, fun er her more st hst => ?_⟩
      have hl := W er her
      rw [sm_S_eq H.1 ht, sm_body1 hk, k2, nI_clamp (by omega)]
      have := lw_rk_col (r := er ++ [] ++ more) (c := pl k) (st := st) (by omega) (by rw [List.append_nil, List.length_append]; omega)
      rw [List.append_nil] at this ⊢
      rw [lw_gl hl hp] at this
      exact this
/-- one part -/
theorem lw_att_1 (H : lw_H T tc nt N tb tr) (ht : t < N) (hk : sm_k (T t) = 3 ∨ sm_k (T t) = 6 ∨ sm_k (T t) = 7) (hb : (T t).2.2.2.1 = none) (ha' : sm_a (T t) < t) (hl : sm_l (T t) = sm_lA T t) (ho : sm_k (T t) = 7 → sm_o (T t) = 2) (ih : lw_AC T tc nt tb tr att (sm_a (T t))) : lw_AC T tc nt tb tr (cp_att0 T bag att) t := by
  intro e w pl L u Y E m B hI hz ha hpl hm hE hmz hw hB
  have z3 := lw_z3 hm hmz
  have cc := sm_zc1 H.1 ht z3 hb (by omega) (by omega) (by rcases hk with hk | hk | hk <;> rw [hk] <;> rfl) (by omega)
  have mz : m * sm_zc T tr t = m + m * sm_zc T tr (sm_a (T t)) := by rw [cc, Nat.mul_add, Nat.mul_one]
  obtain ⟨e', w', fs, K, u', g, h1, h2, h3, h4, h5, h6, h7⟩ := ih e w pl L u Y E m B hI hz ha (fun k k1 k2 => hpl k k1 (by rw [hl]; exact k2)) hm hE (by omega) (by omega) (by omega)
  have hk5 : sm_k (T t) = 2 ∨ sm_k (T t) = 3 ∨ sm_k (T t) = 5 ∨ sm_k (T t) = 6 ∨ sm_k (T t) = 7 := by omega
  refine ⟨e', w', fs, K, u', g, by rw [cp_att_N hk5 hb]; exact h1, h2, h3, h4, by omega, fun n hn rest => ?_, by omega⟩
  obtain ⟨n, rfl⟩ : ∃ j, n = j + 1 := ⟨n - 1, by omega⟩
  obtain ⟨a1, a2, a3⟩ := h6 n (by omega) rest
  rcases hk with hk | hk | hk
  · rw [cp_wr3 hk]
    refine ⟨a1, by omega, fun er her more st hst => ?_⟩
    rw [sm_S_eq H.1 ht, sm_body3 hk]
    exact a3 er her more st (by omega)
  · rw [cp_wr6 hk]
    refine ⟨a1, by dsimp only; rw [List.length_append]; show _ + (_ + 1) ≤ _; omega, fun er her more st hst => ?_⟩
    rw [sm_S_eq H.1 ht, sm_body6 hk]
    exact rk_go_app (lw_rk_op (Or.inl ⟨rfl, _, _, rfl, rfl⟩)) _ _ _ (Nat.le_refl _) (a3 er her more st (by omega))
  · have o2 := ho hk
    rw [cp_wrN (Or.inr (Or.inr hk)) hb]
    refine ⟨a1, by dsimp only; rw [List.length_append]; show _ + (_ + 1) ≤ _; omega, fun er her more st hst => ?_⟩
    rw [sm_S_eq H.1 ht, sm_body7 hk, if_pos o2]
    refine rk_go_app (lw_rk_op (Or.inr (Or.inl ⟨?_, _, _, rfl, rfl⟩))) _ _ _ (Nat.le_refl _) (a3 er her more st (by omega))
    unfold cp_base
    rw [hk, o2]; rfl
/-- two parts, one after the other -/
theorem lw_att_2 (H : lw_H T tc nt N tb tr) (ht : t < N) (hk : sm_k (T t) = 2 ∨ sm_k (T t) = 5 ∨ sm_k (T t) = 7) (hb : (T t).2.2.2.1 = some (sm_b (T t))) (ha' : sm_a (T t) < t) (hb' : sm_b (T t) < t) (hl : sm_l (T t) = sm_lA T t ||| sm_lB T t) (ho : sm_o (T t) ≤ 4 ∧ (sm_k (T t) = 2 → sm_o (T t) ≤ 2) ∧ (sm_k (T t) = 7 → sm_o (T t) < 2)) (iha : lw_AC T tc nt tb tr att (sm_a (T t))) (ihb : lw_AC T tc nt tb tr att (sm_b (T t))) : lw_AC T tc nt tb tr (cp_att0 T bag att) t := by
  intro e w pl L u Y E m B hI hz ha hpl hm hE hmz hw hB
  have z3 := lw_z3 hm hmz
  have W := cv_W hI.1 ha
  have cc := sm_zc2 H.1 ht z3 hb (by omega) (by omega) (by rcases hk with hk | hk | hk <;> rw [hk] <;> rfl) (by omega)
  have mz : m * sm_zc T tr t = m + m * sm_zc T tr (sm_a (T t)) + m * sm_zc T tr (sm_b (T t)) := by rw [cc, Nat.mul_add, Nat.mul_add, Nat.mul_one]
  have pla : ∀ k, k < 32 → (sm_l (T (sm_a (T t)))).testBit k = true → pl k < w := fun k k1 k2 => hpl k k1 (my_or1 hl k k2)
  have plb : ∀ k, k < 32 → (sm_l (T (sm_b (T t)))).testBit k = true → pl k < w := fun k k1 k2 => hpl k k1 (my_or2 hl k k2)
  obtain ⟨e1, w1, f1, K1, u1, g1, h1, h2, h3, h4, h5, h6, h7⟩ := iha e w pl L u Y E m B hI hz ha pla hm hE (by omega) (by omega) (by omega)
  have lm : (E.map fun er => er ++ g1 er).length = E.length := List.length_map ..
  have ew : E.length * w1 ≤ E.length * w + 3 * (m * sm_zc T tr (sm_a (T t))) := by
    have e1 : E.length * w1 ≤ E.length * (w + 3 * sm_zc T tr (sm_a (T t))) := Nat.mul_le_mul_left _ h5
    have e2 : E.length * (3 * sm_zc T tr (sm_a (T t))) ≤ m * (3 * sm_zc T tr (sm_a (T t))) := Nat.mul_le_mul_right _ hE
    have e3 : m * (3 * sm_zc T tr (sm_a (T t))) = 3 * (m * sm_zc T tr (sm_a (T t))) := Nat.mul_left_comm ..
    rw [Nat.mul_add] at e1
    omega
  obtain ⟨e2, w2, f2, K2, u2, g2, k1, k2, k3, k4, k5, k6, k7⟩ := ihb e1 w1 pl (L ++ K1) u1 Y (E.map fun er => er ++ g1 er) m B (by rw [lm]; exact h2) hz h3 (fun k q1 q2 => by have := plb k q1 q2; omega) hm (by rw [lm]; exact hE) (by omega) (by omega) (by rw [lm]; omega)
  rw [lm] at k2
  have hk5 : sm_k (T t) = 2 ∨ sm_k (T t) = 3 ∨ sm_k (T t) = 5 ∨ sm_k (T t) = 6 ∨ sm_k (T t) = 7 := by omega
  refine ⟨e2, w2, f1 ++ f2, K1 ++ K2, u2, fun er => g1 er ++ g2 (er ++ g1 er), ?_, by rw [← List.append_assoc]; exact k2, ?_, by omega, by omega, fun n hn rest => ?_, by rw [List.length_append]; omega⟩
  · rw [cp_att_B hk5 hb, h1]
    dsimp only
    rw [k1, List.append_assoc]
  · rw [List.map_map] at k3
    rw [← List.append_assoc]
    have : (E.map fun er => er ++ (g1 er ++ g2 (er ++ g1 er))) = E.map ((fun er => er ++ g2 er) ∘ fun er => er ++ g1 er) := List.map_congr_left fun er _ => (List.append_assoc ..).symm
    rw [this]; exact k3
  · obtain ⟨n, rfl⟩ : ∃ j, n = j + 1 := ⟨n - 1, by omega⟩
    obtain ⟨a1, a2, a3⟩ := h6 n (by omega) (f2 ++ rest)
    obtain ⟨b1, b2, b3⟩ := k6 n (by omega) rest
    rw [cp_wrB hk hb, List.append_assoc f1, a1]
    refine ⟨b1, ?_, fun er her more st hst => ?_⟩
    · dsimp only
      rw [List.length_append, List.length_append]; show _ + (_ + _ + 1) ≤ _; omega
    · have er1 := W er her
      have q1 := a3 er her (g2 (er ++ g1 er) ++ more) st (by omega)
      have q2 := b3 (er ++ g1 er) (List.mem_map.mpr ⟨er, her, rfl⟩) more ((sm_S T tb (sm_a (T t)) (lw_E pl er)).1 :: st) (by rw [List.length_cons]; omega)
      rw [lw_E_sub H.1 (by omega) er1 plb] at q2
      have er2 : er ++ g1 er ++ (g2 (er ++ g1 er) ++ more) = er ++ (g1 er ++ g2 (er ++ g1 er)) ++ more := by simp only [List.append_assoc]
      have er3 : er ++ g1 er ++ g2 (er ++ g1 er) ++ more = er ++ (g1 er ++ g2 (er ++ g1 er)) ++ more := by simp only [List.append_assoc]
      rw [er2] at q1
      rw [er3] at q2
      have q12 := rk_go_app q2 _ _ _ (Nat.le_refl _) q1
      refine rk_go_app (lw_rk_op (Or.inr (Or.inr ⟨cp_base (sm_k (T t)) + sm_o (T t), rfl, ?_, _, _, _, rfl, ?_⟩))) _ _ _ (Nat.le_refl _) q12
      · unfold cp_base
        rcases hk with hk | hk | hk <;> rw [hk] <;> simp <;> omega
      · rw [sm_S_eq H.1 ht]
        congr 1
        unfold cp_base rk_2
        rcases hk with hk | hk | hk
        · have := ho.2.1 hk
          rw [sm_body2 hk, hk]
          simp only [if_true]
          rw [if_neg (by omega), if_neg (by omega), Nat.add_sub_cancel_left]
        · rw [sm_body5 hk, hk]
          simp only [show ¬ (5 = 2) by omega, if_false, if_true]
          rw [if_pos (by omega), Nat.add_sub_cancel_left]
          unfold rk_test
          rw [if_pos (by omega)]
        · have := ho.2.2 hk
          rw [sm_body7 hk, hk]
          simp only [show ¬ (7 = 2) by omega, show ¬ (7 = 5) by omega, if_false]
          rw [if_neg (by omega), if_neg (by omega), if_pos (by omega), Nat.add_sub_cancel_left]
end LW
