/-! CONTRACTS of ApplyFree$Reckoner -/
def rk_one (op : Int32) (s s' : List Int32) : Prop := (op = 4 ∧ ∃ x t, s = x :: t ∧ s' = sm_isno x :: t) ∨ (op = 10 ∧ ∃ x t, s = x :: t ∧ s' = sm_not x :: t) ∨ (∃ k, op = nI k ∧ ((5 ≤ k ∧ k < 10) ∨ (16 ≤ k ∧ k < 31)) ∧ ∃ a b t, s = b :: a :: t ∧ s' = rk_2 k a b :: t)
def rk_go (r : ay_Row) : List Int32 → List Int32 → List Int32 → Prop
  | [], s, s' => s' = s
  | [op], s, s' => rk_one op s s'
  | op :: v :: p, s, s' => (s.length < 256 ∧ ((op = 0 ∧ rk_go r p (v :: s) s') ∨ (∃ c, v = nI c ∧ c < r.length ∧ op = 1 ∧ rk_go r p (r.getD c 0 :: s) s') ∨ (∃ c, v = nI c ∧ c + 1 < r.length ∧ op = 2 ∧ rk_go r p (rk_dec 1 r c :: s) s') ∨ (∃ c, v = nI c ∧ c + 1 < r.length ∧ op = 3 ∧ rk_go r p (rk_dec 0 r c :: s) s'))) ∨ (∃ s1, rk_one op s s1 ∧ rk_go r (v :: p) s1 s')
theorem rk_one_len {op : Int32} {s s' : List Int32} (h : rk_one op s s') : s'.length ≤ s.length ∧ 1 ≤ s'.length := by
  rcases h with ⟨-, x, t, rfl, rfl⟩ | ⟨-, x, t, rfl, rfl⟩ | ⟨k, -, -, a, b, t, rfl, rfl⟩ <;> simp
theorem rk_one_rk {op : Int32} {s s' : List Int32} (h : rk_one op s s') : rk_1 op s = s' ∧ op ≠ 0 ∧ op ≠ 1 ∧ op ≠ 2 ∧ op ≠ 3 := by
  rcases h with ⟨rfl, x, t, rfl, rfl⟩ | ⟨rfl, x, t, rfl, rfl⟩ | ⟨k, rfl, hk, a, b, t, rfl, rfl⟩
  · refine ⟨?_, by decide, by decide, by decide, by decide⟩
    unfold rk_1
    dsimp only
    exact if_pos rfl
  · refine ⟨?_, by decide, by decide, by decide, by decide⟩
    unfold rk_1
    dsimp only
    rw [if_neg (by decide)]
    exact if_pos rfl
  · have ne : ∀ j, j < 5 ∨ j = 10 → nI k ≠ nI j := fun j hj e => by rw [nI_eq (by omega) (by omega)] at e; omega
    refine ⟨?_, ne 0 (by omega), ne 1 (by omega), ne 2 (by omega), ne 3 (by omega)⟩
    have n4 : nI k ≠ (4 : Int32) := ne 4 (by omega)
    have n10 : nI k ≠ (10 : Int32) := ne 10 (by omega)
    unfold rk_1
    dsimp only
    rw [if_neg n4, if_neg n10, nI_clamp (by omega)]
theorem rk_go_rk {r : ay_Row} (hr : r.length < 100000) : ∀ (n : Nat) (p s s' : List Int32), p.length ≤ n → rk_go r p s s' → rk r p s = s'
  | _, [], s, s', _, h => by
    unfold rk_go at h
    rw [h]; rfl
  | _, [op], s, s', _, h => by
    unfold rk_go at h
    exact (rk_one_rk h).1
  | 0, op :: v :: p, _, _, hn, _ => by simp at hn
  | n + 1, op :: v :: p, s, s', hn, h => by
    unfold rk_go at h
    unfold rk
    simp only [List.length_cons] at hn
    rcases h with ⟨-, ⟨rfl, h⟩ | ⟨c, rfl, hc, rfl, h⟩ | ⟨c, rfl, hc, rfl, h⟩ | ⟨c, rfl, hc, rfl, h⟩⟩ | ⟨s1, h1, h⟩
    · rw [if_pos rfl]
      exact rk_go_rk hr n p _ _ (by omega) h
    · rw [if_neg (by decide), if_pos rfl, nI_clamp (by omega)]
      exact rk_go_rk hr n p _ _ (by omega) h
    · rw [if_neg (by decide), if_neg (by decide), if_pos rfl, nI_clamp (by omega)]
      exact rk_go_rk hr n p _ _ (by omega) h
    · rw [if_neg (by decide), if_neg (by decide), if_neg (by decide), if_pos rfl, nI_clamp (by omega)]
      exact rk_go_rk hr n p _ _ (by omega) h
    · obtain ⟨g0, g1, g2, g3, g4⟩ := rk_one_rk h1
      rw [if_neg g1, if_neg g2, if_neg g3, if_neg g4, g0]
      exact rk_go_rk hr n (v :: p) _ _ (by rw [List.length_cons]; omega) h
theorem rk_go_app {r : ay_Row} {q s1 s2 : List Int32} (hq : rk_go r q s1 s2) : ∀ (n : Nat) (p s : List Int32), p.length ≤ n → rk_go r p s s1 → rk_go r (p ++ q) s s2
  | _, [], s, _, h => by
    unfold rk_go at h
    rw [← h]; exact hq
  | _, [op], s, _, h => by
    unfold rk_go at h
    cases q with
    | nil =>
      unfold rk_go at hq
      rw [hq]
      show rk_go r [op] s s1
      unfold rk_go; exact h
    | cons v q =>
      show rk_go r (op :: v :: q) s s2
      unfold rk_go
      exact Or.inr ⟨s1, h, hq⟩
  | 0, op :: v :: p, _, hn, _ => by simp at hn
  | n + 1, op :: v :: p, s, hn, h => by
    simp only [List.length_cons] at hn
    unfold rk_go at h
    show rk_go r (op :: v :: (p ++ q)) s s2
    unfold rk_go
    rcases h with ⟨hl, ⟨e, h⟩ | ⟨c, e1, e2, e3, h⟩ | ⟨c, e1, e2, e3, h⟩ | ⟨c, e1, e2, e3, h⟩⟩ | ⟨t1, h1, h⟩
    · exact Or.inl ⟨hl, Or.inl ⟨e, rk_go_app hq n p _ (by omega) h⟩⟩
    · exact Or.inl ⟨hl, Or.inr (Or.inl ⟨c, e1, e2, e3, rk_go_app hq n p _ (by omega) h⟩)⟩
    · exact Or.inl ⟨hl, Or.inr (Or.inr (Or.inl ⟨c, e1, e2, e3, rk_go_app hq n p _ (by omega) h⟩))⟩
    · exact Or.inl ⟨hl, Or.inr (Or.inr (Or.inr ⟨c, e1, e2, e3, rk_go_app hq n p _ (by omega) h⟩))⟩
    · exact Or.inr ⟨t1, h1, rk_go_app hq n (v :: p) _ (by rw [List.length_cons]; omega) h⟩
section RK
variable {d : Nat} {z : wd_Z} {M : wd_M} {L : wd_L} {K : Int32 → wd_Z → wd_M → wd_L → Prop}
theorem rk_asT {x : Int32} (hK : K (if x = 0 then 0 else 1) z M L) : wRunI (d, 0, 0) mX6_asTruth [.int x] z M L K := by
  refine fX6_asTruth_e ⟨fun h => ?_, fun h => ?_⟩
  · rw [if_pos h] at hK; exact wQi_i hK
  · rw [if_neg h] at hK; exact wQi_i hK
theorem rk_reckon {k : Nat} {a b : Int32} (hk : k ≤ 2) (hK : K (sm_reckon k a b) z M L) : wRunI (d, 0, 0) mX6_reckon [.int (nI k), .int a, .int b] z M L K := by
  have hK := wQi_i hK
  unfold sm_reckon at hK
  refine fX6_reckon_e ⟨fun h => ?_, fun h => ⟨fun h2 => ?_, fun h2 => ?_⟩⟩
  · rw [if_pos (Or.inl h)] at hK; exact hK
  · rw [if_pos (Or.inr h2)] at hK; exact hK
  · rw [if_neg (by rintro (q | q) <;> contradiction)] at hK
    rw [ak_n0, ak_n1, nI_eq (by omega) (by omega), nI_eq (by omega) (by omega)]
    refine ⟨fun q => ?_, fun q => ⟨fun q2 => ?_, fun q2 => ?_⟩⟩
    · rw [if_pos q] at hK; exact hK
    · rw [if_neg q, if_pos q2] at hK; exact hK
    · rw [if_neg q, if_neg q2] at hK; exact hK
theorem rk_logic {k : Nat} {a b : Int32} (hk : k ≤ 1) (hK : K (sm_logic k a b) z M L) : wRunI (d, 0, 0) mX6_logic [.int (nI k), .int a, .int b] z M L K := by
  have hK := wQi_i hK
  unfold sm_logic at hK
  refine fX6_logic_e ⟨fun h => ?_, fun h => ?_⟩
  · have hk0 : k = 0 := by rwa [ak_n0, nI_eq (by omega) (by omega)] at h
    rw [if_pos hk0] at hK
    refine ⟨fun q => ?_, fun q => ⟨fun q2 => ?_, fun q2 => ?_⟩⟩
    · rw [if_pos (Or.inl q)] at hK; exact hK
    · rw [if_pos (Or.inr q2)] at hK; exact hK
    · rw [if_neg (by rintro (e | e) <;> contradiction)] at hK
      refine ⟨fun q3 => ?_, fun q3 => ⟨fun q4 => ?_, fun q4 => ?_⟩⟩
      · rw [if_pos (Or.inl q3)] at hK; exact hK
      · rw [if_pos (Or.inr q4)] at hK; exact hK
      · rw [if_neg (by rintro (e | e) <;> contradiction)] at hK; exact hK
  · have hk0 : ¬ k = 0 := by rwa [ak_n0, nI_eq (by omega) (by omega)] at h
    rw [if_neg hk0] at hK
    refine ⟨fun q => ?_, fun q => ⟨fun q2 => ?_, fun q2 => ?_⟩⟩
    · rw [if_pos (Or.inl q)] at hK; exact hK
    · rw [if_pos (Or.inr q2)] at hK; exact hK
    · rw [if_neg (by rintro (e | e) <;> contradiction)] at hK
      refine ⟨fun q3 => ?_, fun q3 => ⟨fun q4 => ?_, fun q4 => ?_⟩⟩
      · rw [if_pos (Or.inl q3)] at hK; exact hK
      · rw [if_pos (Or.inr q4)] at hK; exact hK
      · rw [if_neg (by rintro (e | e) <;> contradiction)] at hK; exact hK
theorem rk_compare {k : Nat} {a b : Int32} (hd : 1 ≤ d) (hk : k ≤ 4) (hK : K (sm_cmp k a b) z M L) : wRunI (d, 0, 0) mX6_compare [.int (nI k), .int a, .int b] z M L K := by
  obtain ⟨d, rfl, hd'⟩ := ak_deep hd
  unfold sm_cmp at hK
  have c88 : ∀ {v : Int32}, (v = 0 ∨ v = 1) → K v z M L → wRun (d + 1, 0, 0) mX6_compare 88 [none, none, none] [.int v] z M L (wQi K) := fun {v} hv h => by
    refine fX6_compare_88 (rk_asT (wQi_i ?_))
    rcases hv with rfl | rfl
    · exact h
    · exact h
  have c17 : K (-2147483648 : Int32) z M L → wRun (d + 1, 0, 0) mX6_compare 17 [none, none, none] [] z M L (wQi K) := fun h => fX6_compare_17 (wQi_i h)
  have c20 : ¬ (k < 4 ∧ (a = (-2147483648 : Int32) ∨ b = (-2147483648 : Int32))) → wRun (d + 1, 0, 0) mX6_compare 20 [some (.int (nI k)), some (.int a), some (.int b)] [] z M L (wQi K) := fun h => by
    rw [if_neg h] at hK
    refine fX6_compare_20 ?_
    have c29 : (k = 0 ∨ k = 4) → wRun (d + 1, 0, 0) mX6_compare 29 [none, some (.int a), some (.int b)] [] z M L (wQi K) := fun q => by
      rw [if_pos q] at hK
      refine fX6_compare_29 ⟨fun e => c88 (Or.inr rfl) ?_, fun e => c88 (Or.inl rfl) ?_⟩
      · rw [if_pos e] at hK; exact hK
      · rw [if_neg e] at hK; exact hK
    rw [ak_n0, ak_n1, ak_n2, ak_n4, nI_eq (by omega) (by omega), nI_eq (by omega) (by omega), nI_eq (by omega) (by omega), nI_eq (by omega) (by omega)]
    refine ⟨fun q => c29 (Or.inl q), fun q0 => ⟨fun q => c29 (Or.inr q), fun q4 => ?_⟩⟩
    rw [if_neg (by omega)] at hK
    refine ⟨fun q1 => ?_, fun q1 => ⟨fun q2 => ?_, fun q2 => ?_⟩⟩
    · rw [if_pos q1] at hK
      refine ⟨fun e => c88 (Or.inl rfl) ?_, fun e => c88 (Or.inr rfl) ?_⟩
      · rw [if_pos e] at hK; exact hK
      · rw [if_neg e] at hK; exact hK
    · rw [if_neg q1, if_pos q2] at hK
      refine ⟨fun e => c88 (Or.inl rfl) ?_, fun e => c88 (Or.inr rfl) ?_⟩
      · rw [if_neg (by rw [sm_i_lt]; rw [sm_i_le] at e; omega)] at hK; exact hK
      · rw [if_pos (by rw [sm_i_lt]; rw [sm_i_le] at e; omega)] at hK; exact hK
    · rw [if_neg q1, if_neg q2] at hK
      refine ⟨fun e => c88 (Or.inl rfl) ?_, fun e => c88 (Or.inr rfl) ?_⟩
      · rw [if_neg (by rw [sm_i_le]; rw [sm_i_lt] at e; omega)] at hK; exact hK
      · rw [if_pos (by rw [sm_i_le]; rw [sm_i_lt] at e; omega)] at hK; exact hK
  refine fX6_compare_e ⟨fun q => c20 ?_, fun q => ⟨fun q1 => c17 ?_, fun q1 => ⟨fun q2 => c17 ?_, fun q2 => c20 ?_⟩⟩⟩
  · rw [ak_n4, nI_leI (by omega) (by omega)] at q
    omega
  · rw [ak_n4, nI_leI (by omega) (by omega)] at q
    rw [if_pos ⟨by omega, Or.inl q1⟩] at hK; exact hK
  · rw [ak_n4, nI_leI (by omega) (by omega)] at q
    rw [if_pos ⟨by omega, Or.inr q2⟩] at hK; exact hK
  · rintro ⟨-, e | e⟩ <;> contradiction
theorem rk_testC {k : Nat} {a b : Int32} (hd : 2 ≤ d) (hk : k < 15) (hK : K (rk_test k a b) z M L) : wRunI (d, 0, 0) mX6_test [.int (nI k), .int a, .int b] z M L K := by
  obtain ⟨d, rfl, hd'⟩ := ak_deep hd
  refine fX6_test_e ⟨by decide, ?_⟩
  unfold rk_test at hK
  rw [ak_n5, pk_rem (by omega) (by omega) (by omega), show (10 : Int32) = nI 10 from rfl]
  refine rk_compare hd' (by omega) ?_
  rw [nI_leI (by omega) (by omega), nI_leI (by omega) (by omega)]
  refine ⟨fun q => ⟨fun q2 => ?_, fun q2 => ?_⟩, fun q => ?_⟩
  · rw [if_neg (by omega), if_neg (by omega), show k - 10 = k % 5 by omega] at hK
    refine ⟨fun e => rk_asT (wQi_i ?_), fun e => rk_asT (wQi_i ?_)⟩
    · rw [if_pos e] at hK; exact hK
    · rw [if_neg e] at hK; exact hK
  · rw [if_neg (by omega), if_pos (by omega), show k - 5 = k % 5 by omega] at hK
    refine ⟨fun e => rk_asT (wQi_i ?_), fun e => rk_asT (wQi_i ?_)⟩
    · rw [if_pos e] at hK; exact hK
    · rw [if_neg e] at hK; exact hK
  · rw [if_pos (by omega)] at hK
    rw [show k % 5 = k by omega]
    exact wQi_i hK
end RK
