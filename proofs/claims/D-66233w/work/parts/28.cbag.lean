/-! CONTRACTS of ApplyFree$Rewriter: bags and questions; the words of the contracts, and the methods beside the recursion -/
def cp_le (σ σ' : cp_S) : Prop := (∃ l, σ'.1 = σ.1 ++ l) ∧ σ.2 ≤ σ'.2
theorem cp_le_refl {σ : cp_S} : cp_le σ σ := ⟨⟨[], by rw [List.append_nil]⟩, Nat.le_refl _⟩
theorem cp_le_trans {a b c : cp_S} (h : cp_le a b) (h' : cp_le b c) : cp_le a c := by
  obtain ⟨⟨l, hl⟩, h2⟩ := h
  obtain ⟨⟨m, hm⟩, h3⟩ := h'
  exact ⟨⟨l ++ m, by rw [hm, hl, List.append_assoc]⟩, Nat.le_trans h2 h3⟩
theorem cp_le_app {σ : cp_S} {l : List cp_St} {k : Nat} (h : σ.2 ≤ k) : cp_le σ (σ.1 ++ l, k) := ⟨⟨l, rfl⟩, h⟩
theorem cp_le_len {σ σ' : cp_S} (h : cp_le σ σ') : σ.1.length ≤ σ'.1.length ∧ σ.2 ≤ σ'.2 := by
  obtain ⟨⟨l, hl⟩, h2⟩ := h
  exact ⟨by rw [hl, List.length_append]; exact Nat.le_add_right _ _, h2⟩
theorem cp_le_fold {s : Nat} {ls : List Int32} {kind col : Nat} {σ : cp_S} : cp_le σ (cp_fold s ls kind col σ).2 := by
  unfold cp_fold
  split
  · exact cp_le_app (Nat.le_refl _)
  · exact cp_le_app (by omega)
theorem cp_le_ch {l e : Nat} {pl : Nat → Nat} {σ : cp_S} : cp_le σ (cp_ch l e pl σ) := cp_le_app (Nat.le_add_right _ _)
section CL
variable {T : Nat → sm_T} {bag : cp_B} {att : cp_A}
theorem cp_le_fld (hb : ∀ t x σ, cp_le σ (bag t x σ).2) (t e w : Nat) (pl : Nat → Nat) (σ : cp_S) : cp_le σ (cp_fld T bag t e w pl σ).2 := by
  unfold cp_fld
  dsimp only
  refine cp_le_trans ?_ (cp_le_app (Nat.le_refl _))
  refine cp_le_trans ?_ cp_le_fold
  have h2 := hb (sm_a (T t)) (cp_chX (sm_l (T (sm_a (T t)))) σ) (cp_ch (sm_l (T (sm_a (T t)))) e pl σ)
  exact cp_le_trans (cp_le_trans cp_le_ch h2) ⟨⟨[], (List.append_nil _).symm⟩, Nat.le_add_right _ _⟩
theorem cp_le_has (hb : ∀ t x σ, cp_le σ (bag t x σ).2) (t e w : Nat) (pl : Nat → Nat) (σ : cp_S) : cp_le σ (cp_has T bag t e w pl σ).2 := by
  unfold cp_has
  dsimp only
  refine cp_le_trans ?_ (cp_le_app (Nat.le_add_right _ _))
  exact cp_le_trans cp_le_ch (hb _ _ _)
theorem cp_le_qnt (hb : ∀ t x σ, cp_le σ (bag t x σ).2) (ha : ∀ t e w pl σ, cp_le σ (att t e w pl σ).2) (t e w : Nat) (pl : Nat → Nat) (σ : cp_S) : cp_le σ (cp_qnt T bag att t e w pl σ).2 := by
  unfold cp_qnt
  dsimp only
  simp only [List.append_assoc]
  refine cp_le_trans ?_ (cp_le_app (by omega))
  refine cp_le_trans ?_ (hb _ _ _)
  refine cp_le_trans ?_ cp_le_ch
  refine cp_le_trans ?_ (cp_le_app (Nat.le_add_right _ _))
  exact ha _ _ _ _ _
theorem cp_le_att0 (hb : ∀ t x σ, cp_le σ (bag t x σ).2) (ha : ∀ t e w pl σ, cp_le σ (att t e w pl σ).2) (t e w : Nat) (pl : Nat → Nat) (σ : cp_S) : cp_le σ (cp_att0 T bag att t e w pl σ).2 := by
  unfold cp_att0
  split
  · exact cp_le_refl
  · exact cp_le_refl
  · exact cp_le_fld hb t e w pl σ
  · exact cp_le_has hb t e w pl σ
  · exact cp_le_qnt hb ha t e w pl σ
  · exact cp_le_qnt hb ha t e w pl σ
  · split
    · exact ha _ _ _ _ _
    · dsimp only
      refine cp_le_trans ?_ (ha _ _ _ _ _)
      exact ha _ _ _ _ _
theorem cp_le_within (hb : ∀ t x σ, cp_le σ (bag t x σ).2) (ha : ∀ t e w pl σ, cp_le σ (att t e w pl σ).2) (fl : Bool) (a b : Nat) (x : cp_X) (σ : cp_S) : cp_le σ (cp_within T bag att fl a b x σ).2 := by
  unfold cp_within
  dsimp only
  split
  · rw [List.append_assoc]
    refine cp_le_trans ?_ (cp_le_app (by omega))
    refine cp_le_trans ?_ (ha _ _ _ _ _)
    exact hb _ _ _
  · refine cp_le_trans ?_ (cp_le_app (Nat.le_add_right _ _))
    refine cp_le_trans ?_ (ha _ _ _ _ _)
    exact hb _ _ _
theorem cp_le_sw (hb : ∀ t x σ, cp_le σ (bag t x σ).2) (ha : ∀ t e w pl σ, cp_le σ (att t e w pl σ).2) (t : Nat) (x : cp_X) (σ : cp_S) : cp_le σ (cp_sw T bag att t x σ).2 := by
  unfold cp_sw
  split
  · exact cp_le_app (Nat.le_refl _)
  · exact cp_le_within hb ha _ _ _ _ _
  · exact cp_le_within hb ha _ _ _ _ _
  · dsimp only
    refine cp_le_trans ?_ (cp_le_app (by omega))
    exact hb _ _ _
  · unfold cp_pairs
    dsimp only
    split
    · refine cp_le_trans ?_ (cp_le_app (Nat.le_refl _))
      refine cp_le_trans ?_ (hb _ _ _)
      exact hb _ _ _
    · refine cp_le_trans ?_ (cp_le_app (Nat.le_add_right _ _))
      refine cp_le_trans ?_ (hb _ _ _)
      exact hb _ _ _
  · unfold cp_apply
    dsimp only
    refine cp_le_trans ?_ (cp_le_app (Nat.le_refl _))
    refine cp_le_trans ?_ (hb _ _ _)
    refine cp_le_trans ?_ cp_le_ch
    exact hb _ _ _
  · dsimp only
    refine cp_le_trans ?_ (cp_le_app (Nat.le_refl _))
    refine cp_le_trans ?_ (hb _ _ _)
    exact hb _ _ _
  · dsimp only
    refine cp_le_trans ?_ (cp_le_app (Nat.le_refl _))
    exact hb _ _ _
  · dsimp only
    refine cp_le_trans ?_ (cp_le_app (Nat.le_refl _))
    exact hb _ _ _
  · unfold cp_groups
    dsimp only
    have h0 : cp_le (bag (sm_a (T t)) x σ).2 ((bag (sm_a (T t)) x σ).2.1, (bag (sm_a (T t)) x σ).2.2 + x.2.2.1 + (sm_ks (sm_n (T t))).length) := ⟨⟨[], (List.append_nil _).symm⟩, by dsimp only; omega⟩
    split
    · refine cp_le_trans ?_ (cp_le_app (Nat.le_add_right _ _))
      exact cp_le_trans (cp_le_trans (hb (sm_a (T t)) x σ) h0) cp_le_fold
    · exact cp_le_trans (cp_le_trans (hb (sm_a (T t)) x σ) h0) cp_le_fold
theorem cp_le_bag0 (hb : ∀ t x σ, cp_le σ (bag t x σ).2) (ha : ∀ t e w pl σ, cp_le σ (att t e w pl σ).2) (t : Nat) (x : cp_X) (σ : cp_S) : cp_le σ (cp_bag0 T bag att t x σ).2 := by
  unfold cp_bag0
  split
  · dsimp only
    refine cp_le_trans ?_ (cp_le_app (Nat.le_refl _))
    exact cp_le_sw hb ha t cp_U σ
  · exact cp_le_sw hb ha t x σ
end CL
theorem cp_mono (T : Nat → sm_T) : ∀ n, (∀ t x σ, cp_le σ ((cp T n).1 t x σ).2) ∧ (∀ t e w pl σ, cp_le σ ((cp T n).2 t e w pl σ).2)
  | 0 => ⟨fun _ _ _ => cp_le_refl, fun _ _ _ _ _ => cp_le_refl⟩
  | n + 1 => ⟨fun t x σ => cp_le_bag0 (cp_mono T n).1 (cp_mono T n).2 t x σ, fun t e w pl σ => cp_le_att0 (cp_mono T n).1 (cp_mono T n).2 t e w pl σ⟩
/-! the words of the contracts -/
def rx_Pre (T : Nat → sm_T) (N : Nat) (M : wd_M) (σ : cp_S) (o : Nat) (fs : List Nat) : Prop := tx_T M T N ∧ rx_R M σ o fs ∧ M 24 0 = nI 0 ∧ M 24 1 = nI 0
def rx_Po (M : wd_M) (σ : cp_S) (o : Nat) (fs : List Nat) (σ' : cp_S) (M' : wd_M) : Prop := rx_R M' σ' o fs ∧ rx_pl σ.2 M M' ∧ rx_F o 23 M M'
def rx_XA (M : wd_M) (a l : Nat) (x : cp_X) (o : Nat) : Prop := rx_op o a ∧ (x.1 = true ↔ a = 24) ∧ M a 0 = nI x.2.1 ∧ M a 1 = nI x.2.2.1 ∧ x.2.2.1 ≤ 32 ∧ ∀ k, k < 32 → l.testBit k = true → M (a + 1) k = nI (x.2.2.2 k)
theorem rx_Po_of {M M' : wd_M} {σ σ' : cp_S} {o : Nat} {fs : List Nat} (h : rx_R M σ o fs) (h1 : rx_S M' σ') (h2 : rx_pl σ.2 M M') (h3 : ak_fr 14 22 M M') : rx_Po M σ o fs σ' M' := ⟨rx_R_st h h1 h3, h2, rx_F_of h3⟩
theorem rx_Po_trans {M M1 M2 : wd_M} {σ σ1 σ2 : cp_S} {o : Nat} {fs : List Nat} (h : rx_Po M σ o fs σ1 M1) (h' : rx_Po M1 σ1 o fs σ2 M2) (hu : σ.2 ≤ σ1.2) : rx_Po M σ o fs σ2 M2 := ⟨h'.1, rx_pl_trans h.2.1 h'.2.1 hu, rx_F_trans h.2.2 h'.2.2⟩
theorem rx_Pre_of {T : Nat → sm_T} {N : Nat} {M M1 : wd_M} {σ σ1 : cp_S} {o : Nat} {fs : List Nat} (h : rx_Pre T N M σ o fs) (h' : rx_Po M σ o fs σ1 M1) : rx_Pre T N M1 σ1 o fs := by
  have e : M1 24 = M 24 := h'.2.2 24 (by omega) (by omega)
  exact ⟨rx_F_T h'.2.2 (by omega) h.1, h'.1, by rw [e]; exact h.2.2.1, by rw [e]; exact h.2.2.2⟩
theorem rx_XA_F {M M' : wd_M} {a l : Nat} {x : cp_X} {o : Nat} (h : rx_XA M a l x o) (f : rx_F o 23 M M') (ho : o ≤ 300) : rx_XA M' a l x o := by
  obtain ⟨h1, h2, h3, h4, h5, h6⟩ := h
  have g : a = 24 ∨ 28 ≤ a := by rcases h1 with q | ⟨j, q1, q2⟩ <;> omega
  refine ⟨h1, h2, ?_, ?_, h5, fun k k1 k2 => ?_⟩
  · rw [rx_op_F h1 f (by omega) ho]; exact h3
  · rw [rx_op_F h1 f (by omega) ho]; exact h4
  · rw [rx_op_F1 h1 f (by omega) ho]; exact h6 k k1 k2
theorem rx_XA_sub {M : wd_M} {a l l' : Nat} {x : cp_X} {o : Nat} (h : rx_XA M a l x o) (hl : ∀ k, l'.testBit k = true → l.testBit k = true) : rx_XA M a l' x o :=
  ⟨h.1, h.2.1, h.2.2.1, h.2.2.2.1, h.2.2.2.2.1, fun k k1 k2 => h.2.2.2.2.2 k k1 (hl k k2)⟩
theorem rx_XA_U {T : Nat → sm_T} {N : Nat} {M : wd_M} {σ : cp_S} {o : Nat} {fs : List Nat} (h : rx_Pre T N M σ o fs) : rx_XA M 24 0 cp_U o :=
  ⟨Or.inl rfl, ⟨fun _ => rfl, fun _ => rfl⟩, h.2.2.1, h.2.2.2, Nat.zero_le _, fun k _ q => by simp at q⟩
/-- the contract of bag, for terms below n -/
def rx_BagC (T : Nat → sm_T) (N : Nat) (tr : Nat → Nat) (z : wd_Z) (L : wd_L) (n : Nat) : Prop := ∀ t, t < n → t < N → 11 ≤ sm_k (T t) → ∀ (d : Nat) (M : wd_M) (σ : cp_S) (o : Nat) (fs : List Nat) (a : Nat) (x : cp_X) (K : Int32 → wd_Z → wd_M → wd_L → Prop), 8 * t + 8 ≤ d → rx_Pre T N M σ o fs → rx_XA M a (sm_l (T t)) x o → o + 2 * t + 2 ≤ 300 → fs.length + sm_zc T tr t ≤ 3000 →
  ((cp T n).1 t x σ).2.1.length ≤ 32768 → ((cp T n).1 t x σ).2.2 ≤ 524288 → (∀ M', rx_Po M σ o fs ((cp T n).1 t x σ).2 M' → K (nI ((cp T n).1 t x σ).1) z M' L) → wRunI (d, 0, 0) mX3_bag [.ref 23, .int (nI t), .ref a] z M L K
/-- the scope in which questions are asked -/
def rx_EA (M : wd_M) (a l e w : Nat) (pl : Nat → Nat) (o : Nat) : Prop := (∃ j, j < o ∧ a = 28 + 2 * j) ∧ M a 0 = nI e ∧ M a 1 = nI w ∧ ∀ k, k < 32 → l.testBit k = true → M (a + 1) k = nI (pl k)
/-- what attach leaves -/
def rx_Pa (M : wd_M) (σ : cp_S) (o : Nat) (fs : List Nat) (a : Nat) (g : (Nat × Nat × List Nat) × cp_S) (M' : wd_M) : Prop := rx_R M' g.2 o (fs ++ g.1.2.2) ∧ M' a 0 = nI g.1.1 ∧ M' a 1 = nI g.1.2.1 ∧ rx_pl σ.2 M M' ∧ rx_F o a M M'
def rx_AttC (T : Nat → sm_T) (N : Nat) (tr : Nat → Nat) (z : wd_Z) (L : wd_L) (n : Nat) : Prop := ∀ t, t < n → t < N → sm_k (T t) ≤ 10 → ∀ (d : Nat) (M : wd_M) (σ : cp_S) (o : Nat) (fs : List Nat) (a e w : Nat) (pl : Nat → Nat) (K : wd_Z → wd_M → wd_L → Prop), 8 * t + 8 ≤ d → rx_Pre T N M σ o fs → rx_EA M a (sm_l (T t)) e w pl o → o + 2 * t + 1 ≤ 300 → fs.length + sm_zc T tr t ≤ 3000 → w + 3 * sm_zc T tr t ≤ 100000 →
  ((cp T n).2 t e w pl σ).2.1.length ≤ 32768 → ((cp T n).2 t e w pl σ).2.2 ≤ 524288 → (∀ M', rx_Pa M σ o fs a ((cp T n).2 t e w pl σ) M' → K z M' L) → wRunV (d, 0, 0) mX3_attach [.ref 23, .int (nI t), .ref a] z M L K
theorem rx_EA_sc {M : wd_M} {a l e w : Nat} {pl : Nat → Nat} {o : Nat} (h : rx_EA M a l e w pl o) (ho : o ≤ 300) : rx_sc a ∧ rx_op o a ∧ 28 ≤ a := by
  obtain ⟨⟨j, h1, h2⟩, -⟩ := h
  exact ⟨Or.inr ⟨j, by omega, h2⟩, Or.inr ⟨j, h1, h2⟩, by omega⟩
theorem rx_EA_sub {M : wd_M} {a l l' e w : Nat} {pl : Nat → Nat} {o : Nat} (h : rx_EA M a l e w pl o) (hl : ∀ k, l'.testBit k = true → l.testBit k = true) : rx_EA M a l' e w pl o := ⟨h.1, h.2.1, h.2.2.1, fun k k1 k2 => h.2.2.2 k k1 (hl k k2)⟩
theorem rx_Pa_EA {M M' : wd_M} {σ : cp_S} {o : Nat} {fs : List Nat} {a l e w : Nat} {pl : Nat → Nat} {g : (Nat × Nat × List Nat) × cp_S} (h : rx_EA M a l e w pl o) (h' : rx_Pa M σ o fs a g M') : rx_EA M' a l g.1.1 g.1.2.1 pl o := by
  obtain ⟨⟨j, h1, h2⟩, h3, h4, h5⟩ := h
  obtain ⟨g1, g2, g3, g4, g5⟩ := h'
  exact ⟨⟨j, h1, h2⟩, g2, g3, fun k k1 k2 => by rw [g5 (a + 1) (by omega) (by omega)]; exact h5 k k1 k2⟩
theorem rx_Pa_Pre {T : Nat → sm_T} {N : Nat} {M M' : wd_M} {σ : cp_S} {o : Nat} {fs : List Nat} {a : Nat} {g : (Nat × Nat × List Nat) × cp_S} (h : rx_Pre T N M σ o fs) (h' : rx_Pa M σ o fs a g M') (ha : 28 ≤ a) : rx_Pre T N M' g.2 o (fs ++ g.1.2.2) := by
  obtain ⟨g1, g2, g3, g4, g5⟩ := h'
  have e : M' 24 = M 24 := g5 24 (by omega) (by omega)
  exact ⟨rx_F_T g5 (by omega) h.1, g1, by rw [e]; exact h.2.2.1, by rw [e]; exact h.2.2.2⟩
theorem rx_F_up {o ex c i : Nat} {v : Int32} {M M' : wd_M} (h : rx_F o ex M M') (hc : c = 23 ∨ c = 27 ∨ c = ex ∨ (14 ≤ c ∧ c ≤ 22) ∨ (28 + 2 * o ≤ c ∧ c ≤ 627)) : rx_F o ex M (am_up2 M' c i v) := fun q hq he => by
  rw [ak_up_cell (by omega)]; exact h q hq he
/-- the scopes opened last go -/
theorem rx_close {M : wd_M} {σ : cp_S} {o k : Nat} {fs : List Nat} (h : rx_R M σ (o + k) fs) : rx_R (am_up2 M 23 4 (M 23 4 - nI k)) σ o fs := by
  obtain ⟨h1, h2, h3⟩ := h
  refine ⟨rx_S_fr h1 fun c g1 g2 => ak_up_cell (by omega), ?_, rx_fd_fr h3 (ak_up_ne (by omega)) (ak_up_cell (by omega))⟩
  rw [ak_up_same, h2, pk_sub (by omega), Nat.add_sub_cancel]
