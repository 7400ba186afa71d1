/-! CONTRACTS of ApplyFree$Steps: rx_S M σ: the memory holds the steps and the pool σ -/
def ak_fr (lo hi : Nat) (M M' : wd_M) : Prop := ∀ c, (c < lo ∨ hi < c) → M' c = M c
theorem ak_fr_refl {lo hi : Nat} {M : wd_M} : ak_fr lo hi M M := fun _ _ => rfl
theorem ak_fr_trans {lo hi : Nat} {M M' M'' : wd_M} (h : ak_fr lo hi M M') (h' : ak_fr lo hi M' M'') : ak_fr lo hi M M'' := fun c hc => (h' c hc).trans (h c hc)
theorem ak_fr_mono {lo hi lo' hi' : Nat} {M M' : wd_M} (h : ak_fr lo hi M M') (h1 : lo' ≤ lo) (h2 : hi ≤ hi') : ak_fr lo' hi' M M' := fun c hc => h c (by omega)
theorem ak_fr_up {lo hi c i : Nat} {v : Int32} {M M' : wd_M} (h : ak_fr lo hi M M') (h1 : lo ≤ c) (h2 : c ≤ hi) : ak_fr lo hi M (am_up2 M' c i v) := fun q hq => by
  rw [ak_up_cell (by omega)]; exact h q hq
def rx_st (M : wd_M) (u s : Nat) (st : cp_St) : Prop := M 15 s = nI st.1 ∧ M 16 s = ak_o st.2.1 ∧ M 17 s = ak_o st.2.2.1 ∧ M 19 s = nI st.2.2.2.1 ∧ M 20 s = st.2.2.2.2.2.1 ∧ M 21 s = st.2.2.2.2.2.2 ∧ ∃ p, M 18 s = nI p ∧ p + st.2.2.2.2.1.length ≤ u ∧ sl_at (M 22) p st.2.2.2.2.1
def rx_S (M : wd_M) (σ : cp_S) : Prop := M 14 0 = nI σ.1.length ∧ M 14 9 = nI σ.2 ∧ ∀ s st, σ.1[s]? = some st → rx_st M σ.2 s st
theorem rx_S_fr {M M' : wd_M} {σ : cp_S} (h : rx_S M σ) (e : ∀ c, 14 ≤ c → c ≤ 22 → M' c = M c) : rx_S M' σ := by
  unfold rx_S rx_st at *
  rw [e 14 (by omega) (by omega), e 15 (by omega) (by omega), e 16 (by omega) (by omega), e 17 (by omega) (by omega), e 18 (by omega) (by omega), e 19 (by omega) (by omega), e 20 (by omega) (by omega), e 21 (by omega) (by omega), e 22 (by omega) (by omega)]
  exact h
/-- the pool up to a place is as it was -/
def rx_pl (u : Nat) (M M' : wd_M) : Prop := ∀ i, i < u → M' 22 i = M 22 i
theorem rx_pl_refl {u : Nat} {M : wd_M} : rx_pl u M M := fun _ _ => rfl
theorem rx_pl_trans {u u' : Nat} {M M' M'' : wd_M} (h : rx_pl u M M') (h' : rx_pl u' M' M'') (hu : u ≤ u') : rx_pl u M M'' := fun i hi => (h' i (by omega)).trans (h i hi)
theorem rx_pl_sl {u p : Nat} {M M' : wd_M} {l : List Int32} (h : rx_pl u M M') (hs : sl_at (M 22) p l) (hu : p + l.length ≤ u) : sl_at (M' 22) p l := sl_congr hs fun i hi => h _ (by omega)
theorem rx_grow {M : wd_M} {σ : cp_S} {u : Nat} (h : rx_S M σ) (hu : σ.2 ≤ u) (he : M 14 9 = nI u) : rx_S M (σ.1, u) := by
  obtain ⟨h1, h2, h3⟩ := h
  refine ⟨h1, he, fun s st hs => ?_⟩
  obtain ⟨a1, a2, a3, a4, a5, a6, p, a7, a8, a9⟩ := h3 s st hs
  exact ⟨a1, a2, a3, a4, a5, a6, p, a7, Nat.le_trans a8 hu, a9⟩
section RX
variable {d : Nat} {z : wd_Z} {M : wd_M} {L : wd_L}
theorem rx_put {σ : cp_S} {v : Int32} {K : wd_Z → wd_M → wd_L → Prop} (h : rx_S M σ) (hu : σ.2 < 524288)
    (hK : ∀ M', rx_S M' (σ.1, σ.2 + 1) → M' 22 σ.2 = v → rx_pl σ.2 M M' → ak_fr 14 22 M M' → K z M' L) : wRunV (d, 0, 0) mX2_put [.ref 14, .int v] z M L K := by
  obtain ⟨h1, h2, h3⟩ := h
  refine fX2_put_e ?_
  rw [h2, nI_1, nI_clamp (by omega)]
  have pl : rx_pl σ.2 M (am_up2 (am_up2 M 14 9 (nI (σ.2 + 1))) 22 σ.2 v) := fun i hi => by rw [ak_up_ne (by omega), ak_up_cell (by omega)]
  refine ⟨vp_in_nI hu (by omega), wQv_i (hK _ ⟨?_, ?_, fun s st hs => ?_⟩ ak_up_same pl ?_)⟩
  · rw [ak_up_cell (by omega), ak_up_ne (by omega)]; exact h1
  · rw [ak_up_cell (by omega), ak_up_same]
  · obtain ⟨a1, a2, a3, a4, a5, a6, p, a7, a8, a9⟩ := h3 s st hs
    unfold rx_st
    rw [ak_up_cell (c' := 15) (by omega), ak_up_cell (c' := 16) (by omega), ak_up_cell (c' := 17) (by omega), ak_up_cell (c' := 18) (by omega), ak_up_cell (c' := 19) (by omega), ak_up_cell (c' := 20) (by omega), ak_up_cell (c' := 21) (by omega),
      ak_up_cell (c' := 15) (by omega), ak_up_cell (c' := 16) (by omega), ak_up_cell (c' := 17) (by omega), ak_up_cell (c' := 18) (by omega), ak_up_cell (c' := 19) (by omega), ak_up_cell (c' := 20) (by omega), ak_up_cell (c' := 21) (by omega)]
    exact ⟨a1, a2, a3, a4, a5, a6, p, a7, by show _ ≤ σ.2 + 1; omega, rx_pl_sl pl a9 a8⟩
  · exact ak_fr_up (ak_fr_up ak_fr_refl (by omega) (by omega)) (by omega) (by omega)
/-- a new step; its list lies in the pool -/
theorem rx_add {σ : cp_S} {st : cp_St} {p : Nat} {x1 x5 : Int32} {x2 x3 : Int32} {K : Int32 → wd_Z → wd_M → wd_L → Prop} (h : rx_S M σ) (hc : σ.1.length < 32768)
    (e1 : x1 = nI st.1) (e2 : x2 = ak_o st.2.1) (e3 : x3 = ak_o st.2.2.1) (e5 : x5 = nI st.2.2.2.1) (h1 : st.1 < 128) (hp : p + st.2.2.2.2.1.length ≤ σ.2) (hs : sl_at (M 22) p st.2.2.2.2.1)
    (hK : ∀ M', rx_S M' (σ.1 ++ [st], σ.2) → rx_pl σ.2 M M' → ak_fr 14 22 M M' → K (nI σ.1.length) z M' L) :
    wRunI (d, 0, 0) mX2_add [.ref 14, .int x1, .int x2, .int x3, .int (nI p), .int x5, .int st.2.2.2.2.2.1, .int st.2.2.2.2.2.2] z M L K := by
  obtain ⟨g1, g2, g3⟩ := h
  refine fX2_add_e ?_
  have hin := vp_in_nI hc (by omega)
  subst e1 e2 e3 e5
  rw [g1, nI_1, nI_clamp (by omega), ak_byte h1]
  refine ⟨hin, hin, hin, hin, hin, hin, hin, wQi_i (hK _ ⟨?_, ?_, fun s q hq => ?_⟩ (fun i _ => ?_) ?_)⟩
  · simp [am_up2, am_upC, upd]
  · simp [am_up2, am_upC, upd]; exact g2
  · by_cases hlt : s < σ.1.length
    · rw [List.getElem?_append_left hlt] at hq
      have := g3 s q hq
      have hne : s ≠ σ.1.length := by omega
      unfold rx_st at this ⊢
      simp only [am_up2, am_upC, upd]
      simp [hne, upd]
      exact this
    · have hl : s < (σ.1 ++ [st]).length := (List.getElem?_eq_some_iff.mp hq).1
      rw [List.length_append] at hl
      have hl : s < σ.1.length + 1 := hl
      have es : s = σ.1.length := by omega
      rw [es, List.getElem?_append_right (Nat.le_refl _), Nat.sub_self] at hq
      have eq : st = q := by simpa using hq
      subst es eq
      unfold rx_st
      simp only [am_up2, am_upC, upd]
      simp [upd]
      exact ⟨p, rfl, hp, hs⟩
  · simp [am_up2, am_upC]
  · exact ak_fr_up (ak_fr_up (ak_fr_up (ak_fr_up (ak_fr_up (ak_fr_up (ak_fr_up (ak_fr_up ak_fr_refl (by omega) (by omega)) (by omega) (by omega)) (by omega) (by omega)) (by omega) (by omega)) (by omega) (by omega)) (by omega) (by omega)) (by omega) (by omega)) (by omega) (by omega)
/-- what a method that adds one step leaves -/
abbrev rx_Post (σ : cp_S) (M : wd_M) (st : cp_St) (K : Int32 → wd_M → Prop) : Prop := ∀ M', rx_S M' (σ.1 ++ [st], σ.2) → rx_pl σ.2 M M' → ak_fr 14 22 M M' → K (nI σ.1.length) M'
theorem rx_unit {σ : cp_S} {K : Int32 → wd_Z → wd_M → wd_L → Prop} (hd : 1 ≤ d) (h : rx_S M σ) (hc : σ.1.length < 32768) (hK : rx_Post σ M cp_unit fun v M' => K v z M' L) : wRunI (d, 0, 0) mX2_unit [.ref 14] z M L K := by
  obtain ⟨d, rfl, -⟩ := ak_deep hd
  exact fX2_unit_e (rx_add (p := 0) (st := cp_unit) h hc rfl rfl rfl rfl (show (0 : Nat) < 128 by decide) (Nat.zero_le _) sl_nil fun M' a b c => wQi_i (hK M' a b c))
theorem rx_laid {σ : cp_S} {k : Int32} {K : Int32 → wd_Z → wd_M → wd_L → Prop} (hd : 1 ≤ d) (h : rx_S M σ) (hc : σ.1.length < 32768) (hK : rx_Post σ M (cp_laid k) fun v M' => K v z M' L) : wRunI (d, 0, 0) mX2_laid [.ref 14, .int k] z M L K := by
  obtain ⟨d, rfl, -⟩ := ak_deep hd
  exact fX2_laid_e (rx_add (p := 0) (st := cp_laid k) h hc rfl rfl rfl rfl (show (1 : Nat) < 128 by decide) (Nat.zero_le _) sl_nil fun M' a b c => wQi_i (hK M' a b c))
theorem rx_cross {σ : cp_S} {l r : Nat} {K : Int32 → wd_Z → wd_M → wd_L → Prop} (hd : 1 ≤ d) (h : rx_S M σ) (hc : σ.1.length < 32768) (hK : rx_Post σ M (cp_set 2 l r) fun v M' => K v z M' L) : wRunI (d, 0, 0) mX2_cross [.ref 14, .int (nI l), .int (nI r)] z M L K := by
  obtain ⟨d, rfl, -⟩ := ak_deep hd
  exact fX2_cross_e (rx_add (p := 0) (st := cp_set 2 l r) h hc rfl rfl rfl rfl (show (2 : Nat) < 128 by decide) (Nat.zero_le _) sl_nil fun M' a b c => wQi_i (hK M' a b c))
theorem rx_sets {σ : cp_S} {op l r : Nat} {K : Int32 → wd_Z → wd_M → wd_L → Prop} (hd : 1 ≤ d) (h : rx_S M σ) (hc : σ.1.length < 32768) (ho : op < 128) (hK : rx_Post σ M (cp_set op l r) fun v M' => K v z M' L) : wRunI (d, 0, 0) mX2_sets [.ref 14, .int (nI op), .int (nI l), .int (nI r)] z M L K := by
  obtain ⟨d, rfl, -⟩ := ak_deep hd
  exact fX2_sets_e (rx_add (p := 0) (st := cp_set op l r) h hc rfl rfl rfl rfl ho (Nat.zero_le _) sl_nil fun M' a b c => wQi_i (hK M' a b c))
theorem rx_uniq {σ : cp_S} {l : Nat} {K : Int32 → wd_Z → wd_M → wd_L → Prop} (hd : 1 ≤ d) (h : rx_S M σ) (hc : σ.1.length < 32768) (hK : rx_Post σ M (cp_uniq l) fun v M' => K v z M' L) : wRunI (d, 0, 0) mX2_unique [.ref 14, .int (nI l)] z M L K := by
  obtain ⟨d, rfl, -⟩ := ak_deep hd
  exact fX2_unique_e (rx_add (p := 0) (st := cp_uniq l) h hc rfl rfl rfl rfl (show (10 : Nat) < 128 by decide) (Nat.zero_le _) sl_nil fun M' a b c => wQi_i (hK M' a b c))
theorem rx_top {σ : cp_S} {l n : Nat} {v : Int32} {K : Int32 → wd_Z → wd_M → wd_L → Prop} (hd : 1 ≤ d) (h : rx_S M σ) (hc : σ.1.length < 32768) (hK : rx_Post σ M (cp_top l n v) fun v M' => K v z M' L) : wRunI (d, 0, 0) mX2_top [.ref 14, .int (nI l), .int (nI n), .int v] z M L K := by
  obtain ⟨d, rfl, -⟩ := ak_deep hd
  exact fX2_top_e (rx_add (p := 0) (st := cp_top l n v) h hc rfl rfl rfl rfl (show (12 : Nat) < 128 by decide) (Nat.zero_le _) sl_nil fun M' a b c => wQi_i (hK M' a b c))
theorem rx_pick {σ : cp_S} {l p : Nat} {ls : List Int32} {x3 : Int32} {K : Int32 → wd_Z → wd_M → wd_L → Prop} (hd : 1 ≤ d) (h : rx_S M σ) (hc : σ.1.length < 32768) (e3 : x3 = nI ls.length) (hp : p + ls.length ≤ σ.2) (hs : sl_at (M 22) p ls) (hK : rx_Post σ M (cp_pick l ls) fun v M' => K v z M' L) : wRunI (d, 0, 0) mX2_pick [.ref 14, .int (nI l), .int (nI p), .int x3] z M L K := by
  obtain ⟨d, rfl, -⟩ := ak_deep hd
  exact fX2_pick_e (rx_add (p := p) (st := cp_pick l ls) h hc rfl rfl rfl e3 (show (5 : Nat) < 128 by decide) hp hs fun M' a b c => wQi_i (hK M' a b c))
theorem rx_join {σ : cp_S} {l r p : Nat} {ls : List Int32} {k v x5 : Int32} {K : Int32 → wd_Z → wd_M → wd_L → Prop} (hd : 1 ≤ d) (h : rx_S M σ) (hc : σ.1.length < 32768) (e5 : x5 = nI ls.length) (hp : p + ls.length ≤ σ.2) (hs : sl_at (M 22) p ls) (hK : rx_Post σ M (cp_join k l r ls v) fun v M' => K v z M' L) : wRunI (d, 0, 0) mX2_join [.ref 14, .int k, .int (nI l), .int (nI r), .int (nI p), .int x5, .int v] z M L K := by
  obtain ⟨d, rfl, -⟩ := ak_deep hd
  exact fX2_join_e (rx_add (p := p) (st := cp_join k l r ls v) h hc rfl rfl rfl e5 (show (6 : Nat) < 128 by decide) hp hs fun M' a b c => wQi_i (hK M' a b c))
theorem rx_gath {σ : cp_S} {l p : Nat} {ls : List Int32} {f c x3 : Int32} {K : Int32 → wd_Z → wd_M → wd_L → Prop} (hd : 1 ≤ d) (h : rx_S M σ) (hc : σ.1.length < 32768) (e3 : x3 = nI ls.length) (hp : p + ls.length ≤ σ.2) (hs : sl_at (M 22) p ls) (hK : rx_Post σ M (cp_gath l ls f c) fun v M' => K v z M' L) : wRunI (d, 0, 0) mX2_gather [.ref 14, .int (nI l), .int (nI p), .int x3, .int f, .int c] z M L K := by
  obtain ⟨d, rfl, -⟩ := ak_deep hd
  exact fX2_gather_e (rx_add (p := p) (st := cp_gath l ls f c) h hc rfl rfl rfl e3 (show (11 : Nat) < 128 by decide) hp hs fun M' a b c => wQi_i (hK M' a b c))
/-- a program: what lies in the pool from p on -/
theorem rx_sel {σ : cp_S} {l p : Nat} {ls : List Int32} {K : Int32 → wd_Z → wd_M → wd_L → Prop} (hd : 1 ≤ d) (h : rx_S M σ) (hc : σ.1.length < 32768) (hp : p + ls.length = σ.2) (hs : sl_at (M 22) p ls) (hK : rx_Post σ M (cp_sel l ls) fun v M' => K v z M' L) : wRunI (d, 0, 0) mX2_select [.ref 14, .int (nI l), .int (nI p)] z M L K := by
  obtain ⟨d, rfl, -⟩ := ak_deep hd
  refine fX2_select_e ?_
  rw [h.2.1, pk_sub (by omega), show σ.2 - p = ls.length by omega]
  exact rx_add (p := p) (st := cp_sel l ls) h hc rfl rfl rfl rfl (show (3 : Nat) < 128 by decide) (Nat.le_of_eq hp) hs fun M' a b c => wQi_i (hK M' a b c)
theorem rx_ext {σ : cp_S} {l p : Nat} {ls : List Int32} {K : Int32 → wd_Z → wd_M → wd_L → Prop} (hd : 1 ≤ d) (h : rx_S M σ) (hc : σ.1.length < 32768) (hp : p + ls.length = σ.2) (hs : sl_at (M 22) p ls) (hK : rx_Post σ M (cp_ext l ls) fun v M' => K v z M' L) : wRunI (d, 0, 0) mX2_extend [.ref 14, .int (nI l), .int (nI p)] z M L K := by
  obtain ⟨d, rfl, -⟩ := ak_deep hd
  refine fX2_extend_e ?_
  rw [h.2.1, pk_sub (by omega), show σ.2 - p = ls.length by omega]
  exact rx_add (p := p) (st := cp_ext l ls) h hc rfl rfl rfl rfl (show (4 : Nat) < 128 by decide) (Nat.le_of_eq hp) hs fun M' a b c => wQi_i (hK M' a b c)
/-- the columns from a up to before a + n -/
theorem rx_span_8 {σ0 : Nat} {Q : am_Q} : ∀ (n a : Nat) (M : wd_M) (σ : cp_S), rx_S M σ → σ.2 + n ≤ 524288 → a + n < 2 ^ 31 →
    (∀ M', rx_S M' (σ.1, σ.2 + n) → rx_pl σ.2 M M' → sl_at (M' 22) σ.2 ((List.range' a n).map nI) → ak_fr 14 22 M M' → Q (some (.int (nI σ0))) (wd z M' L)) →
    wRun (d + 1, 0, 0) mX2_span 8 [some (.ref 14), none, some (.int (nI (a + n))), some (.int (nI σ0)), some (.int (nI a))] [] z M L Q
  | 0, a, M, σ, h, _, ha, hQ => by
    refine fX2_span_8 ⟨fun _ => hQ M h rx_pl_refl (by simpa using sl_nil) ak_fr_refl, fun q => absurd (nI_le (Nat.le_refl _) (by omega)) q⟩
  | n + 1, a, M, σ, h, hu, ha, hQ => by
    refine fX2_span_8 ⟨fun q => absurd q (nI_ge (by omega) (by omega)), fun _ => ?_⟩
    refine rx_put h (by omega) fun M1 b1 b2 b3 b4 => ?_
    rw [nI_1, show a + (n + 1) = a + 1 + n by omega]
    refine rx_span_8 n (a + 1) M1 (σ.1, σ.2 + 1) b1 (by show σ.2 + 1 + n ≤ _; omega) (by omega) fun M2 c1 c2 c3 c4 => ?_
    refine hQ M2 (by rw [show σ.2 + (n + 1) = σ.2 + 1 + n by omega]; exact c1) (rx_pl_trans b3 c2 (by show σ.2 ≤ σ.2 + 1; omega)) ?_ (ak_fr_trans b4 c4)
    rw [List.range'_succ, List.map_cons, sl_cons]
    exact ⟨by rw [c2 σ.2 (by show σ.2 < σ.2 + 1; omega)]; exact b2, c3⟩
theorem rx_span {σ : cp_S} {n : Nat} {x2 : Int32} {K : Int32 → wd_Z → wd_M → wd_L → Prop} (hd : 1 ≤ d) (h : rx_S M σ) (hu : σ.2 + n ≤ 524288) (e2 : x2 = nI n)
    (hK : ∀ M', rx_S M' (σ.1, σ.2 + n) → rx_pl σ.2 M M' → sl_at (M' 22) σ.2 (cp_sp n) → ak_fr 14 22 M M' → K (nI σ.2) z M' L) : wRunI (d, 0, 0) mX2_span [.ref 14, .int 0, .int x2] z M L K := by
  obtain ⟨d, rfl, -⟩ := ak_deep hd
  refine fX2_span_e ?_
  subst e2
  rw [h.2.1]
  have := rx_span_8 (d := d) (z := z) (L := L) (σ0 := σ.2) (Q := wQi K) n 0 M σ h hu (by omega) (fun M' a b c e => wQi_i (hK M' a b (by unfold cp_sp; rw [List.range_eq_range']; exact c) e))
  rw [Nat.zero_add] at this
  exact this
theorem rx_pickFirst {σ : cp_S} {l n : Nat} {x2 : Int32} {K : Int32 → wd_Z → wd_M → wd_L → Prop} (hd : 2 ≤ d) (h : rx_S M σ) (hc : σ.1.length < 32768) (hu : σ.2 + n ≤ 524288) (e2 : x2 = nI n)
    (hK : ∀ M', rx_S M' (σ.1 ++ [cp_pick l (cp_sp n)], σ.2 + n) → rx_pl σ.2 M M' → ak_fr 14 22 M M' → K (nI σ.1.length) z M' L) : wRunI (d, 0, 0) mX2_pickFirst [.ref 14, .int (nI l), .int x2] z M L K := by
  obtain ⟨d, rfl, hd'⟩ := ak_deep hd
  refine fX2_pickFirst_e ?_
  refine rx_span hd' h hu e2 fun M1 b1 b2 b3 b4 => ?_
  refine rx_pick hd' b1 hc (by simp [cp_sp, e2]) (by simp [cp_sp]) b3 fun M2 c1 c2 c3 => wQi_i (hK M2 c1 (rx_pl_trans b2 c2 (by simp)) (ak_fr_trans b4 c3))
theorem rx_clear {K : wd_Z → wd_M → wd_L → Prop} (hK : ∀ M', rx_S M' ([], 0) → ak_fr 14 22 M M' → K z M' L) : wRunV (d, 0, 0) mX2_clear [.ref 14] z M L K := by
  refine fX2_clear_e (wQv_i (hK _ ⟨?_, ?_, fun s st hs => ?_⟩ ?_))
  · simp [am_up2, am_upC, upd]; rfl
  · simp [am_up2, am_upC, upd]; rfl
  · simp at hs
  · exact ak_fr_up (ak_fr_up ak_fr_refl (by omega) (by omega)) (by omega) (by omega)
end RX
