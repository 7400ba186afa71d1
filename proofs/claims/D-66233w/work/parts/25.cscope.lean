/-! CONTRACTS of ApplyFree$Rewriter, first part: scopes, terms in memory, note, ofNone, fold, around, choices -/
theorem ak_blt_t {a b : Nat} (h : a < b) : Nat.blt a b = true := by rw [Nat.blt_eq]; exact h
theorem ak_blt_f {a b : Nat} (h : b ≤ a) : Nat.blt a b = false := by
  cases e : Nat.blt a b with
  | false => rfl
  | true => rw [Nat.blt_eq] at e; omega
theorem ak_beq_t {a b : Nat} (h : a = b) : Nat.beq a b = true := by rw [Nat.beq_eq]; exact h
theorem ak_beq_f {a b : Nat} (h : a ≠ b) : Nat.beq a b = false := by
  cases e : Nat.beq a b with
  | false => rfl
  | true => rw [Nat.beq_eq] at e; omega
/-- the places of scopes -/
def rx_sc (a : Nat) : Prop := a = 24 ∨ ∃ j, j < 300 ∧ a = 28 + 2 * j
theorem rx_sc_typ {z : wd_Z} {a : Nat} (h : rx_sc a) : wd_typ z a = .inl 4 := by
  rcases h with rfl | ⟨j, h1, rfl⟩
  · rfl
  · unfold wd_typ
    rw [ak_blt_f (by omega), ak_blt_t (a := 28 + 2 * j) (b := 628) (by omega), ak_beq_t (a := (28 + 2 * j) % 2) (by omega)]; rfl
theorem rx_sc_arr {z : wd_Z} {a : Nat} (h : rx_sc a) : wd_typ z (a + 1) = .inr (0, 32) := by
  rcases h with rfl | ⟨j, h1, rfl⟩
  · rfl
  · unfold wd_typ
    rw [ak_blt_f (by omega), ak_blt_t (a := 28 + 2 * j + 1) (b := 628) (by omega), ak_beq_f (a := (28 + 2 * j + 1) % 2) (by omega)]; rfl
theorem rx_sc_ref {z : wd_Z} {a : Nat} (h : rx_sc a) : wd_R z a 2 = some (a + 1) := by
  rcases h with rfl | ⟨j, h1, rfl⟩
  · rfl
  · unfold wd_R
    rw [ak_blt_f (by omega), ak_blt_t (a := 28 + 2 * j) (b := 628) (by omega), ak_beq_t (a := (28 + 2 * j) % 2) (by omega)]; rfl
theorem rx_sc_get {z : wd_Z} {o : Nat} (h : o < 300) : wd_R z 26 o = some (28 + 2 * o) := by
  unfold wd_R
  show cond (Nat.blt o 300) _ _ = _
  rw [ak_blt_t h]; rfl
theorem rx_gO {z : wd_Z} {a : Nat} {P : Prop} (h : rx_sc a) (p : P) : am_gd (am_isO (wd_typ z a) 4) P := am_gd_i (by rw [rx_sc_typ h]; rfl) p
theorem rx_gP0 {z : wd_Z} {a : Nat} {P : Prop} {b : Bool} (h : rx_sc a) (p : P) : am_gd (am_isO (wd_typ z a) 4 && (!((am_T 4) 0).2.2.2 || b)) P := am_gd_i (by rw [rx_sc_typ h]; rfl) p
theorem rx_gP1 {z : wd_Z} {a : Nat} {P : Prop} {b : Bool} (h : rx_sc a) (p : P) : am_gd (am_isO (wd_typ z a) 4 && (!((am_T 4) 1).2.2.2 || b)) P := am_gd_i (by rw [rx_sc_typ h]; rfl) p
theorem rx_gP3 {z : wd_Z} {a : Nat} {P : Prop} {b : Bool} (h : rx_sc a) (p : P) : am_gd (am_isO (wd_typ z a) 4 && (!((am_T 4) 3).2.2.2 || b)) P := am_gd_i (by rw [rx_sc_typ h]; rfl) p
theorem rx_gI {z : wd_Z} {a : Nat} {P : Prop} (h : rx_sc a) (p : P) : am_gd (am_isI (wd_typ z (a + 1))) P := am_gd_i (by rw [rx_sc_arr h]; rfl) p
theorem rx_gA {z : wd_Z} {a : Nat} {P : Prop} (h : rx_sc a) (p : P) : am_gd (am_isA (wd_typ z (a + 1)) 0) P := am_gd_i (by rw [rx_sc_arr h]; rfl) p
theorem rx_gL {z : wd_Z} {a k : Nat} (h : rx_sc a) (hk : k < 32) : vp_in (nI k) (am_len (wd_typ z (a + 1))) := by rw [rx_sc_arr h]; exact vp_in_nI hk (by decide)
theorem rx_gR {z : wd_Z} {a : Nat} {P : Nat → Prop} (h : rx_sc a) (p : P (a + 1)) : am_bR (wd_R z a 2) P := am_bR_i (rx_sc_ref h) p
/-! terms in memory -/
def tx_T (M : wd_M) (T : Nat → sm_T) (n : Nat) : Prop := M 3 11 = nI n ∧ n ≤ 120 ∧ ∀ t, t < n → M 4 t = nI (sm_k (T t)) ∧ M 5 t = nI (sm_o (T t)) ∧ M 6 t = ak_o (T t).2.2.1 ∧ M 7 t = ak_o (T t).2.2.2.1 ∧ M 8 t = sm_n (T t) ∧ M 9 t = nI (sm_c (T t)) ∧ M 10 t = nI (sm_w (T t)) ∧ M 11 t = nI (sm_l (T t))
theorem tx_T_fr {M M' : wd_M} {T : Nat → sm_T} {n : Nat} (h : tx_T M T n) (e : ∀ c, 3 ≤ c → c ≤ 11 → M' c = M c) : tx_T M' T n := by
  unfold tx_T at *
  rw [e 3 (by omega) (by omega), e 4 (by omega) (by omega), e 5 (by omega) (by omega), e 6 (by omega) (by omega), e 7 (by omega) (by omega), e 8 (by omega) (by omega), e 9 (by omega) (by omega), e 10 (by omega) (by omega), e 11 (by omega) (by omega)]
  exact h
/-! the rewriter's own state: open scopes, found columns -/
def rx_fd (M : wd_M) (fs : List Nat) : Prop := M 23 6 = nI fs.length ∧ ∀ i c, fs[i]? = some c → M 27 i = nI c
def rx_R (M : wd_M) (σ : cp_S) (o : Nat) (fs : List Nat) : Prop := rx_S M σ ∧ M 23 4 = nI o ∧ rx_fd M fs
/-- what stays: all but the rewriter's own, the scopes from o on and the scope ex -/
def rx_F (o ex : Nat) (M M' : wd_M) : Prop := ∀ c, (c < 14 ∨ 627 < c ∨ c = 24 ∨ c = 25 ∨ (28 ≤ c ∧ c < 28 + 2 * o)) → c ≠ ex → M' c = M c
theorem rx_F_refl {o ex : Nat} {M : wd_M} : rx_F o ex M M := fun _ _ _ => rfl
theorem rx_F_trans {o ex : Nat} {M M' M'' : wd_M} (h : rx_F o ex M M') (h' : rx_F o ex M' M'') : rx_F o ex M M'' := fun c hc he => (h' c hc he).trans (h c hc he)
theorem rx_F_mono {o o' ex : Nat} {M M' : wd_M} (h : rx_F o' ex M M') (ho : o ≤ o') : rx_F o ex M M' := fun c hc he => h c (by omega) he
theorem rx_F_ex {o ex : Nat} {M M' : wd_M} (h : rx_F o 23 M M') : rx_F o ex M M' := fun c hc _ => h c hc (by omega)
theorem rx_F_of {o ex : Nat} {M M' : wd_M} (h : ak_fr 14 22 M M') : rx_F o ex M M' := fun c hc _ => h c (by omega)
theorem rx_F_T {o ex : Nat} {M M' : wd_M} {T : Nat → sm_T} {n : Nat} (h : rx_F o ex M M') (he : 14 ≤ ex) (t : tx_T M T n) : tx_T M' T n := tx_T_fr t fun c _ h2 => h c (by omega) (by omega)
theorem rx_fd_fr {M M' : wd_M} {fs : List Nat} (h : rx_fd M fs) (e1 : M' 23 6 = M 23 6) (e2 : M' 27 = M 27) : rx_fd M' fs := by
  unfold rx_fd at *
  rw [e1, e2]; exact h
theorem rx_R_st {M M' : wd_M} {σ σ' : cp_S} {o : Nat} {fs : List Nat} (h : rx_R M σ o fs) (hs : rx_S M' σ') (f : ak_fr 14 22 M M') : rx_R M' σ' o fs :=
  ⟨hs, by rw [f 23 (by omega)]; exact h.2.1, rx_fd_fr h.2.2 (by rw [f 23 (by omega)]) (f 27 (by omega))⟩
section RZ
variable {d : Nat} {z : wd_Z} {M : wd_M} {L : wd_L}
theorem rx_ofNone {k : Nat} {K : Int32 → wd_Z → wd_M → wd_L → Prop} (hk : k ≤ 5) (hK : K (cp_no k) z M L) : wRunI (d, 0, 0) mX3_ofNone [.int (nI k)] z M L K := by
  refine fX3_ofNone_e ?_
  have hK := wQi_i hK
  unfold cp_no at hK
  rw [ak_n0, ak_n1, ak_n5]
  refine ⟨fun h => ?_, fun h0 => ⟨fun h => ?_, fun h1 => ⟨fun h => ?_, fun h5 => ?_⟩⟩⟩
  · rw [nI_eq (by omega) (by omega)] at h
    rw [if_pos (Or.inl h)] at hK; exact hK
  · rw [nI_eq (by omega) (by omega)] at h
    rw [if_pos (Or.inr (Or.inl h))] at hK; exact hK
  · rw [nI_eq (by omega) (by omega)] at h
    rw [if_pos (Or.inr (Or.inr h))] at hK; exact hK
  · rw [nI_eq (by omega) (by omega)] at h0 h1 h5
    rw [if_neg (by omega)] at hK; exact hK
/-- a column more, and it is noted -/
theorem rx_note {a e w : Nat} {s : Nat} {σ : cp_S} {o : Nat} {fs : List Nat} {K : wd_Z → wd_M → wd_L → Prop} (ha : rx_sc a) (hR : rx_R M σ o fs) (hw : M a 1 = nI w) (hf : fs.length < 3000)
    (hK : ∀ M', rx_R M' σ o (fs ++ [w]) → M' a 0 = nI s → M' a 1 = nI (w + 1) → (∀ c, c ≠ a → c ≠ 23 → c ≠ 27 → M' c = M c) → K z M' L) : wRunV (d, 0, 0) mX3_note [.ref 23, .ref a, .int (nI s)] z M L K := by
  obtain ⟨h1, h2, h3, h4⟩ := hR
  have ha' : a = 24 ∨ 28 ≤ a ∧ a < 628 := by rcases ha with h | ⟨j, h, h'⟩ <;> omega
  refine fX3_note_e (rx_gP0 ha (rx_gO ha (rx_gP1 ha ?_)))
  have e6 : am_up2 M a 0 (nI s) 23 6 = nI fs.length := by rw [ak_up_cell (by omega)]; exact h3
  rw [e6]
  have ew : am_up2 (am_up2 M a 0 (nI s)) 23 6 (nI fs.length + 1) a 1 = nI w := by rw [ak_up_cell (by omega), ak_up_ne (by omega)]; exact hw
  rw [ew, nI_1, nI_1, nI_clamp (by omega)]
  refine ⟨vp_in_nI hf (by omega), wQv_i (hK _ ⟨?_, ?_, ?_, fun i c hi => ?_⟩ ?_ ?_ fun c g1 g2 g3 => ?_)⟩
  · exact rx_S_fr h1 fun c g1 g2 => by rw [ak_up_cell (by omega), ak_up_cell (by omega), ak_up_cell (by omega), ak_up_cell (by omega)]
  · rw [ak_up_cell (by omega), ak_up_cell (by omega), ak_up_ne (by omega), ak_up_cell (by omega)]; exact h2
  · rw [ak_up_cell (by omega), ak_up_cell (by omega), ak_up_same, List.length_append]; rfl
  · by_cases hl : i < fs.length
    · rw [List.getElem?_append_left hl] at hi
      rw [ak_up_ne (by omega), ak_up_cell (by omega), ak_up_cell (by omega), ak_up_cell (by omega)]
      exact h4 i c hi
    · have hlt : i < (fs ++ [w]).length := (List.getElem?_eq_some_iff.mp hi).1
      rw [List.length_append] at hlt
      have hlt : i < fs.length + 1 := hlt
      have ei : i = fs.length := by omega
      rw [ei, List.getElem?_append_right (Nat.le_refl _), Nat.sub_self] at hi
      have : w = c := by simpa using hi
      rw [ei, ak_up_same, this]
  · rw [ak_up_cell (by omega), ak_up_ne (by omega), ak_up_cell (by omega), ak_up_same]
  · rw [ak_up_cell (by omega), ak_up_same]
  · rw [ak_up_cell g3, ak_up_cell g1, ak_up_cell g2, ak_up_cell g1]
/-- the list of a fold is written anew -/
theorem rx_fold_33 {s p n col : Nat} {ls : List Int32} {o0 : Nat} {Q : am_Q} : ∀ (k i : Nat) (M : wd_M) (σ : cp_S), i + k = ls.length → n = ls.length → 2 ≤ d → rx_S M σ → o0 + i = σ.2 → p + ls.length ≤ o0 → sl_at (M 22) p ls → sl_at (M 22) o0 (ls.take i) → σ.1.length + 3 ≤ 32768 → o0 + (n + 1) + n ≤ 524288 → n < 3000 → col < 100000 →
    (∀ M', rx_S M' (σ.1 ++ [cp_pick s (ls ++ [nI col]), cp_uniq σ.1.length, cp_gath (σ.1.length + 1) (cp_sp ls.length) 1 (nI ls.length)], o0 + (ls.length + 1) + ls.length) → rx_pl o0 M M' → ak_fr 14 22 M M' → Q (some (.int (nI (σ.1.length + 2)))) (wd z M' L)) →
    wRun (d + 1, 0, 0) mX3_fold 33 [some (.ref 23), some (.int (nI s)), some (.int (nI p)), some (.int (nI n)), none, some (.int (nI col)), some (.int (nI o0)), some (.int (nI i))] [] z M L Q
  | 0, i, M, σ, hi, hn, hd, hS, ho, hp, hs, ht, hc, hu, hn3, hcol, hQ => by
    have ei : i = n := by omega
    subst ei
    rw [List.take_of_length_le (by omega)] at ht
    refine fX3_fold_33 ⟨fun _ => ?_, fun q => absurd (nI_le (Nat.le_refl _) (by omega)) q⟩
    refine rx_put hS (by omega) fun M1 a1 a2 a3 a4 => ?_
    have hsl : sl_at (M1 22) o0 (ls ++ [nI col]) := sl_app.mpr ⟨rx_pl_sl a3 ht (by omega), sl_one.mpr (by rw [show o0 + ls.length = σ.2 by omega]; exact a2)⟩
    rw [nI_1]
    refine rx_pick (p := o0) (ls := ls ++ [nI col]) (l := s) (by omega) a1 (by show σ.1.length < _; omega) (by rw [List.length_append, ← hn]; rfl) (by rw [List.length_append]; show o0 + (ls.length + 1) ≤ σ.2 + 1; omega) hsl fun M2 b1 b2 b3 => ?_
    refine rx_uniq (by omega) b1 (by rw [List.length_append]; show σ.1.length + 1 < _; omega) fun M3 c1 c2 c3 => ?_
    refine rx_span (n := i) (by omega) c1 (by show σ.2 + 1 + i ≤ _; omega) rfl fun M4 e1 e2 e3 e4 => ?_
    refine rx_gath (p := σ.2 + 1) (ls := cp_sp i) (by omega) e1 (by rw [List.length_append, List.length_append]; show σ.1.length + 1 + 1 < _; omega) (by simp [cp_sp]) (by simp [cp_sp]) e3 fun M5 f1 f2 f3 => ?_
    have e0 : (σ.1 ++ [cp_pick s (ls ++ [nI col])] ++ [cp_uniq σ.1.length]).length = σ.1.length + 2 := by simp
    have e1' : (σ.1 ++ [cp_pick s (ls ++ [nI col])]).length = σ.1.length + 1 := by simp
    show Q (some (.int (nI (σ.1 ++ [cp_pick s (ls ++ [nI col])] ++ [cp_uniq σ.1.length]).length))) _
    rw [e0]
    have f1 : rx_S M5 (σ.1 ++ [cp_pick s (ls ++ [nI col])] ++ [cp_uniq σ.1.length] ++ [cp_gath (σ.1 ++ [cp_pick s (ls ++ [nI col])]).length (cp_sp i) 1 (nI i)], σ.2 + 1 + i) := f1
    rw [e1'] at f1
    refine hQ M5 ?_ ?_ (ak_fr_trans a4 (ak_fr_trans b3 (ak_fr_trans c3 (ak_fr_trans e4 f3))))
    · rw [← hn, show o0 + (i + 1) + i = σ.2 + 1 + i by omega]
      simpa [List.append_assoc] using f1
    · intro q hq
      have k1 : M5 22 q = M4 22 q := f2 q (by show q < σ.2 + 1 + i; omega)
      have k2 : M4 22 q = M3 22 q := e2 q (by show q < σ.2 + 1; omega)
      have k3 : M3 22 q = M2 22 q := c2 q (by show q < σ.2 + 1; omega)
      have k4 : M2 22 q = M1 22 q := b2 q (by show q < σ.2 + 1; omega)
      rw [k1, k2, k3, k4, a3 q (by omega)]
  | k + 1, i, M, σ, hi, hn, hd, hS, ho, hp, hs, ht, hc, hu, hn3, hcol, hQ => by
    refine fX3_fold_33 ⟨fun q => absurd q (nI_ge (by omega) (by omega)), fun _ => ?_⟩
    rw [nI_add, nI_clamp (by omega)]
    refine ⟨vp_in_nI (by omega) (by omega), ?_⟩
    rw [sl_get hs (i := i) (by omega)]
    refine rx_put hS (by omega) fun M1 a1 a2 a3 a4 => ?_
    rw [nI_1]
    have hl : sl_at (M1 22) o0 (ls.take (i + 1)) := by
      rw [sl_take (List.getElem?_eq_getElem (show i < ls.length by omega)), sl_app, sl_one, List.length_take, Nat.min_eq_left (by omega)]
      exact ⟨rx_pl_sl a3 ht (by rw [List.length_take]; omega), by rw [ho]; exact a2⟩
    refine rx_fold_33 k (i + 1) M1 (σ.1, σ.2 + 1) (by omega) hn (by omega) a1 (by show o0 + (i + 1) = σ.2 + 1; omega) hp (rx_pl_sl a3 hs (by omega)) hl hc hu hn3 hcol fun M2 b1 b2 b3 => ?_
    exact hQ M2 b1 (rx_pl_trans (u' := o0) (fun q hq => a3 q (by omega)) b2 (Nat.le_refl _)) (ak_fr_trans a4 b3)
theorem rx_fold {σ : cp_S} {s p kind col : Nat} {ls : List Int32} {x3 : Int32} {K : Int32 → wd_Z → wd_M → wd_L → Prop} (hd : 3 ≤ d) (h : rx_S M σ) (hk : kind ≤ 5) (e3 : x3 = nI ls.length) (hp : p + ls.length ≤ σ.2) (hs : sl_at (M 22) p ls) (hn3 : ls.length < 3000) (hcol : col < 100000)
    (hc : (cp_fold s ls kind col σ).2.1.length ≤ 32768) (hu : (cp_fold s ls kind col σ).2.2 ≤ 524288)
    (hK : ∀ M', rx_S M' (cp_fold s ls kind col σ).2 → rx_pl σ.2 M M' → ak_fr 14 22 M M' → K (nI (cp_fold s ls kind col σ).1) z M' L) :
    wRunI (d, 0, 0) mX3_fold [.ref 23, .int (nI s), .int (nI p), .int x3, .int (nI kind), .int (nI col)] z M L K := by
  obtain ⟨d, rfl, hd'⟩ := ak_deep hd
  subst e3
  refine fX3_fold_e ⟨fun q => ?_, fun q => ?_⟩
  · rw [ak_n5, nI_leI (by omega) (by omega)] at q
    unfold cp_fold at hc hu hK
    rw [if_neg (by omega)] at hc hu hK
    rw [List.length_append] at hc
    have hc : σ.1.length + 3 ≤ 32768 := hc
    have hu : σ.2 + (ls.length + 1) + ls.length ≤ 524288 := hu
    rw [h.2.1, ak_n0]
    exact rx_fold_33 (d := d) (ls := ls) ls.length 0 M σ (by omega) rfl (by omega) h (by omega) hp hs (by simpa using sl_nil) hc hu hn3 hcol fun M' a b c => wQi_i (hK M' a b c)
  · rw [ak_n5, nI_leI (by omega) (by omega)] at q
    unfold cp_fold at hc hu hK
    rw [if_pos (by omega)] at hc hu hK
    rw [List.length_append] at hc
    have hc : σ.1.length + 1 ≤ 32768 := hc
    exact rx_gath (by omega) h (by omega) rfl hp hs fun M' a b c => wQi_i (hK M' a b c)
/-- rows of a bag as row 0, those around as the others -/
theorem rx_around_38 {a b l' : Nat} {w : Nat} {pl : Nat → Nat} {Q : am_Q} (ha : rx_sc a) (hb : rx_sc b) (hab : a ≠ b) : ∀ (n i : Nat) (M : wd_M), i + n = 32 → M a 1 = nI w → (∀ k, k < 24 → l'.testBit (k + 8) = true → M (a + 1) k = nI (pl k)) → (∀ k, k < i → l'.testBit k = true → M (b + 1) k = nI (if k < 8 then w + k else pl (k - 8))) →
    (∀ M', (∀ k, k < 32 → l'.testBit k = true → M' (b + 1) k = nI (if k < 8 then w + k else pl (k - 8))) → (∀ c, c ≠ b + 1 → M' c = M c) → Q (some (.ref b)) (wd z M' L)) →
    wRun (d, 0, 0) mX3_around 38 [none, none, some (.ref a), none, some (.ref b), some (.int (nI i))] [] z M L Q
  | 0, i, M, hi, hw, hp, hq, hQ => by
    have ei : i = 32 := by omega
    subst ei
    exact fX3_around_38 ⟨fun _ => hQ M hq fun _ _ => rfl, fun q => absurd (nI_le (a := 32) (b := 32) (by omega) (by omega)) q⟩
  | n + 1, i, M, hi, hw, hp, hq, hQ => by
    have hb1 : a ≠ b + 1 ∧ a + 1 ≠ b + 1 ∧ b ≠ b + 1 := by
      refine ⟨?_, by omega, by omega⟩
      rcases ha with h | ⟨j, h, h'⟩ <;> rcases hb with g | ⟨j2, g, g'⟩ <;> omega
    refine fX3_around_38 ⟨fun q => absurd q (by rw [ak_n32]; exact nI_ge (by omega) (by omega)), fun _ => rx_gO hb (rx_gR hb ⟨fun q => ?_, fun q => ?_⟩)⟩
    · rw [ak_n8, nI_leI (by omega) (by omega)] at q
      refine rx_gO ha (rx_gR ha (rx_gI ha ?_))
      rw [ak_n8, pk_sub (by omega), nI_1, nI_clamp (by omega), nI_clamp (by omega)]
      refine ⟨rx_gL ha (by omega), rx_gA hb ⟨rx_gL hb (by omega), ?_⟩⟩
      refine rx_around_38 ha hb hab n (i + 1) _ (by omega) (by rw [ak_up_cell hb1.1]; exact hw) (fun k h1 h2 => by rw [ak_up_cell hb1.2.1]; exact hp k h1 h2) (fun k h1 h2 => ?_) fun M' g1 g2 => hQ M' g1 fun c hc => by rw [g2 c hc, ak_up_cell hc]
      by_cases e : k = i
      · subst e
        rw [ak_up_same, if_neg (by omega)]
        exact hp (k - 8) (by omega) (by rw [show k - 8 + 8 = k by omega]; exact h2)
      · rw [ak_up_ne e]; exact hq k (by omega) h2
    · rw [ak_n8, nI_leI (by omega) (by omega)] at q
      refine rx_gO ha (rx_gA hb ?_)
      rw [hw, nI_add, nI_1, nI_clamp (by omega)]
      refine ⟨rx_gL hb (by omega), ?_⟩
      refine rx_around_38 ha hb hab n (i + 1) _ (by omega) (by rw [ak_up_cell hb1.1]; exact hw) (fun k h1 h2 => by rw [ak_up_cell hb1.2.1]; exact hp k h1 h2) (fun k h1 h2 => ?_) fun M' g1 g2 => hQ M' g1 fun c hc => by rw [g2 c hc, ak_up_cell hc]
      by_cases e : k = i
      · subst e
        rw [ak_up_same, if_pos (by omega)]
      · rw [ak_up_ne e]; exact hq k (by omega) h2
/-- where a scope lies: the unit, or an open one -/
def rx_op (o a : Nat) : Prop := a = 24 ∨ ∃ j, j < o ∧ a = 28 + 2 * j
theorem rx_op_sc {o a : Nat} (h : rx_op o a) (ho : o ≤ 300) : rx_sc a := by
  rcases h with h | ⟨j, h1, h2⟩
  · exact Or.inl h
  · exact Or.inr ⟨j, by omega, h2⟩
theorem rx_op_F {o a ex : Nat} {M M' : wd_M} (h : rx_op o a) (f : rx_F o ex M M') (he : ex ≠ a) (ho : o ≤ 300) : M' a = M a := f a (by rcases h with h | ⟨j, h1, h2⟩ <;> omega) (fun q => he q.symm)
theorem rx_op_F1 {o a ex : Nat} {M M' : wd_M} (h : rx_op o a) (f : rx_F o ex M M') (he : ex ≠ a + 1) (ho : o ≤ 300) : M' (a + 1) = M (a + 1) := f (a + 1) (by rcases h with h | ⟨j, h1, h2⟩ <;> omega) (fun q => he q.symm)
theorem rx_op_mono {o o' a : Nat} (h : rx_op o a) (ho : o ≤ o') : rx_op o' a := by
  rcases h with h | ⟨j, h1, h2⟩
  · exact Or.inl h
  · exact Or.inr ⟨j, by omega, h2⟩
theorem rx_around {a s w w0 l' o : Nat} {pl : Nat → Nat} {σ : cp_S} {fs : List Nat} {K : Nat → wd_Z → wd_M → wd_L → Prop} (ha : rx_op o a) (ho : o < 300) (hR : rx_R M σ o fs) (hw : M a 1 = nI w)
    (hp : ∀ k, k < 24 → l'.testBit (k + 8) = true → M (a + 1) k = nI (pl k))
    (hK : ∀ M', rx_R M' σ (o + 1) fs → M' (28 + 2 * o) 0 = nI s → M' (28 + 2 * o) 1 = nI (w + w0) → (∀ k, k < 32 → l'.testBit k = true → M' (28 + 2 * o + 1) k = nI (if k < 8 then w + k else pl (k - 8))) → rx_pl σ.2 M M' → rx_F o 23 M M' → K (28 + 2 * o) z M' L) :
    wRunR (d, 0, 0) mX3_around [.ref 23, .int (nI s), .ref a, .int (nI w0)] z M L K := by
  obtain ⟨h1, h2, h3⟩ := hR
  have hsc := rx_op_sc ha (by omega)
  have hb : rx_sc (28 + 2 * o) := Or.inr ⟨o, ho, rfl⟩
  have hab : a ≠ 28 + 2 * o := by rcases ha with h | ⟨j, g1, g2⟩ <;> omega
  have hab1 : a + 1 ≠ 28 + 2 * o := by rcases ha with h | ⟨j, g1, g2⟩ <;> omega
  have ha23 : a ≠ 23 ∧ a + 1 ≠ 23 := by rcases ha with h | ⟨j, g1, g2⟩ <;> omega
  refine fX3_around_e ?_
  rw [h2, nI_clamp (by omega), nI_1]
  refine ⟨vp_in_nI ho (by omega), am_bR_i (rx_sc_get ho) (rx_gP0 hb (rx_gO hsc (rx_gP1 hb ?_)))⟩
  have ew : am_up2 (am_up2 M 23 4 (nI (o + 1))) (28 + 2 * o) 0 (nI s) a 1 = nI w := by rw [ak_up_cell hab, ak_up_cell ha23.1]; exact hw
  rw [ew, nI_add, ak_n0]
  refine rx_around_38 (l' := l') (w := w) (pl := pl) hsc hb hab 32 0 _ rfl (by rw [ak_up_cell hab, ak_up_cell hab, ak_up_cell ha23.1]; exact hw) (fun k g1 g2 => by rw [ak_up_cell hab1, ak_up_cell hab1, ak_up_cell ha23.2]; exact hp k g1 g2) (fun k g => by omega) fun M' g1 g2 => wQr_i (hK M' ⟨?_, ?_, ?_⟩ ?_ ?_ g1 (fun i _ => ?_) fun c hc _ => ?_)
  · exact rx_S_fr h1 fun c k1 k2 => by rw [g2 c (by omega), ak_up_cell (by omega), ak_up_cell (by omega), ak_up_cell (by omega)]
  · rw [g2 23 (by omega), ak_up_cell (by omega), ak_up_cell (by omega), ak_up_same]
  · exact rx_fd_fr h3 (by rw [g2 23 (by omega), ak_up_cell (by omega), ak_up_cell (by omega), ak_up_ne (by omega)]) (by rw [g2 27 (by omega), ak_up_cell (by omega), ak_up_cell (by omega), ak_up_cell (by omega)])
  · rw [g2 _ (by omega), ak_up_ne (by omega), ak_up_same]
  · rw [g2 _ (by omega), ak_up_same]
  · rw [g2 22 (by omega), ak_up_cell (by omega), ak_up_cell (by omega), ak_up_cell (by omega)]
  · rw [g2 c (by omega), ak_up_cell (by omega), ak_up_cell (by omega), ak_up_cell (by omega)]
end RZ
