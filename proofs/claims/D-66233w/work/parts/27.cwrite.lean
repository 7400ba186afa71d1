/-! CONTRACTS of ApplyFree$Rewriter: write -/
/-- how many found columns a value or truth has -/
def cp_nq (T : Nat → sm_T) : Nat → Nat → Nat
  | 0, _ => 0
  | n + 1, t => match sm_k (T t) with
    | 0 => 0
    | 1 => 0
    | 4 => 1
    | 8 => 1
    | 9 => 1
    | 10 => 1
    | _ => cp_nq T n (sm_a (T t)) + sm_p2 (T t).2.2.2.1 (cp_nq T n)
section WK
variable {T : Nat → sm_T} {n t : Nat} {pl : Nat → Nat} {fs : List Nat}
theorem cp_wr0 (h : sm_k (T t) = 0) : cp_wr T (n + 1) t pl fs = ([0, sm_n (T t)], fs) := by rw [cp_wr, h]; rfl
theorem cp_wr1 (h : sm_k (T t) = 1) : cp_wr T (n + 1) t pl fs = ([1, nI (pl (sm_n (T t)).toNatClampNeg)], fs) := by rw [cp_wr, h]; rfl
theorem cp_wr3 (h : sm_k (T t) = 3) : cp_wr T (n + 1) t pl fs = cp_wr T n (sm_a (T t)) pl fs := by rw [cp_wr, h]; rfl
theorem cp_wr4 (h : sm_k (T t) = 4 ∨ sm_k (T t) = 8) : cp_wr T (n + 1) t pl fs = ([1, nI (fs.headD 0)], fs.tail) := by rcases h with h | h <;> (rw [cp_wr, h]; rfl)
theorem cp_wr6 (h : sm_k (T t) = 6) : cp_wr T (n + 1) t pl fs = ((cp_wr T n (sm_a (T t)) pl fs).1 ++ [4], (cp_wr T n (sm_a (T t)) pl fs).2) := by rw [cp_wr, h]; rfl
theorem cp_wr9 (h : sm_k (T t) = 9) : cp_wr T (n + 1) t pl fs = ([2, nI (fs.headD 0)], fs.tail) := by rw [cp_wr, h]; rfl
theorem cp_wr10 (h : sm_k (T t) = 10) : cp_wr T (n + 1) t pl fs = ([3, nI (fs.headD 0)], fs.tail) := by rw [cp_wr, h]; rfl
def cp_base (k : Nat) : Nat := if k = 2 then 5 else if k = 5 then 16 else 8
theorem cp_wrN (h : sm_k (T t) = 2 ∨ sm_k (T t) = 5 ∨ sm_k (T t) = 7) (hb : (T t).2.2.2.1 = none) : cp_wr T (n + 1) t pl fs = ((cp_wr T n (sm_a (T t)) pl fs).1 ++ [nI (cp_base (sm_k (T t)) + sm_o (T t))], (cp_wr T n (sm_a (T t)) pl fs).2) := by
  rcases h with h | h | h <;> (rw [cp_wr, hb, h]; rfl)
theorem cp_wrB {b : Nat} (h : sm_k (T t) = 2 ∨ sm_k (T t) = 5 ∨ sm_k (T t) = 7) (hb : (T t).2.2.2.1 = some b) : cp_wr T (n + 1) t pl fs = ((cp_wr T n (sm_a (T t)) pl fs).1 ++ (cp_wr T n b pl (cp_wr T n (sm_a (T t)) pl fs).2).1 ++ [nI (cp_base (sm_k (T t)) + sm_o (T t))], (cp_wr T n b pl (cp_wr T n (sm_a (T t)) pl fs).2).2) := by
  rcases h with h | h | h <;> (rw [cp_wr, hb, h]; rfl)
theorem cp_nq0 (h : sm_k (T t) = 0 ∨ sm_k (T t) = 1) : cp_nq T (n + 1) t = 0 := by rcases h with h | h <;> (rw [cp_nq, h]; rfl)
theorem cp_nq1 (h : sm_k (T t) = 4 ∨ sm_k (T t) = 8 ∨ sm_k (T t) = 9 ∨ sm_k (T t) = 10) : cp_nq T (n + 1) t = 1 := by rcases h with h | h | h | h <;> (rw [cp_nq, h]; rfl)
theorem cp_nq2 (h : sm_k (T t) = 2 ∨ sm_k (T t) = 3 ∨ sm_k (T t) = 5 ∨ sm_k (T t) = 6 ∨ sm_k (T t) = 7) : cp_nq T (n + 1) t = cp_nq T n (sm_a (T t)) + sm_p2 (T t).2.2.2.1 (cp_nq T n) := by rcases h with h | h | h | h | h <;> (rw [cp_nq, h]; rfl)
end WK
theorem cp_wr_rest {T : Nat → sm_T} {tc : Nat → Nat} {nt N : Nat} {pl : Nat → Nat} (w : sm_wf T tc nt N) : ∀ n t, t < n → t < N → sm_k (T t) ≤ 10 → ∀ fs, (cp_wr T n t pl fs).2 = fs.drop (cp_nq T n t)
  | 0, _, h, _, _, _ => by omega
  | n + 1, t, h, hN, hk, fs => by
    have hw := (w t hN).1
    have go : ∀ s, s < t → sm_k (T s) ≤ 10 → ∀ fs, (cp_wr T n s pl fs).2 = fs.drop (cp_nq T n s) := fun s hs hks fs => cp_wr_rest w n s (by omega) (by omega) hks fs
    have srt : ∀ {k s}, sm_sort k = s → s ≤ 1 → k ≤ 10 := fun {k s} e hs => by
      unfold sm_sort at e
      split at e
      · omega
      · split at e <;> omega
    rcases sm_split (Nat.le_trans hk (by omega)) with q | q | q | q | q | q | q | q | q | q | q | q | q | q | q | q | q | q | q | q | q
    · rw [cp_wr0 q, cp_nq0 (Or.inl q)]; rfl
    · rw [cp_wr1 q, cp_nq0 (Or.inr q)]; rfl
    · have p := sm_wf2 hw q
      rw [cp_wrB (Or.inl q) p.2.1.1, cp_nq2 (Or.inl q), p.2.1.1]
      show (cp_wr T n (sm_b (T t)) pl (cp_wr T n (sm_a (T t)) pl fs).2).2 = fs.drop (cp_nq T n (sm_a (T t)) + cp_nq T n (sm_b (T t)))
      rw [go _ p.2.1.2.1 (srt p.2.1.2.2 (by omega)), go _ p.1.2.1 (srt p.1.2.2 (by omega)), List.drop_drop]
    · have p := sm_wf3 hw q
      have pb : (T t).2.2.2.1 = none := p.2.1
      rw [cp_wr3 q, cp_nq2 (Or.inr (Or.inl q)), pb, go _ p.1.2.1 (srt p.1.2.2 (by omega))]; rfl
    · rw [cp_wr4 (Or.inl q), cp_nq1 (Or.inl q)]; simp
    · have p := sm_wf5 hw q
      rw [cp_wrB (Or.inr (Or.inl q)) p.2.1.1, cp_nq2 (by omega), p.2.1.1]
      show (cp_wr T n (sm_b (T t)) pl (cp_wr T n (sm_a (T t)) pl fs).2).2 = fs.drop (cp_nq T n (sm_a (T t)) + cp_nq T n (sm_b (T t)))
      rw [go _ p.2.1.2.1 (srt p.2.1.2.2 (by omega)), go _ p.1.2.1 (srt p.1.2.2 (by omega)), List.drop_drop]
    · have p := sm_wf6 hw q
      have pb : (T t).2.2.2.1 = none := p.2.1
      rw [cp_wr6 q, cp_nq2 (by omega), pb]
      show (cp_wr T n (sm_a (T t)) pl fs).2 = _
      rw [go _ p.1.2.1 (srt p.1.2.2 (by omega))]; rfl
    · have p := sm_wf7 hw q
      rcases p.2 with r | r
      · rw [cp_wrB (by omega) r.2.1.1, cp_nq2 (by omega), r.2.1.1]
        show (cp_wr T n (sm_b (T t)) pl (cp_wr T n (sm_a (T t)) pl fs).2).2 = fs.drop (cp_nq T n (sm_a (T t)) + cp_nq T n (sm_b (T t)))
        rw [go _ r.2.1.2.1 (srt r.2.1.2.2 (by omega)), go _ p.1.2.1 (srt p.1.2.2 (by omega)), List.drop_drop]
      · have pb : (T t).2.2.2.1 = none := r.2.1
        rw [cp_wrN (by omega) pb, cp_nq2 (by omega), pb]
        show (cp_wr T n (sm_a (T t)) pl fs).2 = _
        rw [go _ p.1.2.1 (srt p.1.2.2 (by omega))]; rfl
    · rw [cp_wr4 (Or.inr q), cp_nq1 (by omega)]; simp
    · rw [cp_wr9 q, cp_nq1 (by omega)]; simp
    · rw [cp_wr10 q, cp_nq1 (by omega)]; simp
    iterate 10 omega
/-- what a piece of a program leaves -/
def rx_Wp (M : wd_M) (σ : cp_S) (k q : Nat) (p : List Int32) (M' : wd_M) : Prop := rx_S M' (σ.1, σ.2 + p.length) ∧ sl_at (M' 22) σ.2 p ∧ rx_pl σ.2 M M' ∧ M' 23 7 = nI (k + q) ∧ (∀ i, i ≠ 7 → M' 23 i = M 23 i) ∧ (∀ c, c < 14 ∨ 23 < c → M' c = M c)
theorem rx_Wp_trans {M M1 M2 : wd_M} {σ : cp_S} {k q1 q2 : Nat} {p1 p2 : List Int32} (h1 : rx_Wp M σ k q1 p1 M1) (h2 : rx_Wp M1 (σ.1, σ.2 + p1.length) (k + q1) q2 p2 M2) : rx_Wp M σ k (q1 + q2) (p1 ++ p2) M2 := by
  obtain ⟨a1, a2, a3, a4, a5, a6⟩ := h1
  obtain ⟨b1, b2, b3, b4, b5, b6⟩ := h2
  refine ⟨?_, sl_app.mpr ⟨rx_pl_sl b3 a2 (Nat.le_refl _), b2⟩, rx_pl_trans a3 b3 (Nat.le_add_right _ _), by rw [b4, Nat.add_assoc], fun i hi => (b5 i hi).trans (a5 i hi), fun c hc => (b6 c hc).trans (a6 c hc)⟩
  rw [List.length_append, ← Nat.add_assoc]
  exact b1
theorem rx_Wp_take {M M1 : wd_M} {σ : cp_S} {k q : Nat} {p : List Int32} (h1 : rx_Wp M σ k q p M1) : rx_Wp M σ k (q + 1) p (am_up2 M1 23 7 (nI (k + q + 1))) := by
  obtain ⟨a1, a2, a3, a4, a5, a6⟩ := h1
  refine ⟨rx_S_fr a1 fun c h1 h2 => ak_up_cell (by omega), by rw [ak_up_cell (by omega)]; exact a2, fun i hi => by rw [ak_up_cell (by omega)]; exact a3 i hi, by rw [ak_up_same, Nat.add_assoc], fun i hi => by rw [ak_up_ne hi]; exact a5 i hi, fun c hc => by rw [ak_up_cell (by omega)]; exact a6 c hc⟩
section RW
variable {d : Nat} {z : wd_Z} {M : wd_M} {L : wd_L}
theorem rx_putW {σ : cp_S} {v : Int32} {k : Nat} {K : wd_Z → wd_M → wd_L → Prop} (h : rx_S M σ) (hk : M 23 7 = nI k) (hu : σ.2 < 524288) (hK : ∀ M', rx_Wp M σ k 0 [v] M' → K z M' L) : wRunV (d, 0, 0) mX2_put [.ref 14, .int v] z M L K :=
  rx_put h hu fun M' a1 a2 a3 a4 => hK M' ⟨a1, sl_one.mpr a2, a3, by rw [a4 23 (by omega)]; exact hk, fun i _ => by rw [a4 23 (by omega)], fun c hc => a4 c (by omega)⟩
/-- two numbers, the second a found column -/
theorem rx_two {σ : cp_S} {v : Int32} {k c : Nat} {fs : List Nat} {K : wd_Z → wd_M → wd_L → Prop} (h : rx_S M σ) (hk : M 23 7 = nI k) (hf : rx_fd M fs) (hc : fs[k]? = some c) (hl : fs.length ≤ 3000) (hu : σ.2 + 2 ≤ 524288) (hK : ∀ M', rx_Wp M σ k 1 [v, nI c] M' → K z M' L) :
    wRunV (d, 0, 0) mX2_put [.ref 14, .int v] z M L (fun z1 M2 L3 => (vp_in (M2 23 7) 3000 ∧ wRunV (d, 0, 0) mX2_put [.ref 14, .int ((am_up2 M2 23 7 ((M2 23 7) + 1)) 27 ((M2 23 7).toNatClampNeg))] z1 (am_up2 M2 23 7 ((M2 23 7) + 1)) L3 K)) := by
  have hlt : k < fs.length := (List.getElem?_eq_some_iff.mp hc).1
  refine rx_putW h hk (by omega) fun M1 a => ?_
  have e7 : M1 23 7 = nI k := a.2.2.2.1
  have e27 : M1 27 = M 27 := a.2.2.2.2.2 27 (by omega)
  rw [e7, nI_clamp (by omega), nI_1]
  refine ⟨vp_in_nI (by omega) (by omega), ?_⟩
  rw [ak_up_cell (c' := 27) (by omega), e27, hf.2 k c hc]
  have b := rx_Wp_take a
  rw [show k + 0 + 1 = k + 1 from rfl] at b
  refine rx_putW b.1 b.2.2.2.1 (by show σ.2 + 1 < _; omega) fun M2 c' => hK M2 ?_
  exact rx_Wp_trans (p1 := [v]) (p2 := [nI c]) (q1 := 1) (q2 := 0) b c'
end RW
theorem rx_write {T : Nat → sm_T} {tc : Nat → Nat} {nt N : Nat} (w : sm_wf T tc nt N) {z : wd_Z} {L : wd_L} {a : Nat} {pl : Nat → Nat} {fs : List Nat} (ha : rx_sc a) (hf3 : fs.length ≤ 3000) : ∀ n t, t < n → t < N → sm_k (T t) ≤ 10 → ∀ (d : Nat) (M : wd_M) (σ : cp_S) (k : Nat) (K : wd_Z → wd_M → wd_L → Prop), t + 1 ≤ d → tx_T M T N → rx_S M σ → rx_fd M fs → M 23 7 = nI k → k + cp_nq T n t ≤ fs.length →
    (∀ j, j < 32 → (sm_l (T t)).testBit j = true → M (a + 1) j = nI (pl j)) → σ.2 + (cp_wr T n t pl (fs.drop k)).1.length ≤ 524288 → (∀ M', rx_Wp M σ k (cp_nq T n t) (cp_wr T n t pl (fs.drop k)).1 M' → K z M' L) → wRunV (d, 0, 0) mX3_write [.ref 23, .int (nI t), .ref a] z M L K
  | 0, _, h, _, _ => by omega
  | n + 1, t, h, hN, hk => by
    intro d M σ k K hd hT hS hF h7 hq hp hu hK
    have hw := (w t hN).1
    have ha23 : 23 < a + 1 := by rcases ha with h | ⟨j, h1, h2⟩ <;> omega
    have srt : ∀ {k s}, sm_sort k = s → s ≤ 1 → k ≤ 10 := fun {k s} e hs => by
      unfold sm_sort at e
      split at e
      · omega
      · split at e <;> omega
    have hN120 := hT.2.1
    obtain ⟨m4, m5, m6, m7, m8, m9, m10, m11⟩ := hT.2.2 t hN
    obtain ⟨d, rfl, hd'⟩ := ak_deep hd
    have hin : vp_in (nI t) 120 := vp_in_nI (by omega) (by omega)
    have hdrop : ∀ c, fs[k]? = some c → (fs.drop k).headD 0 = c := fun c hc => by
      rw [List.headD_eq_head?_getD, List.head?_drop, hc]; rfl
    -- the parts
    have go : ∀ s, s < t → sm_k (T s) ≤ 10 → (∀ j, (sm_l (T s)).testBit j = true → (sm_l (T t)).testBit j = true) → ∀ (M1 : wd_M) (σ1 : cp_S) (k1 : Nat) (K1 : wd_Z → wd_M → wd_L → Prop), tx_T M1 T N → rx_S M1 σ1 → rx_fd M1 fs → M1 23 7 = nI k1 → M1 (a + 1) = M (a + 1) → k1 + cp_nq T n s ≤ fs.length → σ1.2 + (cp_wr T n s pl (fs.drop k1)).1.length ≤ 524288 → (∀ M', rx_Wp M1 σ1 k1 (cp_nq T n s) (cp_wr T n s pl (fs.drop k1)).1 M' → K1 z M' L) → wRunV (d, 0, 0) mX3_write [.ref 23, .int (nI s), .ref a] z M1 L K1 := fun s hs hks hl M1 σ1 k1 K1 c1 c2 c3 c4 c5 c6 c7 c8 =>
      rx_write w ha hf3 n s (by omega) (by omega) hks d M1 σ1 k1 K1 (by omega) c1 c2 c3 c4 c6 (fun j j1 j2 => by rw [c5]; exact hp j j1 (hl j j2)) c7 c8
    have fin : ∀ {M' : wd_M}, rx_Wp M σ k (cp_nq T (n + 1) t) (cp_wr T (n + 1) t pl (fs.drop k)).1 M' → wRun (d + 1, 0, 0) mX3_write 336 [none, none, none, none, none, none] [] z M' L (wQv K) := fun {M'} g => fX3_write_336 (wQv_i (hK M' g))
    have o1 : ∀ {x y z : Nat}, z = x ||| y → ∀ k, x.testBit k = true → z.testBit k = true := fun e k h => by rw [e, Nat.testBit_or, h, Bool.true_or]
    have o2 : ∀ {x y z : Nat}, z = x ||| y → ∀ k, y.testBit k = true → z.testBit k = true := fun e k h => by rw [e, Nat.testBit_or, h, Bool.or_true]
    have o3 : ∀ {x z : Nat}, z = x → ∀ k, x.testBit k = true → z.testBit k = true := fun e k h => by rw [e]; exact h
    have tr : ∀ {σ1 : cp_S} {k1 q1 : Nat} {p1 : List Int32} {M1 M' : wd_M}, tx_T M1 T N → rx_fd M1 fs → rx_Wp M1 σ1 k1 q1 p1 M' → tx_T M' T N ∧ rx_fd M' fs ∧ M' (a + 1) = M1 (a + 1) := fun {σ1 k1 q1 p1 M1 M'} c1 c2 c3 => ⟨tx_T_fr c1 fun c _ h2 => c3.2.2.2.2.2 c (by omega), rx_fd_fr c2 (c3.2.2.2.2.1 6 (by omega)) (c3.2.2.2.2.2 27 (by omega)), c3.2.2.2.2.2 (a + 1) (by omega)⟩
    -- the end of a term with an operation
    have last : ∀ {M1 : wd_M} {kk oo q1 : Nat} {p1 : List Int32}, sm_k (T t) = kk → sm_o (T t) = oo → tx_T M1 T N → rx_Wp M σ k q1 p1 M1 → cp_nq T (n + 1) t = q1 → (cp_wr T (n + 1) t pl (fs.drop k)).1 = p1 ++ [nI (cp_base kk + oo)] → wRun (d + 1, 0, 0) mX3_write 289 [some (.ref 23), some (.int (nI t)), none, none, none, some (.int (nI oo))] [] z M1 L (wQv K) := fun {M1 kk oo q1 p1} e1 e2 c1 c2 e3 e4 => by
      obtain ⟨m4', -⟩ := c1.2.2 t hN
      have hu' : σ.2 + (p1.length + 1) ≤ 524288 := by rw [e4, List.length_append] at hu; exact hu
      have en : ∀ b : Nat, b = cp_base kk → wRun (d + 1, 0, 0) mX3_write 330 [none, none, none, none, none, some (.int (nI oo))] [.int (nI b), .ref 14] z M1 L (wQv K) := fun b eb => by
        refine fX3_write_330 ?_
        rw [nI_add, eb]
        refine rx_putW (k := k + q1) c2.1 c2.2.2.2.1 (by show σ.2 + p1.length < _; omega) fun M2 g => fin ?_
        rw [e3, e4]
        exact rx_Wp_trans (q2 := 0) c2 g
      refine fX3_write_289 ?_
      rw [nI_clamp (by omega), m4', e1]
      refine ⟨hin, fun q => ?_, fun q => ⟨hin, fun q2 => ?_, fun q2 => ?_⟩⟩
      · rw [ak_n2, nI_eq (by omega) (by omega)] at q
        exact en 5 (by rw [q]; rfl)
      · rw [ak_n5, nI_eq (by omega) (by omega)] at q2
        exact en 16 (by rw [q2]; rfl)
      · rw [ak_n2, nI_eq (by omega) (by omega)] at q
        rw [ak_n5, nI_eq (by omega) (by omega)] at q2
        exact en 8 (by unfold cp_base; rw [if_neg q, if_neg q2])
    have two : ∀ {b : Nat} (hb : (T t).2.2.2.1 = some b), (sm_k (T t) = 2 ∨ sm_k (T t) = 5 ∨ sm_k (T t) = 7) → sm_a (T t) < t → (T t).2.2.1 = some (sm_a (T t)) → sm_k (T (sm_a (T t))) ≤ 10 → b < t → sm_k (T b) ≤ 10 → sm_l (T t) = sm_l (T (sm_a (T t))) ||| sm_l (T b) →
        wRun (d + 1, 0, 0) mX3_write 271 [some (.ref 23), some (.int (nI t)), some (.ref a), some (.int (M 6 t)), some (.int (M 7 t)), some (.int (M 5 t))] [] z M L (wQv K) := fun {b} hb hk2 ha1 ha2 ha3 hb1 hb3 hl => by
      refine fX3_write_271 ?_
      rw [m6, m7, m5, ha2, hb]
      have en : cp_nq T (n + 1) t = cp_nq T n (sm_a (T t)) + cp_nq T n b := by rw [cp_nq2 (by omega), hb]; rfl
      have ew := cp_wrB (n := n) (pl := pl) (fs := fs.drop k) hk2 hb
      have er := cp_wr_rest (pl := pl) w n (sm_a (T t)) (by omega) (by omega) ha3 (fs.drop k)
      rw [er, List.drop_drop] at ew
      rw [ew] at hu
      simp only [List.length_append, List.length_singleton] at hu
      refine go _ ha1 ha3 (o1 hl) M σ k _ hT hS hF h7 rfl (by omega) (by omega) fun M1 g1 => ⟨fun q => absurd q (nI_pos (by omega)), fun _ => ?_⟩
      obtain ⟨t1, t2, t3⟩ := tr hT hF g1
      refine go _ hb1 hb3 (o2 hl) M1 (σ.1, σ.2 + _) (k + cp_nq T n (sm_a (T t))) _ t1 g1.1 t2 g1.2.2.2.1 t3 (by omega) (by show σ.2 + _ + _ ≤ _; omega) fun M2 g2 => ?_
      obtain ⟨s1, s2, s3⟩ := tr t1 t2 g2
      exact last rfl rfl s1 (rx_Wp_trans g1 g2) en (by rw [ew])
    have one : (T t).2.2.2.1 = none → (sm_k (T t) = 2 ∨ sm_k (T t) = 5 ∨ sm_k (T t) = 7) → sm_a (T t) < t → (T t).2.2.1 = some (sm_a (T t)) → sm_k (T (sm_a (T t))) ≤ 10 → sm_l (T t) = sm_l (T (sm_a (T t))) →
        wRun (d + 1, 0, 0) mX3_write 271 [some (.ref 23), some (.int (nI t)), some (.ref a), some (.int (M 6 t)), some (.int (M 7 t)), some (.int (M 5 t))] [] z M L (wQv K) := fun hb hk2 ha1 ha2 ha3 hl => by
      refine fX3_write_271 ?_
      rw [m6, m7, m5, ha2, hb]
      have en : cp_nq T (n + 1) t = cp_nq T n (sm_a (T t)) := by rw [cp_nq2 (by omega), hb]; rfl
      have ew := cp_wrN (n := n) (pl := pl) (fs := fs.drop k) hk2 hb
      rw [ew] at hu
      simp only [List.length_append, List.length_singleton] at hu
      refine go _ ha1 ha3 (o3 hl) M σ k _ hT hS hF h7 rfl (by omega) (by omega) fun M1 g1 => ⟨fun _ => ?_, fun q => absurd ak_m1 q⟩
      obtain ⟨t1, t2, t3⟩ := tr hT hF g1
      exact last rfl rfl t1 g1 en (by rw [ew])
    refine fX3_write_e ?_
    rw [nI_clamp (by omega), m4, nI_toInt (show sm_k (T t) < 2 ^ 31 by omega)]
    have fnd : ∀ v : Int32, cp_nq T (n + 1) t = 1 → (cp_wr T (n + 1) t pl (fs.drop k)).1 = [v, nI ((fs.drop k).headD 0)] → ∃ c, fs[k]? = some c ∧ σ.2 + 2 ≤ 524288 ∧ ∀ M', rx_Wp M σ k 1 [v, nI c] M' → wRun (d + 1, 0, 0) mX3_write 336 [none, none, none, none, none, none] [] z M' L (wQv K) := fun v e1 e2 => by
      obtain ⟨c, hc⟩ := sl_idx (show k < fs.length by omega)
      refine ⟨c, hc, by rw [e2] at hu; exact hu, fun M' g => fin ?_⟩
      rw [e1, e2, hdrop c hc]; exact g
    refine ⟨hin, hin, hin, hin, fun q => by omega, fun q => ?_, fun q => ?_, fun q => ?_, fun q => ?_, fun q => ?_, fun q => ?_, fun q => ?_, fun q => ?_, fun q => ?_, fun q => ?_, fun q => ?_, trivial⟩
    · have q : sm_k (T t) = 0 := by omega
      rw [cp_wr0 q] at hu
      have hu : σ.2 + 2 ≤ 524288 := hu
      refine rx_putW hS h7 (by omega) fun M1 g1 => ?_
      rw [(tr hT hF g1).1.2.2 t hN |>.2.2.2.2.1]
      refine ⟨hin, rx_putW g1.1 g1.2.2.2.1 (by show σ.2 + 1 < _; omega) fun M2 g2 => fin ?_⟩
      rw [cp_nq0 (Or.inl q), cp_wr0 q]
      exact rx_Wp_trans (q2 := 0) g1 g2
    · have q : sm_k (T t) = 1 := by omega
      rw [cp_wr1 q] at hu
      have hu : σ.2 + 2 ≤ 524288 := hu
      obtain ⟨-, -, -, j, j1, j2, j3⟩ := sm_wf1 hw q
      refine rx_putW hS h7 (by omega) fun M1 g1 => rx_gO ha (rx_gR ha ?_)
      obtain ⟨t1, t2, t3⟩ := tr hT hF g1
      rw [t1.2.2 t hN |>.2.2.2.2.1, j2, nI_clamp (by omega), t3, hp j j1 (by rw [j3, Nat.testBit_two_pow_self])]
      refine ⟨hin, rx_gI ha ⟨rx_gL ha j1, rx_putW g1.1 g1.2.2.2.1 (by show σ.2 + 1 < _; omega) fun M2 g2 => fin ?_⟩⟩
      rw [cp_nq0 (Or.inr q), cp_wr1 q, j2, nI_clamp (by omega)]
      exact rx_Wp_trans (q2 := 0) g1 g2
    · have q : sm_k (T t) = 2 := by omega
      have p := sm_wf2 hw q
      exact two p.2.1.1 (by omega) p.1.2.1 p.1.1 (srt p.1.2.2 (by omega)) p.2.1.2.1 (srt p.2.1.2.2 (by omega)) p.2.2.2
    · have q : sm_k (T t) = 3 := by omega
      have p := sm_wf3 hw q
      have pb : (T t).2.2.2.1 = none := p.2.1
      have en : cp_nq T (n + 1) t = cp_nq T n (sm_a (T t)) := by rw [cp_nq2 (by omega), pb]; rfl
      rw [m6, p.1.1]
      rw [cp_wr3 q] at hu
      refine go _ p.1.2.1 (srt p.1.2.2 (by omega)) (o3 p.2.2) M σ k _ hT hS hF h7 rfl (by omega) hu fun M1 g1 => fin ?_
      rw [en, cp_wr3 q]; exact g1
    · have q : sm_k (T t) = 4 := by omega
      obtain ⟨c, c1, c2, c3⟩ := fnd 1 (cp_nq1 (by omega)) (by rw [cp_wr4 (by omega)])
      exact fX3_write_168 (rx_two hS h7 hF c1 hf3 c2 c3)
    · have q : sm_k (T t) = 5 := by omega
      have p := sm_wf5 hw q
      exact two p.2.1.1 (by omega) p.1.2.1 p.1.1 (srt p.1.2.2 (by omega)) p.2.1.2.1 (srt p.2.1.2.2 (by omega)) p.2.2.2
    · have q : sm_k (T t) = 6 := by omega
      have p := sm_wf6 hw q
      have pb : (T t).2.2.2.1 = none := p.2.1
      have en : cp_nq T (n + 1) t = cp_nq T n (sm_a (T t)) := by rw [cp_nq2 (by omega), pb]; rfl
      rw [m6, p.1.1]
      rw [cp_wr6 q] at hu
      simp only [List.length_append, List.length_singleton] at hu
      refine go _ p.1.2.1 (srt p.1.2.2 (by omega)) (o3 p.2.2) M σ k _ hT hS hF h7 rfl (by omega) (by omega) fun M1 g1 => ?_
      refine rx_putW g1.1 g1.2.2.2.1 (by show σ.2 + _ < _; omega) fun M2 g2 => fin ?_
      rw [en, cp_wr6 q]
      exact rx_Wp_trans (q2 := 0) g1 g2
    · have q : sm_k (T t) = 7 := by omega
      have p := sm_wf7 hw q
      rcases p.2 with r | r
      · exact two r.2.1.1 (by omega) p.1.2.1 p.1.1 (srt p.1.2.2 (by omega)) r.2.1.2.1 (srt r.2.1.2.2 (by omega)) r.2.2
      · exact one r.2.1 (by omega) p.1.2.1 p.1.1 (srt p.1.2.2 (by omega)) r.2.2
    · have q : sm_k (T t) = 8 := by omega
      obtain ⟨c, c1, c2, c3⟩ := fnd 1 (cp_nq1 (by omega)) (by rw [cp_wr4 (by omega)])
      exact fX3_write_168 (rx_two hS h7 hF c1 hf3 c2 c3)
    · have q : sm_k (T t) = 9 := by omega
      obtain ⟨c, c1, c2, c3⟩ := fnd 2 (cp_nq1 (by omega)) (by rw [cp_wr9 (by omega)])
      refine fX3_write_202 ?_
      rw [nI_clamp (by omega), m4, q]
      exact ⟨hin, fun _ => fX3_write_225 (rx_two hS h7 hF c1 hf3 c2 c3), fun e => absurd rfl e⟩
    · have q : sm_k (T t) = 10 := by omega
      obtain ⟨c, c1, c2, c3⟩ := fnd 3 (cp_nq1 (by omega)) (by rw [cp_wr10 (by omega)])
      refine fX3_write_202 ?_
      rw [nI_clamp (by omega), m4, q]
      exact ⟨hin, fun e => absurd e (by decide), fun _ => fX3_write_225 (rx_two hS h7 hF c1 hf3 c2 c3)⟩
