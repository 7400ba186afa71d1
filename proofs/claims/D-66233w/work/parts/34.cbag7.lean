/-! CONTRACTS of ApplyFree$Rewriter: questions of a term, quantified whole, within -/
section AK
variable {T : Nat → sm_T} {bag : cp_B} {att : cp_A} {t e w : Nat} {pl : Nat → Nat} {σ : cp_S}
theorem cp_att_0 (h : sm_k (T t) = 0 ∨ sm_k (T t) = 1) : cp_att0 T bag att t e w pl σ = ((e, w, []), σ) := by rcases h with h | h <;> (unfold cp_att0; rw [h]; rfl)
theorem cp_att_4 (h : sm_k (T t) = 4) : cp_att0 T bag att t e w pl σ = cp_fld T bag t e w pl σ := by unfold cp_att0; rw [h]; rfl
theorem cp_att_8 (h : sm_k (T t) = 8) : cp_att0 T bag att t e w pl σ = cp_has T bag t e w pl σ := by unfold cp_att0; rw [h]; rfl
theorem cp_att_9 (h : sm_k (T t) = 9 ∨ sm_k (T t) = 10) : cp_att0 T bag att t e w pl σ = cp_qnt T bag att t e w pl σ := by rcases h with h | h <;> (unfold cp_att0; rw [h]; rfl)
theorem cp_att_N (h : sm_k (T t) = 2 ∨ sm_k (T t) = 3 ∨ sm_k (T t) = 5 ∨ sm_k (T t) = 6 ∨ sm_k (T t) = 7) (hb : (T t).2.2.2.1 = none) : cp_att0 T bag att t e w pl σ = att (sm_a (T t)) e w pl σ := by rcases h with h | h | h | h | h <;> (unfold cp_att0; rw [h, hb]; rfl)
theorem cp_att_B {b : Nat} (h : sm_k (T t) = 2 ∨ sm_k (T t) = 3 ∨ sm_k (T t) = 5 ∨ sm_k (T t) = 6 ∨ sm_k (T t) = 7) (hb : (T t).2.2.2.1 = some b) : cp_att0 T bag att t e w pl σ = (((att b (att (sm_a (T t)) e w pl σ).1.1 (att (sm_a (T t)) e w pl σ).1.2.1 pl (att (sm_a (T t)) e w pl σ).2).1.1, (att b (att (sm_a (T t)) e w pl σ).1.1 (att (sm_a (T t)) e w pl σ).1.2.1 pl (att (sm_a (T t)) e w pl σ).2).1.2.1, (att (sm_a (T t)) e w pl σ).1.2.2 ++ (att b (att (sm_a (T t)) e w pl σ).1.1 (att (sm_a (T t)) e w pl σ).1.2.1 pl (att (sm_a (T t)) e w pl σ).2).1.2.2), (att b (att (sm_a (T t)) e w pl σ).1.1 (att (sm_a (T t)) e w pl σ).1.2.1 pl (att (sm_a (T t)) e w pl σ).2).2) := by rcases h with h | h | h | h | h <;> (unfold cp_att0; rw [h, hb]; rfl)
end AK
theorem sm_srt_le {k s : Nat} (e : sm_sort k = s) (hs : s ≤ 1) : k ≤ 10 := by
  unfold sm_sort at e
  split at e
  · omega
  · split at e <;> omega
theorem sm_srt_ge {k : Nat} (e : sm_sort k = 2) : 11 ≤ k := by
  unfold sm_sort at e
  split at e
  · omega
  · split at e <;> omega
/-- a term without rows: a leaf, a question, or made of one or two such -/
theorem sm_cases {T : Nat → sm_T} {tc : Nat → Nat} {nt t : Nat} (hw : sm_wfk T tc nt t) (hk : sm_k (T t) ≤ 10) :
    (sm_k (T t) = 0 ∨ sm_k (T t) = 1) ∨ ((sm_k (T t) = 4 ∨ sm_k (T t) = 8) ∧ sm_pa T t 2 ∧ (T t).2.2.2.1 = none ∧ sm_l (T t) = sm_l (T (sm_a (T t)))) ∨ ((sm_k (T t) = 9 ∨ sm_k (T t) = 10) ∧ sm_pa T t 0 ∧ sm_pb T t 2 ∧ sm_o (T t) ≤ 4 ∧ sm_wB T t = 1 ∧ sm_l (T t) = sm_l (T (sm_a (T t))) ||| sm_l (T (sm_b (T t)))) ∨
    ((sm_k (T t) = 2 ∨ sm_k (T t) = 3 ∨ sm_k (T t) = 5 ∨ sm_k (T t) = 6 ∨ sm_k (T t) = 7) ∧ (T t).2.2.1 = some (sm_a (T t)) ∧ sm_a (T t) < t ∧ sm_k (T (sm_a (T t))) ≤ 10 ∧ (((T t).2.2.2.1 = none ∧ sm_l (T t) = sm_l (T (sm_a (T t)))) ∨ ((T t).2.2.2.1 = some (sm_b (T t)) ∧ sm_b (T t) < t ∧ sm_k (T (sm_b (T t))) ≤ 10 ∧ sm_l (T t) = sm_l (T (sm_a (T t))) ||| sm_l (T (sm_b (T t)))))) := by
  rcases sm_split (Nat.le_trans hk (by omega)) with q | q | q | q | q | q | q | q | q | q | q | q | q | q | q | q | q | q | q | q | q
  · exact Or.inl (Or.inl q)
  · exact Or.inl (Or.inr q)
  · have p := sm_wf2 hw q
    exact Or.inr (Or.inr (Or.inr ⟨by omega, p.1.1, p.1.2.1, sm_srt_le p.1.2.2 (by omega), Or.inr ⟨p.2.1.1, p.2.1.2.1, sm_srt_le p.2.1.2.2 (by omega), p.2.2.2⟩⟩))
  · have p := sm_wf3 hw q
    exact Or.inr (Or.inr (Or.inr ⟨by omega, p.1.1, p.1.2.1, sm_srt_le p.1.2.2 (by omega), Or.inl ⟨p.2.1, p.2.2⟩⟩))
  · have p := sm_wf4 hw q
    exact Or.inr (Or.inl ⟨Or.inl q, p.1, p.2.1, p.2.2.2.2⟩)
  · have p := sm_wf5 hw q
    exact Or.inr (Or.inr (Or.inr ⟨by omega, p.1.1, p.1.2.1, sm_srt_le p.1.2.2 (by omega), Or.inr ⟨p.2.1.1, p.2.1.2.1, sm_srt_le p.2.1.2.2 (by omega), p.2.2.2⟩⟩))
  · have p := sm_wf6 hw q
    exact Or.inr (Or.inr (Or.inr ⟨by omega, p.1.1, p.1.2.1, sm_srt_le p.1.2.2 (by omega), Or.inl ⟨p.2.1, p.2.2⟩⟩))
  · have p := sm_wf7 hw q
    refine Or.inr (Or.inr (Or.inr ⟨by omega, p.1.1, p.1.2.1, sm_srt_le p.1.2.2 (by omega), ?_⟩))
    rcases p.2 with r | r
    · exact Or.inr ⟨r.2.1.1, r.2.1.2.1, sm_srt_le r.2.1.2.2 (by omega), r.2.2⟩
    · exact Or.inl ⟨r.2.1, r.2.2⟩
  · have p := sm_wf8 hw q
    exact Or.inr (Or.inl ⟨Or.inr q, p.1, p.2.1, p.2.2⟩)
  · have p := sm_wf9 hw q
    exact Or.inr (Or.inr (Or.inl ⟨Or.inl q, p.1, p.2.1, p.2.2.1, p.2.2.2.1, p.2.2.2.2⟩))
  · have p := sm_wf10 hw q
    exact Or.inr (Or.inr (Or.inl ⟨Or.inr q, p.1, p.2.1, p.2.2.1, p.2.2.2.1, p.2.2.2.2⟩))
  iterate 10 omega
theorem cp_nq_fuel {T : Nat → sm_T} {tc : Nat → Nat} {nt N : Nat} (w : sm_wf T tc nt N) : ∀ n m t, t < n → t < m → t < N → sm_k (T t) ≤ 10 → cp_nq T n t = cp_nq T m t
  | 0, _, _, h, _, _, _ => by omega
  | _ + 1, 0, _, _, h, _, _ => by omega
  | n + 1, m + 1, t, h1, h2, hN, hk => by
    rcases sm_cases (w t hN).1 hk with q | ⟨q, -⟩ | ⟨q, -⟩ | ⟨q, qa, qa2, qa3, q2⟩
    · rw [cp_nq0 q, cp_nq0 q]
    · rw [cp_nq1 (by omega), cp_nq1 (by omega)]
    · rw [cp_nq1 (by omega), cp_nq1 (by omega)]
    · rw [cp_nq2 q, cp_nq2 q, cp_nq_fuel w n m _ (by omega) (by omega) (by omega) qa3]
      rcases q2 with ⟨e, -⟩ | ⟨e, eb, eb2, -⟩
      · rw [e]; rfl
      · rw [e]
        show _ + cp_nq T n (sm_b (T t)) = _ + cp_nq T m (sm_b (T t))
        rw [cp_nq_fuel w n m _ (by omega) (by omega) (by omega) eb2]
/-- widths and found columns -/
theorem cp_att_w {T : Nat → sm_T} {tc : Nat → Nat} {nt N : Nat} {tr : Nat → Nat} (wf : sm_wf T tc nt N) : ∀ n t, t < n → t < N → sm_k (T t) ≤ 10 → sm_zc T tr t ≤ 3000 → ∀ e w pl σ, w ≤ ((cp T n).2 t e w pl σ).1.2.1 ∧ ((cp T n).2 t e w pl σ).1.2.1 ≤ w + 3 * sm_zc T tr t ∧ ((cp T n).2 t e w pl σ).1.2.2.length = cp_nq T n t ∧ cp_nq T n t ≤ sm_zc T tr t
  | 0, _, h, _, _, _ => by omega
  | n + 1, t, h, hN, hk, hz => by
    intro e w pl σ
    have ih := cp_att_w (tr := tr) wf n
    show w ≤ (cp_att0 T (cp T n).1 (cp T n).2 t e w pl σ).1.2.1 ∧ (cp_att0 T (cp T n).1 (cp T n).2 t e w pl σ).1.2.1 ≤ _ ∧ (cp_att0 T (cp T n).1 (cp T n).2 t e w pl σ).1.2.2.length = _ ∧ _
    have hp := sm_zc_pos (tr := tr) wf hN
    rcases sm_cases (wf t hN).1 hk with q | ⟨q, qa, qn, -⟩ | ⟨q, qa, qb, -⟩ | ⟨q, qa, qa2, qa3, q2⟩
    · rw [cp_att_0 q, cp_nq0 q]
      exact ⟨Nat.le_refl _, by dsimp only; omega, rfl, by omega⟩
    · rw [cp_nq1 (by omega)]
      rcases q with q | q
      · rw [cp_att_4 q]
        unfold cp_fld
        exact ⟨by dsimp only; omega, by dsimp only; omega, rfl, hp⟩
      · rw [cp_att_8 q]
        unfold cp_has
        exact ⟨by dsimp only; omega, by dsimp only; omega, rfl, hp⟩
    · rw [cp_nq1 (by omega), cp_att_9 q]
      have z1 := sm_zc2 wf hN hz qb.1 (by omega) (by omega) (by rcases q with q | q <;> (rw [q]; rfl)) (by omega)
      have i1 := ih (sm_a (T t)) (by have := qa.2.1; omega) (by have := qa.2.1; omega) (sm_srt_le qa.2.2 (by omega)) (by omega) e w pl σ
      unfold cp_qnt
      exact ⟨by dsimp only; omega, by dsimp only; omega, rfl, hp⟩
    · rw [cp_nq2 q]
      rcases q2 with ⟨e1, -⟩ | ⟨e1, eb, eb2, -⟩
      · rw [cp_att_N q e1, e1]
        have z1 := sm_zc1 wf hN hz e1 (by omega) (by omega) (by rcases q with q | q | q | q | q <;> (rw [q]; rfl)) (by omega)
        have i1 := ih (sm_a (T t)) (by omega) (by omega) qa3 (by omega) e w pl σ
        exact ⟨i1.1, by omega, i1.2.2.1, by show cp_nq T n _ + 0 ≤ _; omega⟩
      · rw [cp_att_B q e1, e1]
        have z1 := sm_zc2 wf hN hz e1 (by omega) (by omega) (by rcases q with q | q | q | q | q <;> (rw [q]; rfl)) (by omega)
        have i1 := ih (sm_a (T t)) (by omega) (by omega) qa3 (by omega) e w pl σ
        have i2 := ih (sm_b (T t)) (by omega) (by omega) eb2 (by omega) ((cp T n).2 (sm_a (T t)) e w pl σ).1.1 ((cp T n).2 (sm_a (T t)) e w pl σ).1.2.1 pl ((cp T n).2 (sm_a (T t)) e w pl σ).2
        refine ⟨by dsimp only; omega, by dsimp only; omega, ?_, by show cp_nq T n _ + cp_nq T n _ ≤ _; omega⟩
        dsimp only
        rw [List.length_append, i1.2.2.1, i2.2.2.1]; rfl
section RZ
variable {d : Nat} {z : wd_Z} {L : wd_L} {T : Nat → sm_T} {N : Nat} {tr : Nat → Nat} {M : wd_M} {σ : cp_S} {o : Nat} {fs : List Nat} {tc : Nat → Nat} {nt : Nat}
/-- questions, then the program -/
theorem rx_aw {n t a e w : Nat} {pl : Nat → Nat} {K : wd_M → wd_Z → wd_M → wd_L → Prop} (wf : sm_wf T tc nt N) (HA : rx_AttC T N tr z L n) (ht : t < n) (htN : t < N) (hk : sm_k (T t) ≤ 10) (hd : 8 * t + 8 ≤ d) (hP : rx_Pre T N M σ o fs) (hE : rx_EA M a (sm_l (T t)) e w pl o) (ho : o + 2 * t + 1 ≤ 300) (hz : fs.length + sm_zc T tr t ≤ 3000) (hw : w + 3 * sm_zc T tr t ≤ 100000)
    (g : (Nat × Nat × List Nat) × cp_S) (hg : (cp T n).2 t e w pl σ = g) (p : List Int32) (hp : (cp_wr T (t + 1) t pl g.1.2.2).1 = p) (hc : g.2.1.length ≤ 32768) (hu : g.2.2 + p.length ≤ 524288)
    (hK : ∀ M1 M2, M1 14 9 = nI g.2.2 → rx_R (am_up2 M2 23 6 (nI fs.length)) (g.2.1, g.2.2 + p.length) o fs → sl_at (M2 22) g.2.2 p → M2 a 0 = nI g.1.1 → M2 a 1 = nI g.1.2.1 → rx_pl σ.2 M M2 → rx_F o a M M2 → K M1 z M2 L) :
    wRunV (d, 0, 0) mX3_attach [.ref 23, .int (nI t), .ref a] z M L (fun z1 M1 L1 => wRunV (d, 0, 0) mX3_write [.ref 23, .int (nI t), .ref a] z1 (am_up2 M1 23 7 (nI fs.length)) L1 (fun z2 M2 L2 => K M1 z2 M2 L2)) := by
  obtain ⟨hsc, hopA, ha28⟩ := rx_EA_sc hE (by omega)
  have hzc : sm_zc T tr t ≤ 3000 := by omega
  have W := cp_att_w (tr := tr) wf n t ht htN hk hzc e w pl σ
  rw [hg] at W
  have hnq : cp_nq T n t = cp_nq T (t + 1) t := cp_nq_fuel wf n (t + 1) t ht (by omega) htN hk
  refine HA t ht htN hk d M σ o fs a e w pl _ hd hP hE ho hz hw (by rw [hg]; exact hc) (by rw [hg]; omega) fun M1 Q1 => ?_
  rw [hg] at Q1
  have hP1 := rx_Pa_Pre hP Q1 ha28
  have hE1 := rx_Pa_EA hE Q1
  obtain ⟨q1, q2, q3, q4, q5⟩ := Q1
  have mle : cp_le σ g.2 := by rw [← hg]; exact (cp_mono T n).2 t e w pl σ
  have lle := cp_le_len mle
  have hdr : (fs ++ g.1.2.2).drop fs.length = g.1.2.2 := by simp
  refine rx_write wf hsc (fs := fs ++ g.1.2.2) (pl := pl) (by rw [List.length_append]; omega) (t + 1) t (by omega) htN hk d _ g.2 fs.length _ (by omega) (tx_T_fr hP1.1 fun c _ h => ak_up_cell (by omega)) (rx_S_fr q1.1 fun c h1 h2 => ak_up_cell (by omega)) (rx_fd_fr q1.2.2 (ak_up_ne (by omega)) (ak_up_cell (by omega))) ak_up_same (by rw [List.length_append]; omega) (fun j j1 j2 => by rw [ak_up_cell (by omega)]; exact hE1.2.2.2 j j1 j2) (by rw [hdr, hp]; exact hu) fun M2 W2 => ?_
  rw [hdr, hp] at W2
  obtain ⟨w1, w2, w3, w4, w5, w6⟩ := W2
  refine hK M1 M2 q1.1.2.1 ⟨rx_S_fr w1 fun c h1 h2 => ak_up_cell (by omega), ?_, ak_up_same, fun i c hi => ?_⟩ w2 ?_ ?_ (fun i hi => ?_) (fun c h1 h2 => ?_)
  · rw [ak_up_ne (by omega), w5 4 (by omega), ak_up_ne (by omega)]; exact q1.2.1
  · rw [ak_up_cell (by omega), w6 27 (by omega), ak_up_cell (by omega)]
    exact q1.2.2.2 i c (by rw [List.getElem?_append_left (List.getElem?_eq_some_iff.mp hi).1]; exact hi)
  · rw [w6 a (by omega), ak_up_cell (by omega)]; exact q2
  · rw [w6 a (by omega), ak_up_cell (by omega)]; exact q3
  · rw [w3 i (by omega), ak_up_cell (by omega), q4 i hi]
  · rw [w6 c (by omega), ak_up_cell (by omega), q5 c h1 h2]
theorem rx_quant {n t a e w : Nat} {pl : Nat → Nat} {K : wd_Z → wd_M → wd_L → Prop} (wf : sm_wf T tc nt N) (HB : rx_BagC T N tr z L n) (HA : rx_AttC T N tr z L n) (ht : t < N) (hk : sm_k (T t) = 9 ∨ sm_k (T t) = 10) (hop : sm_o (T t) ≤ 4) (han : sm_a (T t) < n) (haN : sm_a (T t) < N) (hak : sm_k (T (sm_a (T t))) ≤ 10) (hbn : sm_b (T t) < n) (hbN : sm_b (T t) < N) (hbk : 11 ≤ sm_k (T (sm_b (T t))))
    (hd : 8 * sm_a (T t) + 9 ≤ d ∧ 8 * sm_b (T t) + 9 ≤ d) (hP : rx_Pre T N M σ o fs) (hE : rx_EA M a (sm_l (T (sm_a (T t))) ||| sm_l (T (sm_b (T t)))) e w pl o) (ho : o + 2 * sm_a (T t) + 1 ≤ 300 ∧ o + 2 * sm_b (T t) + 3 ≤ 300)
    (hz : fs.length + sm_zc T tr (sm_a (T t)) ≤ 3000 ∧ fs.length + sm_zc T tr (sm_b (T t)) ≤ 3000) (hf : fs.length < 3000) (hl : sm_l (T (sm_b (T t))) < 2 ^ 32) (hw : w + 3 * sm_zc T tr (sm_a (T t)) + 3 ≤ 100000)
    (hc : (cp_qnt T (cp T n).1 (cp T n).2 t e w pl σ).2.1.length ≤ 32768) (hu : (cp_qnt T (cp T n).1 (cp T n).2 t e w pl σ).2.2 ≤ 524288)
    (hK : ∀ M', rx_Pa M σ o fs a (cp_qnt T (cp T n).1 (cp T n).2 t e w pl σ) M' → K z M' L) : wRunV (d, 0, 0) mX3_quantified [.ref 23, .int (nI t), .int (nI (sm_a (T t))), .int (nI (sm_b (T t))), .ref a] z M L K := by
  obtain ⟨d, rfl, hd'⟩ := ak_deep (k := 8 * sm_a (T t) + 8) hd.1
  have hN := hP.1.2.1
  obtain ⟨hsc, hopA, ha28⟩ := rx_EA_sc hE (by omega)
  have W := cp_att_w (tr := tr) wf n (sm_a (T t)) han haN hak (by omega) e w pl σ
  unfold cp_qnt at hc hu hK
  dsimp only at hc hu hK
  generalize hg : (cp T n).2 (sm_a (T t)) e w pl σ = g at hc hu hK W
  generalize hp : (cp_wr T (sm_a (T t) + 1) (sm_a (T t)) pl g.1.2.2).1 = p at hc hu hK
  generalize hl0 : sm_l (T (sm_b (T t))) = l at hc hu hK hE hl
  generalize hs2 : ((g.2.1 ++ [cp_ext g.1.1 p], g.2.2 + p.length) : cp_S) = σ2 at hc hu hK
  generalize hr : (cp T n).1 (sm_b (T t)) (cp_chX l σ2) (cp_ch l g.2.1.length pl σ2) = r at hc hu hK
  have mA : cp_le σ g.2 := by rw [← hg]; exact (cp_mono T n).2 _ _ _ _ _
  have mB : cp_le (cp_ch l g.2.1.length pl σ2) r.2 := by rw [← hr]; exact (cp_mono T n).1 _ _ _
  have lA := cp_le_len mA
  have lB := cp_le_len mB
  have lC := cp_le_len (cp_le_ch (l := l) (e := g.2.1.length) (pl := pl) (σ := σ2))
  have l2 : σ2.1.length = g.2.1.length + 1 ∧ σ2.2 = g.2.2 + p.length := by rw [← hs2]; exact ⟨by simp, rfl⟩
  have lch : (cp_ch l g.2.1.length pl σ2).2 = σ2.2 + (cp_bits l).length := rfl
  simp only [List.length_append, List.length_cons, List.length_nil, cp_mark] at hc
  refine fX3_quantified_e ?_
  rw [hP.2.1.2.2.1]
  refine rx_aw wf HA han haN hak hd' hP (rx_EA_sub hE fun k h => by rw [Nat.testBit_or, h, Bool.true_or]) ho.1 hz.1 (by omega) g hg p hp (by omega) (by omega) fun M1 M2 b0 b1 b2 b3 b4 b5 b6 => ?_
  rw [b0]
  refine fX3_quantified_41 (rx_gO hsc ?_)
  rw [ak_up_cell (c' := a) (by omega), b3]
  refine rx_ext (p := g.2.2) (ls := p) (by omega) b1.1 (by dsimp only; omega) rfl (by rw [ak_up_cell (by omega)]; exact b2) fun M3 c1 c2 c3 => rx_gP0 hsc (rx_gO hsc (rx_gP1 hsc ?_))
  have ea3 : M3 a 1 = nI g.1.2.1 := by rw [c3 a (by omega), ak_up_cell (by omega)]; exact b4
  rw [ak_up_ne (M := M3) (c := a) (i := 0) (j := 1) (by omega), ea3, nI_1]
  have R3 : rx_R M3 σ2 o fs := by rw [← hs2]; exact rx_R_st b1 c1 c3
  generalize hM4 : am_up2 (am_up2 M3 a 0 (nI g.2.1.length)) a 1 (nI (g.1.2.1 + 1)) = M4
  have F4 : ∀ c, c ≠ a → M4 c = M3 c := fun c h => by rw [← hM4, ak_up_cell h, ak_up_cell h]
  have a40 : M4 a 0 = nI g.2.1.length := by rw [← hM4, ak_up_ne (by omega), ak_up_same]
  have a41 : M4 a 1 = nI (g.1.2.1 + 1) := by rw [← hM4, ak_up_same]
  have R4 : rx_R M4 σ2 o fs := ⟨rx_S_fr R3.1 fun c h1 h2 => F4 c (by omega), by rw [F4 23 (by omega)]; exact R3.2.1, rx_fd_fr R3.2.2 (by rw [F4 23 (by omega)]) (F4 27 (by omega))⟩
  have G4 : rx_F o a M M4 := fun c h1 h2 => by rw [F4 c h2, c3 c (by omega), ak_up_cell (by omega), b6 c h1 h2]
  have P4 : rx_pl σ.2 M M4 := fun i hi => by rw [F4 22 (by omega), c2 i (by dsimp only; omega), ak_up_cell (by omega), b5 i hi]
  have hP4 := rx_Pre_open hP R4 G4 (Or.inl (by omega))
  have pl4 : ∀ k, k < 32 → l.testBit k = true → M4 (a + 1) k = nI (pl k) := fun k k1 k2 => by
    obtain ⟨⟨j, j1, j2⟩, -, -, hE4⟩ := hE
    rw [G4 (a + 1) (by omega) (by omega)]
    exact hE4 k k1 (by rw [Nat.testBit_or, k2, Bool.or_true])
  refine fX3_quantified_74 ?_
  refine rx_choices (T := T) (N := N) (t := sm_b (T t)) (e := g.2.1.length) (pl := pl) (by omega) hP4.1 hbN (by rw [hl0]; exact hl) hopA (by omega) R4 a40 (by rw [hl0]; exact pl4) (by rw [hl0]; omega) (by rw [hl0]; omega) fun M5 R5 d0 d1 d2 d3 d4 d5 F5 => ?_
  rw [hl0] at R5 d1 d3 d4
  have sy : rx_sc (28 + 2 * o) := Or.inr ⟨o, by omega, rfl⟩
  have hP5 := rx_Pre_open hP4 R5 F5 (Or.inr rfl)
  refine rx_gO sy (HB _ hbn hbN hbk d M5 _ (o + 1) fs _ (cp_chX l σ2) _ (by omega) hP5 (by rw [hl0]; exact rx_XA_ch d0 d1 d4) (by omega) hz.2 (by rw [hr]; omega) (by rw [hr]; omega) fun M6 P6 => ?_)
  rw [hr] at P6 ⊢
  rw [d1, P6.1.1.2.1]
  have hP6 := rx_Pre_of hP5 P6
  obtain ⟨⟨j, j1, j2⟩, -⟩ := hE
  have ea6 : M6 a = M4 a := by rw [P6.2.2 a (by omega) (by omega), F5 a (by omega) (by omega)]
  have ey6 : M6 (28 + 2 * o) = M5 (28 + 2 * o) := P6.2.2 _ (by omega) (by omega)
  rw [ak_n0]
  refine rx_quant_111 (o := o) (e2 := g.2.1.length) (own := g.1.2.1) (l := l) (p := σ2.2) (pl := pl) (S0 := r.2.1) ht hk hop ⟨j, j1, j2⟩ rfl (by omega) hf (by omega) (by omega) (cp_bits l).length 0 M6 (by omega) hP6 (by rw [ea6]; exact a40) (by rw [ea6]; exact a41) (by rw [ey6]; exact d2) (by omega) (rx_pl_sl P6.2.1 d3 (by rw [cp_cl_len]; exact Nat.le_refl _)) (by simpa using sl_nil) (by omega) (by omega) fun M7 i1 i2 i3 i4 i5 => hK M7 ⟨i1, i2, i3, fun q hq => ?_, ?_⟩
  · rw [i4 q (by omega), P6.2.1 q (by omega), d5 q (by omega), P4 q hq]
  · exact rx_F_trans G4 (rx_F_trans (rx_F_ex F5) (rx_F_trans (rx_F_ex (rx_F_mono P6.2.2 (by omega))) i5))
end RZ
